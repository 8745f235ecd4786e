set_option maxRecDepth 100000
abbrev mX6_qTest : xM := (cX6_qTest, 3, RX6, 8, 480, none, "qTest")
def Jt_qTest_106 (s0 : Int32) (τ : TS) : Option ((Int32 × TS) ⊕ ((TS))) :=
  some (.inl (s0, τ))
theorem ok_Jt_qTest_106 {D : TD} {m : Nat} {K : xK} {Z : Option Value × TS} {s0 : Int32} {τ : TS} {o_ : ((Int32 × TS) ⊕ ((TS)))} (hf : Jt_qTest_106 s0 τ = some o_) (kc : ∀ s_ : Int32 × TS, o_ = .inl s_ → xV (wT D m) K mX6_qTest (xQ (wT D m) K Z) s_.2 2 [(0, .ref m), (1, .int s_.1)] []) (ke0 : ∀ e_ : TS, o_ = .inr e_ → xV (wT D m) K mX6_qTest (xQ (wT D m) K Z) e_ 110 [(0, .ref m)] []) : xV (wT D m) K mX6_qTest (xQ (wT D m) K Z) τ 106 [(0, .ref m)] [.int s0] := by
  unfold Jt_qTest_106 at hf
  refine xr_istore_n (pc := 106) (loc' := [(1, .int s0), (0, .ref m)]) dX6_qTest_106 rfl (by decide) rfl ?_
  refine xr_goto (pc := 107) 2 dX6_qTest_107 (by decide) ?_
  refine xV_sub [1, 0] rfl ?_
  exact kc _ (Option.some.inj hf).symm
def Jt_qTest_105 (τ : TS) : Option ((Int32 × TS) ⊕ ((TS))) :=
  Jt_qTest_106 0 τ
theorem ok_Jt_qTest_105 {D : TD} {m : Nat} {K : xK} {Z : Option Value × TS} {τ : TS} {o_ : ((Int32 × TS) ⊕ ((TS)))} (hf : Jt_qTest_105 τ = some o_) (kc : ∀ s_ : Int32 × TS, o_ = .inl s_ → xV (wT D m) K mX6_qTest (xQ (wT D m) K Z) s_.2 2 [(0, .ref m), (1, .int s_.1)] []) (ke0 : ∀ e_ : TS, o_ = .inr e_ → xV (wT D m) K mX6_qTest (xQ (wT D m) K Z) e_ 110 [(0, .ref m)] []) : xV (wT D m) K mX6_qTest (xQ (wT D m) K Z) τ 105 [(0, .ref m)] [] := by
  unfold Jt_qTest_105 at hf
  refine xr_iconst (pc := 105) dX6_qTest_105 xci_0 ?_
  exact ok_Jt_qTest_106 hf kc ke0
def Bt_qTest_2 (x1 : Int32) (τ : TS) : Option ((Int32 × TS) ⊕ ((TS))) :=
  if x1 = 0 then
  some (.inr τ)
  else
  if (tI τ 5) = 0 then
  xbd (f_t_look τ) fun r1 τ1 =>
  if r1 = 91 then
  (f_t_qOpens 25 (tI τ1 2) τ1).bind fun τ2 =>
  some (.inl (x1, sI τ2 2 ((tI τ2 2) + 1)))
  else
  xbd (f_t_isHere 94 τ1) fun r3 τ3 =>
  if r3 = 0 then
  (f_t_qFact τ3).bind fun τ4 =>
  (f_t_qDropsNots τ4).bind fun τ5 =>
  if (tI τ5 5) = 0 then
  xbd (f_t_qGoesOnTest τ5) fun r6 τ6 =>
  if r6 = 0 then
  Jt_qTest_105 τ6
  else
  Jt_qTest_106 1 τ6
  else
  Jt_qTest_105 τ5
  else
  (f_t_qOpens 12 (tI τ3 2) τ3).bind fun τ7 =>
  (f_t_asks 94 τ7).bind fun τ8 =>
  some (.inl (x1, τ8))
  else
  some (.inr τ)
theorem ok_Bt_qTest_2 {D : TD} {m : Nat} {K : xK} {Z : Option Value × TS} {x1 : Int32} {τ : TS} {o_ : ((Int32 × TS) ⊕ ((TS)))} (hf : Bt_qTest_2 x1 τ = some o_) (kc : ∀ s_ : Int32 × TS, o_ = .inl s_ → xV (wT D m) K mX6_qTest (xQ (wT D m) K Z) s_.2 2 [(0, .ref m), (1, .int s_.1)] []) (ke0 : ∀ e_ : TS, o_ = .inr e_ → xV (wT D m) K mX6_qTest (xQ (wT D m) K Z) e_ 110 [(0, .ref m)] []) : xV (wT D m) K mX6_qTest (xQ (wT D m) K Z) τ 2 [(0, .ref m), (1, .int x1)] [] := by
  unfold Bt_qTest_2 at hf
  refine xr_iload_n (pc := 2) 1 dX6_qTest_2 rfl rfl ?_
  refine xr_if_eq (pc := 3) 110 dX6_qTest_3 (by decide) (fun c_ => ?_) (fun c_ => ?_)
  · have hf := xo_pos c_ hf
    refine xV_sub [0] rfl ?_
    exact ke0 _ (Option.some.inj hf).symm
  · have hf := xo_neg c_ hf
    refine xr_aload_n (pc := 6) 0 dX6_qTest_6 rfl rfl ?_
    refine xt_getI (pc := 7) 5 (by decide) q1751 rfl rfl rfl dX6_qTest_7 ?_
    refine xr_if_ne (pc := 10) 110 dX6_qTest_10 (by decide) (fun c_ => ?_) (fun c_ => ?_)
    · have hf := xo_pos c_ hf
      refine xr_aload_n (pc := 13) 0 dX6_qTest_13 rfl rfl ?_
      obtain ⟨r1, τ1, hτ1, hf⟩ := xo_bd hf
      refine call_f_t_look (pc := 14) hτ1 rfl (Nat.le_of_ble_eq_true rfl) (Nat.le_of_ble_eq_true rfl) (Nat.le_of_ble_eq_true rfl) dX6_qTest_14 ?_
      refine xr_istore_n (pc := 17) (loc' := [(2, .int r1), (0, .ref m), (1, .int x1)]) dX6_qTest_17 rfl (by decide) rfl ?_
      refine xr_iload_n (pc := 18) 0 dX6_qTest_18 rfl rfl ?_
      refine xr_bipush (pc := 19) dX6_qTest_19 xcb_91 ?_
      refine xr_icmp_ne (pc := 21) 47 dX6_qTest_21 (by decide) (fun c_ => ?_) (fun c_ => ?_)
      · have hf := xo_pos c_ hf
        refine xr_aload_n (pc := 24) 1 dX6_qTest_24 rfl rfl ?_
        refine xr_bipush (pc := 25) dX6_qTest_25 xcb_25 ?_
        refine xr_aload_n (pc := 27) 1 dX6_qTest_27 rfl rfl ?_
        refine xt_getI (pc := 28) 2 (by decide) q1748 rfl rfl rfl dX6_qTest_28 ?_
        obtain ⟨τ2, hτ2, hf⟩ := xo_bind hf
        refine call_f_t_qOpens (pc := 31) hτ2 rfl (Nat.le_of_ble_eq_true rfl) (Nat.le_of_ble_eq_true rfl) (Nat.le_of_ble_eq_true rfl) dX6_qTest_31 ?_
        refine xr_aload_n (pc := 34) 1 dX6_qTest_34 rfl rfl ?_
        refine xr_dup (pc := 35) dX6_qTest_35 rfl ?_
        refine xt_getI (pc := 36) 2 (by decide) q1748 rfl rfl rfl dX6_qTest_36 ?_
        refine xr_iconst (pc := 39) dX6_qTest_39 xci_1 ?_
        refine xr_iadd (pc := 40) dX6_qTest_40 ?_
        refine xt_putI (pc := 41) 2 (by decide) q1748 rfl rfl rfl (by decide +kernel) rfl dX6_qTest_41 ?_
        refine xr_goto (pc := 44) 2 dX6_qTest_44 (by decide) ?_
        refine xV_sub [1, 2] rfl ?_
        exact kc _ (Option.some.inj hf).symm
      · have hf := xo_neg c_ hf
        refine xr_aload_n (pc := 47) 1 dX6_qTest_47 rfl rfl ?_
        refine xr_aload_n (pc := 48) 1 dX6_qTest_48 rfl rfl ?_
        refine xt_getA (pc := 49) 94 (by decide) q1840 rfl rfl rfl dX6_qTest_49 ?_
        obtain ⟨r3, τ3, hτ3, hf⟩ := xo_bd hf
        refine call_f_t_isHere (pc := 52) hτ3 rfl (Nat.le_of_ble_eq_true rfl) (Nat.le_of_ble_eq_true rfl) (Nat.le_of_ble_eq_true rfl) dX6_qTest_52 ?_
        refine xr_if_eq (pc := 55) 79 dX6_qTest_55 (by decide) (fun c_ => ?_) (fun c_ => ?_)
        · have hf := xo_pos c_ hf
          refine xr_aload_n (pc := 79) 1 dX6_qTest_79 rfl rfl ?_
          obtain ⟨τ4, hτ4, hf⟩ := xo_bind hf
          refine call_f_t_qFact (pc := 80) hτ4 rfl (Nat.le_of_ble_eq_true rfl) (Nat.le_of_ble_eq_true rfl) (Nat.le_of_ble_eq_true rfl) dX6_qTest_80 ?_
          refine xr_aload_n (pc := 83) 1 dX6_qTest_83 rfl rfl ?_
          obtain ⟨τ5, hτ5, hf⟩ := xo_bind hf
          refine call_f_t_qDropsNots (pc := 84) hτ5 rfl (Nat.le_of_ble_eq_true rfl) (Nat.le_of_ble_eq_true rfl) (Nat.le_of_ble_eq_true rfl) dX6_qTest_84 ?_
          refine xr_aload_n (pc := 87) 1 dX6_qTest_87 rfl rfl ?_
          refine xt_getI (pc := 88) 5 (by decide) q1751 rfl rfl rfl dX6_qTest_88 ?_
          refine xr_if_ne (pc := 91) 105 dX6_qTest_91 (by decide) (fun c_ => ?_) (fun c_ => ?_)
          · have hf := xo_pos c_ hf
            refine xr_aload_n (pc := 94) 1 dX6_qTest_94 rfl rfl ?_
            obtain ⟨r6, τ6, hτ6, hf⟩ := xo_bd hf
            refine call_f_t_qGoesOnTest (pc := 95) hτ6 rfl (Nat.le_of_ble_eq_true rfl) (Nat.le_of_ble_eq_true rfl) (Nat.le_of_ble_eq_true rfl) dX6_qTest_95 ?_
            refine xr_if_eq (pc := 98) 105 dX6_qTest_98 (by decide) (fun c_ => ?_) (fun c_ => ?_)
            · have hf := xo_pos c_ hf
              refine xV_sub [1] rfl ?_
              exact ok_Jt_qTest_105 hf kc ke0
            · have hf := xo_neg c_ hf
              refine xr_iconst (pc := 101) dX6_qTest_101 xci_1 ?_
              refine xr_goto (pc := 102) 106 dX6_qTest_102 (by decide) ?_
              refine xV_sub [1] rfl ?_
              exact ok_Jt_qTest_106 hf kc ke0
          · have hf := xo_neg c_ hf
            refine xV_sub [1] rfl ?_
            exact ok_Jt_qTest_105 hf kc ke0
        · have hf := xo_neg c_ hf
          refine xr_aload_n (pc := 58) 1 dX6_qTest_58 rfl rfl ?_
          refine xr_bipush (pc := 59) dX6_qTest_59 xcb_12 ?_
          refine xr_aload_n (pc := 61) 1 dX6_qTest_61 rfl rfl ?_
          refine xt_getI (pc := 62) 2 (by decide) q1748 rfl rfl rfl dX6_qTest_62 ?_
          obtain ⟨τ7, hτ7, hf⟩ := xo_bind hf
          refine call_f_t_qOpens (pc := 65) hτ7 rfl (Nat.le_of_ble_eq_true rfl) (Nat.le_of_ble_eq_true rfl) (Nat.le_of_ble_eq_true rfl) dX6_qTest_65 ?_
          refine xr_aload_n (pc := 68) 1 dX6_qTest_68 rfl rfl ?_
          refine xr_aload_n (pc := 69) 1 dX6_qTest_69 rfl rfl ?_
          refine xt_getA (pc := 70) 94 (by decide) q1840 rfl rfl rfl dX6_qTest_70 ?_
          obtain ⟨τ8, hτ8, hf⟩ := xo_bind hf
          refine call_f_t_asks (pc := 73) hτ8 rfl (Nat.le_of_ble_eq_true rfl) (Nat.le_of_ble_eq_true rfl) (Nat.le_of_ble_eq_true rfl) dX6_qTest_73 ?_
          refine xr_goto (pc := 76) 2 dX6_qTest_76 (by decide) ?_
          refine xV_sub [1, 2] rfl ?_
          exact kc _ (Option.some.inj hf).symm
    · have hf := xo_neg c_ hf
      refine xV_sub [0] rfl ?_
      exact ke0 _ (Option.some.inj hf).symm
def Bt_qTest_110 (τ : TS) : Option ((TS) ⊕ ((TS))) :=
  if (tI τ 5) = 0 then
  if (tI τ 123) ≤ 0 then
  some (.inr τ)
  else
  (f_t_qDrops τ).bind fun τ10 =>
  some (.inl τ10)
  else
  some (.inr τ)
theorem ok_Bt_qTest_110 {D : TD} {m : Nat} {K : xK} {Z : Option Value × TS} {τ : TS} {o_ : ((TS) ⊕ ((TS)))} (hf : Bt_qTest_110 τ = some o_) (kc : ∀ s_ : TS, o_ = .inl s_ → xV (wT D m) K mX6_qTest (xQ (wT D m) K Z) s_ 110 [(0, .ref m)] []) (ke0 : ∀ e_ : TS, o_ = .inr e_ → xV (wT D m) K mX6_qTest (xQ (wT D m) K Z) e_ 131 [] []) : xV (wT D m) K mX6_qTest (xQ (wT D m) K Z) τ 110 [(0, .ref m)] [] := by
  unfold Bt_qTest_110 at hf
  refine xr_aload_n (pc := 110) 0 dX6_qTest_110 rfl rfl ?_
  refine xt_getI (pc := 111) 5 (by decide) q1751 rfl rfl rfl dX6_qTest_111 ?_
  refine xr_if_ne (pc := 114) 131 dX6_qTest_114 (by decide) (fun c_ => ?_) (fun c_ => ?_)
  · have hf := xo_pos c_ hf
    refine xr_aload_n (pc := 117) 0 dX6_qTest_117 rfl rfl ?_
    refine xt_getI (pc := 118) 123 (by decide) q1869 rfl rfl rfl dX6_qTest_118 ?_
    refine xr_if_le (pc := 121) 131 dX6_qTest_121 (by decide) (fun c_ => ?_) (fun c_ => ?_)
    · have hf := xo_pos c_ hf
      refine xV_sub [] rfl ?_
      exact ke0 _ (Option.some.inj hf).symm
    · have hf := xo_neg c_ hf
      refine xr_aload_n (pc := 124) 0 dX6_qTest_124 rfl rfl ?_
      obtain ⟨τ10, hτ10, hf⟩ := xo_bind hf
      refine call_f_t_qDrops (pc := 125) hτ10 rfl (Nat.le_of_ble_eq_true rfl) (Nat.le_of_ble_eq_true rfl) (Nat.le_of_ble_eq_true rfl) dX6_qTest_125 ?_
      refine xr_goto (pc := 128) 110 dX6_qTest_128 (by decide) ?_
      exact kc _ (Option.some.inj hf).symm
  · have hf := xo_neg c_ hf
    refine xV_sub [] rfl ?_
    exact ke0 _ (Option.some.inj hf).symm
def f_t_qTest (τ : TS) : Option TS :=
  (itr (fun s_ : Int32 × TS => Bt_qTest_2 s_.1 s_.2) 4096 (1, τ)).bind fun b9 =>
  (itr (fun s_ : TS => Bt_qTest_110 s_) 4096 b9).bind fun b11 =>
  some (b11)
theorem ok_f_t_qTest {D : TD} {m : Nat} {K : xK} {Z : Option Value × TS} {τ : TS} {o_ : TS} (hf : f_t_qTest τ = some o_) (kr : ∀ r_ : TS, o_ = r_ → Z = (none, r_)) : xV (wT D m) K mX6_qTest (xQ (wT D m) K Z) τ 0 [(0, .ref m)] [] := by
  unfold f_t_qTest at hf
  refine xr_iconst (pc := 0) dX6_qTest_0 xci_1 ?_
  refine xr_istore_n (pc := 1) (loc' := [(1, .int 1), (0, .ref m)]) dX6_qTest_1 rfl (by decide) rfl ?_
  refine xV_sub [1, 0] rfl ?_
  obtain ⟨b9, hb9, hf⟩ := xo_bind hf
  refine itr_rule (P := fun s_ : Int32 × TS => xV (wT D m) K mX6_qTest (xQ (wT D m) K Z) s_.2 2 [(0, .ref m), (1, .int s_.1)] []) (fun s_ o_ hB_ hc_ he_ => ok_Bt_qTest_2 hB_ hc_ (fun e_ h_ => ?_)) 4096 _ hb9
  · have e9_ := he_ _ h_
    rw [e9_]
    obtain ⟨b11, hb11, hf⟩ := xo_bind hf
    refine itr_rule (P := fun s_ : TS => xV (wT D m) K mX6_qTest (xQ (wT D m) K Z) s_ 110 [(0, .ref m)] []) (fun s_ o_ hB_ hc_ he_ => ok_Bt_qTest_110 hB_ hc_ (fun e_ h_ => ?_)) 4096 _ hb11
    · have e9_ := he_ _ h_
      rw [e9_]
      rw [kr _ (Option.some.inj hf).symm]
      exact xr_vret (pc := 131) dX6_qTest_131 rfl
theorem met_f_t_qTest (l : Launch) {D : TD} {m : Nat} {τ : TS} {o_ : TS} (hf : f_t_qTest τ = some o_) : xMet (wT D m) l yX6_qTest (ws_ yX6_qTest cX6_qTest 3 none) 8 480 0 0 [.ref m] τ (none, o_) :=
  xMet_of (by decide) (Nat.le_of_ble_eq_true rfl) KT_moved (fun _ _ => trivial) (fun K _ _ _ => ok_f_t_qTest hf (fun _ h => by rw [h]))
theorem hd_f_t_qTest : yX6_qTest.cls = RX6 ∧ yX6_qTest.cls ≠ "java/lang/invoke/MethodHandle" ∧ yX6_qTest.cls ≠ "java/lang/invoke/VarHandle" ∧ (parseMethodDescriptor yX6_qTest.desc).map (fun d => d.parameters.length) = some 0 := by decide +kernel
theorem call_f_t_qTest {D : TD} {m : Nat} {K : xK} {M : xM} {Q : State → Prop} {τ : TS} {pc : Nat} {loc : List (Nat × Value)} {st : List Value} {τ1 : TS} (hf : f_t_qTest τ = some τ1) (ho : M.2.2.1 = RX6) (hfr : 9 ≤ M.2.2.2.1) (hlo : 502 ≤ M.2.2.2.2.1) (hcat : (st.map fun v => v.category).sum ≤ 8) (d : decode M.1 pc = .ok (.invokevirtual 398, 3)) (k : xV (wT D m) K M Q τ1 (pc + 3) loc st) : xV (wT D m) K M Q τ pc loc (.ref m :: st) :=
  xr_callV (As := []) (rest := st) (met_f_t_qTest K.2.1 hf) (lw_V q2242 q2244 qs85 q186 q2245) hd_f_t_qTest ho hfr hlo rfl (fun H hR hK => t_recv H hR hK) rfl hcat d k
abbrev mX6_codesTold : xM := (cX6_codesTold, 4, RX6, 9, 540, none, "codesTold")
def Bt_codesTold_92 (x1 : Int32) (x3 : Int32) (τ : TS) : Option ((Int32 × TS) ⊕ ((TS))) :=
  if (tI τ 121) ≤ x3 then
  some (.inr τ)
  else
  if xin x3 1700 = true then
  if xin (tI τ 58) 3200 = true then
  some (.inl (x3 + 1, sI (sA τ 57 (tI τ 58).toNatClampNeg (tA τ 120 x3.toNatClampNeg)) 58 ((tI (sA τ 57 (tI τ 58).toNatClampNeg (tA τ 120 x3.toNatClampNeg)) 58) + 1)))
  else none
  else none
theorem ok_Bt_codesTold_92 {D : TD} {m : Nat} {K : xK} {Z : Option Value × TS} {x1 : Int32} {x3 : Int32} {τ : TS} {o_ : ((Int32 × TS) ⊕ ((TS)))} (hf : Bt_codesTold_92 x1 x3 τ = some o_) (kc : ∀ s_ : Int32 × TS, o_ = .inl s_ → xV (wT D m) K mX6_codesTold (xQ (wT D m) K Z) s_.2 92 [(0, .ref m), (1, .int x1), (3, .int s_.1)] []) (ke0 : ∀ e_ : TS, o_ = .inr e_ → xV (wT D m) K mX6_codesTold (xQ (wT D m) K Z) e_ 131 [(0, .ref m), (1, .int x1)] []) : xV (wT D m) K mX6_codesTold (xQ (wT D m) K Z) τ 92 [(0, .ref m), (1, .int x1), (3, .int x3)] [] := by
  unfold Bt_codesTold_92 at hf
  refine xr_iload_n (pc := 92) 2 dX6_codesTold_92 rfl rfl ?_
  refine xr_aload_n (pc := 93) 0 dX6_codesTold_93 rfl rfl ?_
  refine xt_getI (pc := 94) 121 (by decide) q1867 rfl rfl rfl dX6_codesTold_94 ?_
  refine xr_icmp_ge (pc := 97) 131 dX6_codesTold_97 (by decide) (fun c_ => ?_) (fun c_ => ?_)
  · have hf := xo_pos c_ hf
    refine xV_sub [0, 1] rfl ?_
    exact ke0 _ (Option.some.inj hf).symm
  · have hf := xo_neg c_ hf
    refine xr_aload_n (pc := 100) 0 dX6_codesTold_100 rfl rfl ?_
    refine xt_getA (pc := 101) 57 (by decide) q1803 rfl rfl rfl dX6_codesTold_101 ?_
    refine xr_aload_n (pc := 104) 0 dX6_codesTold_104 rfl rfl ?_
    refine xt_getI (pc := 105) 58 (by decide) q1804 rfl rfl rfl dX6_codesTold_105 ?_
    refine xr_aload_n (pc := 108) 0 dX6_codesTold_108 rfl rfl ?_
    refine xt_getA (pc := 109) 120 (by decide) q1866 rfl rfl rfl dX6_codesTold_109 ?_
    refine xr_iload_n (pc := 112) 2 dX6_codesTold_112 rfl rfl ?_
    obtain ⟨hi_, hf⟩ := xo_if hf
    refine xt_iald (pc := 113) 120 rfl rfl hi_ dX6_codesTold_113 ?_
    obtain ⟨hi_, hf⟩ := xo_if hf
    refine xt_iast (pc := 114) 57 rfl rfl hi_ dX6_codesTold_114 ?_
    refine xr_aload_n (pc := 115) 0 dX6_codesTold_115 rfl rfl ?_
    refine xr_dup (pc := 116) dX6_codesTold_116 rfl ?_
    refine xt_getI (pc := 117) 58 (by decide) q1804 rfl rfl rfl dX6_codesTold_117 ?_
    refine xr_iconst (pc := 120) dX6_codesTold_120 xci_1 ?_
    refine xr_iadd (pc := 121) dX6_codesTold_121 ?_
    refine xt_putI (pc := 122) 58 (by decide) q1804 rfl rfl rfl (by decide +kernel) rfl dX6_codesTold_122 ?_
    refine xr_iinc (pc := 125) (loc' := [(3, .int (x3 + 1)), (0, .ref m), (1, .int x1)]) 2 dX6_codesTold_125 rfl xci_1 (by decide) rfl ?_
    refine xr_goto (pc := 128) 92 dX6_codesTold_128 (by decide) ?_
    refine xV_sub [1, 2, 0] rfl ?_
    exact kc _ (Option.some.inj hf).symm
def Jt_codesTold_72 (x1 : Int32) (τ : TS) : Option TS :=
  if (tI τ 5) = 0 then
  if xin x1 4 = true then
  (itr (fun s_ : Int32 × TS => Bt_codesTold_92 x1 s_.1 s_.2) 4096 (0, sA τ 55 x1.toNatClampNeg (tI τ 58))).bind fun b2 =>
  if xin x1 4 = true then
  some (sA b2 56 x1.toNatClampNeg (tI b2 58))
  else none
  else none
  else
  some (τ)
theorem ok_Jt_codesTold_72 {D : TD} {m : Nat} {K : xK} {Z : Option Value × TS} {x1 : Int32} {τ : TS} {o_ : TS} (hf : Jt_codesTold_72 x1 τ = some o_) (kr : ∀ r_ : TS, o_ = r_ → Z = (none, r_)) : xV (wT D m) K mX6_codesTold (xQ (wT D m) K Z) τ 72 [(0, .ref m), (1, .int x1)] [] := by
  unfold Jt_codesTold_72 at hf
  refine xr_aload_n (pc := 72) 0 dX6_codesTold_72 rfl rfl ?_
  refine xt_getI (pc := 73) 5 (by decide) q1751 rfl rfl rfl dX6_codesTold_73 ?_
  refine xr_if_eq (pc := 76) 80 dX6_codesTold_76 (by decide) (fun c_ => ?_) (fun c_ => ?_)
  · have hf := xo_pos c_ hf
    refine xr_aload_n (pc := 80) 0 dX6_codesTold_80 rfl rfl ?_
    refine xt_getA (pc := 81) 55 (by decide) q1801 rfl rfl rfl dX6_codesTold_81 ?_
    refine xr_iload_n (pc := 84) 1 dX6_codesTold_84 rfl rfl ?_
    refine xr_aload_n (pc := 85) 0 dX6_codesTold_85 rfl rfl ?_
    refine xt_getI (pc := 86) 58 (by decide) q1804 rfl rfl rfl dX6_codesTold_86 ?_
    obtain ⟨hi_, hf⟩ := xo_if hf
    refine xt_iast (pc := 89) 55 rfl rfl hi_ dX6_codesTold_89 ?_
    refine xr_iconst (pc := 90) dX6_codesTold_90 xci_0 ?_
    refine xr_istore_n (pc := 91) (loc' := [(3, .int 0), (0, .ref m), (1, .int x1)]) dX6_codesTold_91 rfl (by decide) rfl ?_
    refine xV_sub [1, 2, 0] rfl ?_
    obtain ⟨b2, hb2, hf⟩ := xo_bind hf
    refine itr_rule (P := fun s_ : Int32 × TS => xV (wT D m) K mX6_codesTold (xQ (wT D m) K Z) s_.2 92 [(0, .ref m), (1, .int x1), (3, .int s_.1)] []) (fun s_ o_ hB_ hc_ he_ => ok_Bt_codesTold_92 hB_ hc_ (fun e_ h_ => ?_)) 4096 _ hb2
    · have e9_ := he_ _ h_
      rw [e9_]
      refine xr_aload_n (pc := 131) 0 dX6_codesTold_131 rfl rfl ?_
      refine xt_getA (pc := 132) 56 (by decide) q1802 rfl rfl rfl dX6_codesTold_132 ?_
      refine xr_iload_n (pc := 135) 1 dX6_codesTold_135 rfl rfl ?_
      refine xr_aload_n (pc := 136) 0 dX6_codesTold_136 rfl rfl ?_
      refine xt_getI (pc := 137) 58 (by decide) q1804 rfl rfl rfl dX6_codesTold_137 ?_
      obtain ⟨hi_, hf⟩ := xo_if hf
      refine xt_iast (pc := 140) 56 rfl rfl hi_ dX6_codesTold_140 ?_
      rw [kr _ (Option.some.inj hf).symm]
      exact xr_vret (pc := 141) dX6_codesTold_141 rfl
  · have hf := xo_neg c_ hf
    rw [kr _ (Option.some.inj hf).symm]
    exact xr_vret (pc := 79) dX6_codesTold_79 rfl
def Jt_codesTold_23 (x1 : Int32) (τ : TS) : Option TS :=
  if (tI τ 5) = 0 then
  if x1 = 1 then
  (f_t_qTest (sI (sI (sI (sI (sI τ 61 x1) 121 0) 123 0) 124 0) 125 0)).bind fun τ1 =>
  Jt_codesTold_72 x1 τ1
  else
  (f_t_qSums (sI (sI (sI (sI (sI τ 61 x1) 121 0) 123 0) 124 0) 125 0)).bind fun τ3 =>
  Jt_codesTold_72 x1 τ3
  else
  some (τ)
theorem ok_Jt_codesTold_23 {D : TD} {m : Nat} {K : xK} {Z : Option Value × TS} {x1 : Int32} {τ : TS} {o_ : TS} (hf : Jt_codesTold_23 x1 τ = some o_) (kr : ∀ r_ : TS, o_ = r_ → Z = (none, r_)) : xV (wT D m) K mX6_codesTold (xQ (wT D m) K Z) τ 23 [(0, .ref m), (1, .int x1)] [] := by
  unfold Jt_codesTold_23 at hf
  refine xr_aload_n (pc := 23) 0 dX6_codesTold_23 rfl rfl ?_
  refine xt_getI (pc := 24) 5 (by decide) q1751 rfl rfl rfl dX6_codesTold_24 ?_
  refine xr_if_eq (pc := 27) 31 dX6_codesTold_27 (by decide) (fun c_ => ?_) (fun c_ => ?_)
  · have hf := xo_pos c_ hf
    refine xr_aload_n (pc := 31) 0 dX6_codesTold_31 rfl rfl ?_
    refine xr_iload_n (pc := 32) 1 dX6_codesTold_32 rfl rfl ?_
    refine xt_putI (pc := 33) 61 (by decide) q1807 rfl rfl rfl (by decide +kernel) rfl dX6_codesTold_33 ?_
    refine xr_aload_n (pc := 36) 0 dX6_codesTold_36 rfl rfl ?_
    refine xr_iconst (pc := 37) dX6_codesTold_37 xci_0 ?_
    refine xt_putI (pc := 38) 121 (by decide) q1867 rfl rfl rfl (by decide +kernel) rfl dX6_codesTold_38 ?_
    refine xr_aload_n (pc := 41) 0 dX6_codesTold_41 rfl rfl ?_
    refine xr_iconst (pc := 42) dX6_codesTold_42 xci_0 ?_
    refine xt_putI (pc := 43) 123 (by decide) q1869 rfl rfl rfl (by decide +kernel) rfl dX6_codesTold_43 ?_
    refine xr_aload_n (pc := 46) 0 dX6_codesTold_46 rfl rfl ?_
    refine xr_iconst (pc := 47) dX6_codesTold_47 xci_0 ?_
    refine xt_putI (pc := 48) 124 (by decide) q1870 rfl rfl rfl (by decide +kernel) rfl dX6_codesTold_48 ?_
    refine xr_aload_n (pc := 51) 0 dX6_codesTold_51 rfl rfl ?_
    refine xr_iconst (pc := 52) dX6_codesTold_52 xci_0 ?_
    refine xt_putI (pc := 53) 125 (by decide) q1871 rfl rfl rfl (by decide +kernel) rfl dX6_codesTold_53 ?_
    refine xr_iload_n (pc := 56) 1 dX6_codesTold_56 rfl rfl ?_
    refine xr_iconst (pc := 57) dX6_codesTold_57 xci_1 ?_
    refine xr_icmp_ne (pc := 58) 68 dX6_codesTold_58 (by decide) (fun c_ => ?_) (fun c_ => ?_)
    · have hf := xo_pos c_ hf
      refine xr_aload_n (pc := 61) 0 dX6_codesTold_61 rfl rfl ?_
      obtain ⟨τ1, hτ1, hf⟩ := xo_bind hf
      refine call_f_t_qTest (pc := 62) hτ1 rfl (Nat.le_of_ble_eq_true rfl) (Nat.le_of_ble_eq_true rfl) (Nat.le_of_ble_eq_true rfl) dX6_codesTold_62 ?_
      refine xr_goto (pc := 65) 72 dX6_codesTold_65 (by decide) ?_
      exact ok_Jt_codesTold_72 hf kr
    · have hf := xo_neg c_ hf
      refine xr_aload_n (pc := 68) 0 dX6_codesTold_68 rfl rfl ?_
      obtain ⟨τ3, hτ3, hf⟩ := xo_bind hf
      refine call_f_t_qSums (pc := 69) hτ3 rfl (Nat.le_of_ble_eq_true rfl) (Nat.le_of_ble_eq_true rfl) (Nat.le_of_ble_eq_true rfl) dX6_codesTold_69 ?_
      exact ok_Jt_codesTold_72 hf kr
  · have hf := xo_neg c_ hf
    rw [kr _ (Option.some.inj hf).symm]
    exact xr_vret (pc := 30) dX6_codesTold_30 rfl
def f_t_codesTold (x1 : Int32) (x2 : Int32) (τ : TS) : Option TS :=
  if (tI τ 5) = 0 then
  if xin x1 4 = true then
  if (tA τ 55 x1.toNatClampNeg) = (-1) then
  Jt_codesTold_23 x1 τ
  else
  (f_t_fail 5 x2 τ).bind fun τ4 =>
  Jt_codesTold_23 x1 τ4
  else none
  else
  Jt_codesTold_23 x1 τ
theorem ok_f_t_codesTold {D : TD} {m : Nat} {K : xK} {Z : Option Value × TS} {x1 : Int32} {x2 : Int32} {τ : TS} {o_ : TS} (hf : f_t_codesTold x1 x2 τ = some o_) (kr : ∀ r_ : TS, o_ = r_ → Z = (none, r_)) : xV (wT D m) K mX6_codesTold (xQ (wT D m) K Z) τ 0 [(0, .ref m), (1, .int x1), (2, .int x2)] [] := by
  unfold f_t_codesTold at hf
  refine xr_aload_n (pc := 0) 0 dX6_codesTold_0 rfl rfl ?_
  refine xt_getI (pc := 1) 5 (by decide) q1751 rfl rfl rfl dX6_codesTold_1 ?_
  refine xr_if_ne (pc := 4) 23 dX6_codesTold_4 (by decide) (fun c_ => ?_) (fun c_ => ?_)
  · have hf := xo_pos c_ hf
    refine xr_aload_n (pc := 7) 0 dX6_codesTold_7 rfl rfl ?_
    refine xt_getA (pc := 8) 55 (by decide) q1801 rfl rfl rfl dX6_codesTold_8 ?_
    refine xr_iload_n (pc := 11) 1 dX6_codesTold_11 rfl rfl ?_
    obtain ⟨hi_, hf⟩ := xo_if hf
    refine xt_iald (pc := 12) 55 rfl rfl hi_ dX6_codesTold_12 ?_
    refine xr_iconst (pc := 13) dX6_codesTold_13 xci_m1 ?_
    refine xr_icmp_eq (pc := 14) 23 dX6_codesTold_14 (by decide) (fun c_ => ?_) (fun c_ => ?_)
    · have hf := xo_pos c_ hf
      refine xV_sub [0, 1] rfl ?_
      exact ok_Jt_codesTold_23 hf kr
    · have hf := xo_neg c_ hf
      refine xr_aload_n (pc := 17) 0 dX6_codesTold_17 rfl rfl ?_
      refine xr_iconst (pc := 18) dX6_codesTold_18 xci_5 ?_
      refine xr_iload_n (pc := 19) 2 dX6_codesTold_19 rfl rfl ?_
      obtain ⟨τ4, hτ4, hf⟩ := xo_bind hf
      refine call_f_t_fail (pc := 20) hτ4 rfl (Nat.le_of_ble_eq_true rfl) (Nat.le_of_ble_eq_true rfl) (Nat.le_of_ble_eq_true rfl) dX6_codesTold_20 ?_
      refine xV_sub [0, 1] rfl ?_
      exact ok_Jt_codesTold_23 hf kr
  · have hf := xo_neg c_ hf
    refine xV_sub [0, 1] rfl ?_
    exact ok_Jt_codesTold_23 hf kr
theorem met_f_t_codesTold (l : Launch) {D : TD} {m : Nat} {x1 : Int32} {x2 : Int32} {τ : TS} {o_ : TS} (hf : f_t_codesTold x1 x2 τ = some o_) : xMet (wT D m) l yX6_codesTold (ws_ yX6_codesTold cX6_codesTold 4 none) 9 540 0 0 [.ref m, .int x1, .int x2] τ (none, o_) :=
  xMet_of (by decide) (Nat.le_of_ble_eq_true rfl) KT_moved (fun _ _ => trivial) (fun K _ _ _ => ok_f_t_codesTold hf (fun _ h => by rw [h]))
theorem hd_f_t_codesTold : yX6_codesTold.cls = RX6 ∧ yX6_codesTold.cls ≠ "java/lang/invoke/MethodHandle" ∧ yX6_codesTold.cls ≠ "java/lang/invoke/VarHandle" ∧ (parseMethodDescriptor yX6_codesTold.desc).map (fun d => d.parameters.length) = some 2 := by decide +kernel
theorem call_f_t_codesTold {D : TD} {m : Nat} {K : xK} {M : xM} {Q : State → Prop} {x1 : Int32} {x2 : Int32} {τ : TS} {pc : Nat} {loc : List (Nat × Value)} {st : List Value} {τ1 : TS} (hf : f_t_codesTold x1 x2 τ = some τ1) (ho : M.2.2.1 = RX6) (hfr : 10 ≤ M.2.2.2.1) (hlo : 563 ≤ M.2.2.2.2.1) (hcat : (st.map fun v => v.category).sum ≤ 8) (d : decode M.1 pc = .ok (.invokevirtual 422, 3)) (k : xV (wT D m) K M Q τ1 (pc + 3) loc st) : xV (wT D m) K M Q τ pc loc (.int x2 :: .int x1 :: .ref m :: st) :=
  xr_callV (As := [.int x1, .int x2]) (rest := st) (met_f_t_codesTold K.2.1 hf) (lw_V q2238 q2240 qs84 q186 q2241) hd_f_t_codesTold ho hfr hlo rfl (fun H hR hK => t_recv H hR hK) rfl hcat d k
abbrev mX6_statementTold : xM := (cX6_statementTold, 2, RX6, 10, 600, none, "statementTold")
def Jt_statementTold_153 (τ : TS) : Option TS :=
  (f_t_asksSign 59 τ).bind fun τ10 =>
  some (sI τ10 59 ((tI τ10 59) + 1))
theorem ok_Jt_statementTold_153 {D : TD} {m : Nat} {K : xK} {Z : Option Value × TS} {τ : TS} {o_ : TS} (hf : Jt_statementTold_153 τ = some o_) (kr : ∀ r_ : TS, o_ = r_ → Z = (none, r_)) : xV (wT D m) K mX6_statementTold (xQ (wT D m) K Z) τ 153 [(0, .ref m)] [] := by
  unfold Jt_statementTold_153 at hf
  refine xr_aload_n (pc := 153) 0 dX6_statementTold_153 rfl rfl ?_
  refine xr_bipush (pc := 154) dX6_statementTold_154 xcb_59 ?_
  obtain ⟨τ10, hτ10, hf⟩ := xo_bind hf
  refine call_f_t_asksSign (pc := 156) hτ10 rfl (Nat.le_of_ble_eq_true rfl) (Nat.le_of_ble_eq_true rfl) (Nat.le_of_ble_eq_true rfl) dX6_statementTold_156 ?_
  refine xr_aload_n (pc := 159) 0 dX6_statementTold_159 rfl rfl ?_
  refine xr_dup (pc := 160) dX6_statementTold_160 rfl ?_
  refine xt_getI (pc := 161) 59 (by decide) q1805 rfl rfl rfl dX6_statementTold_161 ?_
  refine xr_iconst (pc := 164) dX6_statementTold_164 xci_1 ?_
  refine xr_iadd (pc := 165) dX6_statementTold_165 ?_
  refine xt_putI (pc := 166) 59 (by decide) q1805 rfl rfl rfl (by decide +kernel) rfl dX6_statementTold_166 ?_
  rw [kr _ (Option.some.inj hf).symm]
  exact xr_vret (pc := 169) dX6_statementTold_169 rfl
def f_t_statementTold (τ : TS) : Option TS :=
  if (tI τ 59) = 80 then
  (f_t_fail 5 (tI τ 2) τ).bind fun τ1 =>
  some (τ1)
  else
  xbd (f_t_takes 14 τ) fun r2 τ2 =>
  if r2 = 0 then
  xbd (f_t_takes 15 τ2) fun r3 τ3 =>
  if r3 = 0 then
  xbd (f_t_takes 16 τ3) fun r4 τ4 =>
  if r4 = 0 then
  xbd (f_t_takes 17 τ4) fun r5 τ5 =>
  if r5 = 0 then
  xbd (f_t_takes 23 τ5) fun r6 τ6 =>
  if r6 = 0 then
  xbd (f_t_takes 24 τ6) fun r7 τ7 =>
  if r7 = 0 then
  (f_t_asks 25 τ7).bind fun τ8 =>
  xbd (f_t_number 0 100 τ8) fun r9 τ9 =>
  Jt_statementTold_153 (sI τ9 53 r9)
  else
  (f_t_codesTold 1 (tI τ 2) τ7).bind fun τ11 =>
  Jt_statementTold_153 τ11
  else
  (f_t_codesTold 0 (tI τ 2) τ6).bind fun τ12 =>
  Jt_statementTold_153 τ12
  else
  (f_t_lordTold (tI τ 2) τ5).bind fun τ13 =>
  Jt_statementTold_153 τ13
  else
  (f_t_willowTold τ4).bind fun τ14 =>
  Jt_statementTold_153 τ14
  else
  (f_t_soilTold τ3).bind fun τ15 =>
  Jt_statementTold_153 τ15
  else
  (f_t_runsTold τ2).bind fun τ16 =>
  Jt_statementTold_153 τ16
theorem ok_f_t_statementTold {D : TD} {m : Nat} {K : xK} {Z : Option Value × TS} {τ : TS} {o_ : TS} (hf : f_t_statementTold τ = some o_) (kr : ∀ r_ : TS, o_ = r_ → Z = (none, r_)) : xV (wT D m) K mX6_statementTold (xQ (wT D m) K Z) τ 0 [(0, .ref m)] [] := by
  unfold f_t_statementTold at hf
  refine xr_aload_n (pc := 0) 0 dX6_statementTold_0 rfl rfl ?_
  refine xt_getI (pc := 1) 2 (by decide) q1748 rfl rfl rfl dX6_statementTold_1 ?_
  refine xr_istore_n (pc := 4) (loc' := [(1, .int (tI τ 2)), (0, .ref m)]) dX6_statementTold_4 rfl (by decide) rfl ?_
  refine xr_aload_n (pc := 5) 1 dX6_statementTold_5 rfl rfl ?_
  refine xt_getI (pc := 6) 59 (by decide) q1805 rfl rfl rfl dX6_statementTold_6 ?_
  refine xr_bipush (pc := 9) dX6_statementTold_9 xcb_80 ?_
  refine xr_icmp_ne (pc := 11) 21 dX6_statementTold_11 (by decide) (fun c_ => ?_) (fun c_ => ?_)
  · have hf := xo_pos c_ hf
    refine xr_aload_n (pc := 14) 1 dX6_statementTold_14 rfl rfl ?_
    refine xr_iconst (pc := 15) dX6_statementTold_15 xci_5 ?_
    refine xr_iload_n (pc := 16) 0 dX6_statementTold_16 rfl rfl ?_
    obtain ⟨τ1, hτ1, hf⟩ := xo_bind hf
    refine call_f_t_fail (pc := 17) hτ1 rfl (Nat.le_of_ble_eq_true rfl) (Nat.le_of_ble_eq_true rfl) (Nat.le_of_ble_eq_true rfl) dX6_statementTold_17 ?_
    rw [kr _ (Option.some.inj hf).symm]
    exact xr_vret (pc := 20) dX6_statementTold_20 rfl
  · have hf := xo_neg c_ hf
    refine xr_aload_n (pc := 21) 1 dX6_statementTold_21 rfl rfl ?_
    refine xr_aload_n (pc := 22) 1 dX6_statementTold_22 rfl rfl ?_
    refine xt_getA (pc := 23) 14 (by decide) q1760 rfl rfl rfl dX6_statementTold_23 ?_
    obtain ⟨r2, τ2, hτ2, hf⟩ := xo_bd hf
    refine call_f_t_takes (pc := 26) hτ2 rfl (Nat.le_of_ble_eq_true rfl) (Nat.le_of_ble_eq_true rfl) (Nat.le_of_ble_eq_true rfl) dX6_statementTold_26 ?_
    refine xr_if_eq (pc := 29) 39 dX6_statementTold_29 (by decide) (fun c_ => ?_) (fun c_ => ?_)
    · have hf := xo_pos c_ hf
      refine xr_aload_n (pc := 39) 1 dX6_statementTold_39 rfl rfl ?_
      refine xr_aload_n (pc := 40) 1 dX6_statementTold_40 rfl rfl ?_
      refine xt_getA (pc := 41) 15 (by decide) q1761 rfl rfl rfl dX6_statementTold_41 ?_
      obtain ⟨r3, τ3, hτ3, hf⟩ := xo_bd hf
      refine call_f_t_takes (pc := 44) hτ3 rfl (Nat.le_of_ble_eq_true rfl) (Nat.le_of_ble_eq_true rfl) (Nat.le_of_ble_eq_true rfl) dX6_statementTold_44 ?_
      refine xr_if_eq (pc := 47) 57 dX6_statementTold_47 (by decide) (fun c_ => ?_) (fun c_ => ?_)
      · have hf := xo_pos c_ hf
        refine xr_aload_n (pc := 57) 1 dX6_statementTold_57 rfl rfl ?_
        refine xr_aload_n (pc := 58) 1 dX6_statementTold_58 rfl rfl ?_
        refine xt_getA (pc := 59) 16 (by decide) q1762 rfl rfl rfl dX6_statementTold_59 ?_
        obtain ⟨r4, τ4, hτ4, hf⟩ := xo_bd hf
        refine call_f_t_takes (pc := 62) hτ4 rfl (Nat.le_of_ble_eq_true rfl) (Nat.le_of_ble_eq_true rfl) (Nat.le_of_ble_eq_true rfl) dX6_statementTold_62 ?_
        refine xr_if_eq (pc := 65) 75 dX6_statementTold_65 (by decide) (fun c_ => ?_) (fun c_ => ?_)
        · have hf := xo_pos c_ hf
          refine xr_aload_n (pc := 75) 1 dX6_statementTold_75 rfl rfl ?_
          refine xr_aload_n (pc := 76) 1 dX6_statementTold_76 rfl rfl ?_
          refine xt_getA (pc := 77) 17 (by decide) q1763 rfl rfl rfl dX6_statementTold_77 ?_
          obtain ⟨r5, τ5, hτ5, hf⟩ := xo_bd hf
          refine call_f_t_takes (pc := 80) hτ5 rfl (Nat.le_of_ble_eq_true rfl) (Nat.le_of_ble_eq_true rfl) (Nat.le_of_ble_eq_true rfl) dX6_statementTold_80 ?_
          refine xr_if_eq (pc := 83) 94 dX6_statementTold_83 (by decide) (fun c_ => ?_) (fun c_ => ?_)
          · have hf := xo_pos c_ hf
            refine xr_aload_n (pc := 94) 1 dX6_statementTold_94 rfl rfl ?_
            refine xr_aload_n (pc := 95) 1 dX6_statementTold_95 rfl rfl ?_
            refine xt_getA (pc := 96) 23 (by decide) q1769 rfl rfl rfl dX6_statementTold_96 ?_
            obtain ⟨r6, τ6, hτ6, hf⟩ := xo_bd hf
            refine call_f_t_takes (pc := 99) hτ6 rfl (Nat.le_of_ble_eq_true rfl) (Nat.le_of_ble_eq_true rfl) (Nat.le_of_ble_eq_true rfl) dX6_statementTold_99 ?_
            refine xr_if_eq (pc := 102) 114 dX6_statementTold_102 (by decide) (fun c_ => ?_) (fun c_ => ?_)
            · have hf := xo_pos c_ hf
              refine xr_aload_n (pc := 114) 1 dX6_statementTold_114 rfl rfl ?_
              refine xr_aload_n (pc := 115) 1 dX6_statementTold_115 rfl rfl ?_
              refine xt_getA (pc := 116) 24 (by decide) q1770 rfl rfl rfl dX6_statementTold_116 ?_
              obtain ⟨r7, τ7, hτ7, hf⟩ := xo_bd hf
              refine call_f_t_takes (pc := 119) hτ7 rfl (Nat.le_of_ble_eq_true rfl) (Nat.le_of_ble_eq_true rfl) (Nat.le_of_ble_eq_true rfl) dX6_statementTold_119 ?_
              refine xr_if_eq (pc := 122) 134 dX6_statementTold_122 (by decide) (fun c_ => ?_) (fun c_ => ?_)
              · have hf := xo_pos c_ hf
                refine xr_aload_n (pc := 134) 1 dX6_statementTold_134 rfl rfl ?_
                refine xr_aload_n (pc := 135) 1 dX6_statementTold_135 rfl rfl ?_
                refine xt_getA (pc := 136) 25 (by decide) q1771 rfl rfl rfl dX6_statementTold_136 ?_
                obtain ⟨τ8, hτ8, hf⟩ := xo_bind hf
                refine call_f_t_asks (pc := 139) hτ8 rfl (Nat.le_of_ble_eq_true rfl) (Nat.le_of_ble_eq_true rfl) (Nat.le_of_ble_eq_true rfl) dX6_statementTold_139 ?_
                refine xr_aload_n (pc := 142) 1 dX6_statementTold_142 rfl rfl ?_
                refine xr_aload_n (pc := 143) 1 dX6_statementTold_143 rfl rfl ?_
                refine xr_iconst (pc := 144) dX6_statementTold_144 xci_0 ?_
                refine xr_bipush (pc := 145) dX6_statementTold_145 xcb_100 ?_
                obtain ⟨r9, τ9, hτ9, hf⟩ := xo_bd hf
                refine call_f_t_number (pc := 147) hτ9 rfl (Nat.le_of_ble_eq_true rfl) (Nat.le_of_ble_eq_true rfl) (Nat.le_of_ble_eq_true rfl) dX6_statementTold_147 ?_
                refine xt_putI (pc := 150) 53 (by decide) q1799 rfl rfl rfl (by decide +kernel) rfl dX6_statementTold_150 ?_
                refine xV_sub [1] rfl ?_
                exact ok_Jt_statementTold_153 hf kr
              · have hf := xo_neg c_ hf
                refine xr_aload_n (pc := 125) 1 dX6_statementTold_125 rfl rfl ?_
                refine xr_iconst (pc := 126) dX6_statementTold_126 xci_1 ?_
                refine xr_iload_n (pc := 127) 0 dX6_statementTold_127 rfl rfl ?_
                obtain ⟨τ11, hτ11, hf⟩ := xo_bind hf
                refine call_f_t_codesTold (pc := 128) hτ11 rfl (Nat.le_of_ble_eq_true rfl) (Nat.le_of_ble_eq_true rfl) (Nat.le_of_ble_eq_true rfl) dX6_statementTold_128 ?_
                refine xr_goto (pc := 131) 153 dX6_statementTold_131 (by decide) ?_
                refine xV_sub [1] rfl ?_
                exact ok_Jt_statementTold_153 hf kr
            · have hf := xo_neg c_ hf
              refine xr_aload_n (pc := 105) 1 dX6_statementTold_105 rfl rfl ?_
              refine xr_iconst (pc := 106) dX6_statementTold_106 xci_0 ?_
              refine xr_iload_n (pc := 107) 0 dX6_statementTold_107 rfl rfl ?_
              obtain ⟨τ12, hτ12, hf⟩ := xo_bind hf
              refine call_f_t_codesTold (pc := 108) hτ12 rfl (Nat.le_of_ble_eq_true rfl) (Nat.le_of_ble_eq_true rfl) (Nat.le_of_ble_eq_true rfl) dX6_statementTold_108 ?_
              refine xr_goto (pc := 111) 153 dX6_statementTold_111 (by decide) ?_
              refine xV_sub [1] rfl ?_
              exact ok_Jt_statementTold_153 hf kr
          · have hf := xo_neg c_ hf
            refine xr_aload_n (pc := 86) 1 dX6_statementTold_86 rfl rfl ?_
            refine xr_iload_n (pc := 87) 0 dX6_statementTold_87 rfl rfl ?_
            obtain ⟨τ13, hτ13, hf⟩ := xo_bind hf
            refine call_f_t_lordTold (pc := 88) hτ13 rfl (Nat.le_of_ble_eq_true rfl) (Nat.le_of_ble_eq_true rfl) (Nat.le_of_ble_eq_true rfl) dX6_statementTold_88 ?_
            refine xr_goto (pc := 91) 153 dX6_statementTold_91 (by decide) ?_
            refine xV_sub [1] rfl ?_
            exact ok_Jt_statementTold_153 hf kr
        · have hf := xo_neg c_ hf
          refine xr_aload_n (pc := 68) 1 dX6_statementTold_68 rfl rfl ?_
          obtain ⟨τ14, hτ14, hf⟩ := xo_bind hf
          refine call_f_t_willowTold (pc := 69) hτ14 rfl (Nat.le_of_ble_eq_true rfl) (Nat.le_of_ble_eq_true rfl) (Nat.le_of_ble_eq_true rfl) dX6_statementTold_69 ?_
          refine xr_goto (pc := 72) 153 dX6_statementTold_72 (by decide) ?_
          refine xV_sub [1] rfl ?_
          exact ok_Jt_statementTold_153 hf kr
      · have hf := xo_neg c_ hf
        refine xr_aload_n (pc := 50) 1 dX6_statementTold_50 rfl rfl ?_
        obtain ⟨τ15, hτ15, hf⟩ := xo_bind hf
        refine call_f_t_soilTold (pc := 51) hτ15 rfl (Nat.le_of_ble_eq_true rfl) (Nat.le_of_ble_eq_true rfl) (Nat.le_of_ble_eq_true rfl) dX6_statementTold_51 ?_
        refine xr_goto (pc := 54) 153 dX6_statementTold_54 (by decide) ?_
        refine xV_sub [1] rfl ?_
        exact ok_Jt_statementTold_153 hf kr
    · have hf := xo_neg c_ hf
      refine xr_aload_n (pc := 32) 1 dX6_statementTold_32 rfl rfl ?_
      obtain ⟨τ16, hτ16, hf⟩ := xo_bind hf
      refine call_f_t_runsTold (pc := 33) hτ16 rfl (Nat.le_of_ble_eq_true rfl) (Nat.le_of_ble_eq_true rfl) (Nat.le_of_ble_eq_true rfl) dX6_statementTold_33 ?_
      refine xr_goto (pc := 36) 153 dX6_statementTold_36 (by decide) ?_
      refine xV_sub [1] rfl ?_
      exact ok_Jt_statementTold_153 hf kr
theorem met_f_t_statementTold (l : Launch) {D : TD} {m : Nat} {τ : TS} {o_ : TS} (hf : f_t_statementTold τ = some o_) : xMet (wT D m) l yX6_statementTold (ws_ yX6_statementTold cX6_statementTold 2 none) 10 600 0 0 [.ref m] τ (none, o_) :=
  xMet_of (by decide) (Nat.le_of_ble_eq_true rfl) KT_moved (fun _ _ => trivial) (fun K _ _ _ => ok_f_t_statementTold hf (fun _ h => by rw [h]))
theorem hd_f_t_statementTold : yX6_statementTold.cls = RX6 ∧ yX6_statementTold.cls ≠ "java/lang/invoke/MethodHandle" ∧ yX6_statementTold.cls ≠ "java/lang/invoke/VarHandle" ∧ (parseMethodDescriptor yX6_statementTold.desc).map (fun d => d.parameters.length) = some 0 := by decide +kernel
theorem call_f_t_statementTold {D : TD} {m : Nat} {K : xK} {M : xM} {Q : State → Prop} {τ : TS} {pc : Nat} {loc : List (Nat × Value)} {st : List Value} {τ1 : TS} (hf : f_t_statementTold τ = some τ1) (ho : M.2.2.1 = RX6) (hfr : 11 ≤ M.2.2.2.1) (hlo : 621 ≤ M.2.2.2.2.1) (hcat : (st.map fun v => v.category).sum ≤ 8) (d : decode M.1 pc = .ok (.invokevirtual 431, 3)) (k : xV (wT D m) K M Q τ1 (pc + 3) loc st) : xV (wT D m) K M Q τ pc loc (.ref m :: st) :=
  xr_callV (As := []) (rest := st) (met_f_t_statementTold K.2.1 hf) (lw_V q2200 q2202 qs75 q186 q2203) hd_f_t_statementTold ho hfr hlo rfl (fun H hR hK => t_recv H hR hK) rfl hcat d k
abbrev mX6_stands : xM := (cX6_stands, 2, RX6, 0, 0, none, "stands")
def Bt_stands_23 (x1 : Int32) (τ : TS) : Option ((Int32 × TS) ⊕ ((TS))) :=
  if 3 ≤ x1 then
  some (.inr τ)
  else
  if xin x1 6 = true then
  if xin (3 + x1) 6 = true then
  some (.inl (x1 + 1, sA τ 45 (3 + x1).toNatClampNeg (tA τ 45 x1.toNatClampNeg)))
  else none
  else none
theorem ok_Bt_stands_23 {D : TD} {m : Nat} {K : xK} {Z : Option Value × TS} {x1 : Int32} {τ : TS} {o_ : ((Int32 × TS) ⊕ ((TS)))} (hf : Bt_stands_23 x1 τ = some o_) (kc : ∀ s_ : Int32 × TS, o_ = .inl s_ → xV (wT D m) K mX6_stands (xQ (wT D m) K Z) s_.2 23 [(0, .ref m), (1, .int s_.1)] []) (ke0 : ∀ e_ : TS, o_ = .inr e_ → xV (wT D m) K mX6_stands (xQ (wT D m) K Z) e_ 48 [(0, .ref m)] []) : xV (wT D m) K mX6_stands (xQ (wT D m) K Z) τ 23 [(0, .ref m), (1, .int x1)] [] := by
  unfold Bt_stands_23 at hf
  refine xr_iload_n (pc := 23) 1 dX6_stands_23 rfl rfl ?_
  refine xr_iconst (pc := 24) dX6_stands_24 xci_3 ?_
  refine xr_icmp_ge (pc := 25) 48 dX6_stands_25 (by decide) (fun c_ => ?_) (fun c_ => ?_)
  · have hf := xo_pos c_ hf
    refine xV_sub [0] rfl ?_
    exact ke0 _ (Option.some.inj hf).symm
  · have hf := xo_neg c_ hf
    refine xr_aload_n (pc := 28) 0 dX6_stands_28 rfl rfl ?_
    refine xt_getA (pc := 29) 45 (by decide) q1791 rfl rfl rfl dX6_stands_29 ?_
    refine xr_iconst (pc := 32) dX6_stands_32 xci_3 ?_
    refine xr_iload_n (pc := 33) 1 dX6_stands_33 rfl rfl ?_
    refine xr_iadd (pc := 34) dX6_stands_34 ?_
    refine xr_aload_n (pc := 35) 0 dX6_stands_35 rfl rfl ?_
    refine xt_getA (pc := 36) 45 (by decide) q1791 rfl rfl rfl dX6_stands_36 ?_
    refine xr_iload_n (pc := 39) 1 dX6_stands_39 rfl rfl ?_
    obtain ⟨hi_, hf⟩ := xo_if hf
    refine xt_iald (pc := 40) 45 rfl rfl hi_ dX6_stands_40 ?_
    obtain ⟨hi_, hf⟩ := xo_if hf
    refine xt_iast (pc := 41) 45 rfl rfl hi_ dX6_stands_41 ?_
    refine xr_iinc (pc := 42) (loc' := [(1, .int (x1 + 1)), (0, .ref m)]) 1 dX6_stands_42 rfl xci_1 (by decide) rfl ?_
    refine xr_goto (pc := 45) 23 dX6_stands_45 (by decide) ?_
    refine xV_sub [1, 0] rfl ?_
    exact kc _ (Option.some.inj hf).symm
def Bt_stands_50 (x1 : Int32) (τ : TS) : Option ((Int32 × TS) ⊕ ((TS))) :=
  if 2 ≤ x1 then
  some (.inr τ)
  else
  if xin x1 4 = true then
  if xin (2 + x1) 4 = true then
  if xin x1 4 = true then
  if xin (2 + x1) 4 = true then
  some (.inl (x1 + 1, sA (sA τ 55 (2 + x1).toNatClampNeg (tA τ 55 x1.toNatClampNeg)) 56 (2 + x1).toNatClampNeg (tA (sA τ 55 (2 + x1).toNatClampNeg (tA τ 55 x1.toNatClampNeg)) 56 x1.toNatClampNeg)))
  else none
  else none
  else none
  else none
theorem ok_Bt_stands_50 {D : TD} {m : Nat} {K : xK} {Z : Option Value × TS} {x1 : Int32} {τ : TS} {o_ : ((Int32 × TS) ⊕ ((TS)))} (hf : Bt_stands_50 x1 τ = some o_) (kc : ∀ s_ : Int32 × TS, o_ = .inl s_ → xV (wT D m) K mX6_stands (xQ (wT D m) K Z) s_.2 50 [(0, .ref m), (1, .int s_.1)] []) (ke0 : ∀ e_ : TS, o_ = .inr e_ → xV (wT D m) K mX6_stands (xQ (wT D m) K Z) e_ 89 [(0, .ref m)] []) : xV (wT D m) K mX6_stands (xQ (wT D m) K Z) τ 50 [(0, .ref m), (1, .int x1)] [] := by
  unfold Bt_stands_50 at hf
  refine xr_iload_n (pc := 50) 1 dX6_stands_50 rfl rfl ?_
  refine xr_iconst (pc := 51) dX6_stands_51 xci_2 ?_
  refine xr_icmp_ge (pc := 52) 89 dX6_stands_52 (by decide) (fun c_ => ?_) (fun c_ => ?_)
  · have hf := xo_pos c_ hf
    refine xV_sub [0] rfl ?_
    exact ke0 _ (Option.some.inj hf).symm
  · have hf := xo_neg c_ hf
    refine xr_aload_n (pc := 55) 0 dX6_stands_55 rfl rfl ?_
    refine xt_getA (pc := 56) 55 (by decide) q1801 rfl rfl rfl dX6_stands_56 ?_
    refine xr_iconst (pc := 59) dX6_stands_59 xci_2 ?_
    refine xr_iload_n (pc := 60) 1 dX6_stands_60 rfl rfl ?_
    refine xr_iadd (pc := 61) dX6_stands_61 ?_
    refine xr_aload_n (pc := 62) 0 dX6_stands_62 rfl rfl ?_
    refine xt_getA (pc := 63) 55 (by decide) q1801 rfl rfl rfl dX6_stands_63 ?_
    refine xr_iload_n (pc := 66) 1 dX6_stands_66 rfl rfl ?_
    obtain ⟨hi_, hf⟩ := xo_if hf
    refine xt_iald (pc := 67) 55 rfl rfl hi_ dX6_stands_67 ?_
    obtain ⟨hi_, hf⟩ := xo_if hf
    refine xt_iast (pc := 68) 55 rfl rfl hi_ dX6_stands_68 ?_
    refine xr_aload_n (pc := 69) 0 dX6_stands_69 rfl rfl ?_
    refine xt_getA (pc := 70) 56 (by decide) q1802 rfl rfl rfl dX6_stands_70 ?_
    refine xr_iconst (pc := 73) dX6_stands_73 xci_2 ?_
    refine xr_iload_n (pc := 74) 1 dX6_stands_74 rfl rfl ?_
    refine xr_iadd (pc := 75) dX6_stands_75 ?_
    refine xr_aload_n (pc := 76) 0 dX6_stands_76 rfl rfl ?_
    refine xt_getA (pc := 77) 56 (by decide) q1802 rfl rfl rfl dX6_stands_77 ?_
    refine xr_iload_n (pc := 80) 1 dX6_stands_80 rfl rfl ?_
    obtain ⟨hi_, hf⟩ := xo_if hf
    refine xt_iald (pc := 81) 56 rfl rfl hi_ dX6_stands_81 ?_
    obtain ⟨hi_, hf⟩ := xo_if hf
    refine xt_iast (pc := 82) 56 rfl rfl hi_ dX6_stands_82 ?_
    refine xr_iinc (pc := 83) (loc' := [(1, .int (x1 + 1)), (0, .ref m)]) 1 dX6_stands_83 rfl xci_1 (by decide) rfl ?_
    refine xr_goto (pc := 86) 50 dX6_stands_86 (by decide) ?_
    refine xV_sub [1, 0] rfl ?_
    exact kc _ (Option.some.inj hf).symm
def Bt_stands_91 (x1 : Int32) (τ : TS) : Option ((Int32 × TS) ⊕ ((TS))) :=
  if 5 ≤ x1 then
  some (.inr τ)
  else
  if xin x1 10 = true then
  if xin (5 + x1) 10 = true then
  some (.inl (x1 + 1, sM τ 48 (5 + x1).toNatClampNeg (tM τ 48 x1.toNatClampNeg)))
  else none
  else none
theorem ok_Bt_stands_91 {D : TD} {m : Nat} {K : xK} {Z : Option Value × TS} {x1 : Int32} {τ : TS} {o_ : ((Int32 × TS) ⊕ ((TS)))} (hf : Bt_stands_91 x1 τ = some o_) (kc : ∀ s_ : Int32 × TS, o_ = .inl s_ → xV (wT D m) K mX6_stands (xQ (wT D m) K Z) s_.2 91 [(0, .ref m), (1, .int s_.1)] []) (ke0 : ∀ e_ : TS, o_ = .inr e_ → xV (wT D m) K mX6_stands (xQ (wT D m) K Z) e_ 116 [(0, .ref m)] []) : xV (wT D m) K mX6_stands (xQ (wT D m) K Z) τ 91 [(0, .ref m), (1, .int x1)] [] := by
  unfold Bt_stands_91 at hf
  refine xr_iload_n (pc := 91) 1 dX6_stands_91 rfl rfl ?_
  refine xr_iconst (pc := 92) dX6_stands_92 xci_5 ?_
  refine xr_icmp_ge (pc := 93) 116 dX6_stands_93 (by decide) (fun c_ => ?_) (fun c_ => ?_)
  · have hf := xo_pos c_ hf
    refine xV_sub [0] rfl ?_
    exact ke0 _ (Option.some.inj hf).symm
  · have hf := xo_neg c_ hf
    refine xr_aload_n (pc := 96) 0 dX6_stands_96 rfl rfl ?_
    refine xt_getA (pc := 97) 48 (by decide) q1794 rfl rfl rfl dX6_stands_97 ?_
    refine xr_iconst (pc := 100) dX6_stands_100 xci_5 ?_
    refine xr_iload_n (pc := 101) 1 dX6_stands_101 rfl rfl ?_
    refine xr_iadd (pc := 102) dX6_stands_102 ?_
    refine xr_aload_n (pc := 103) 0 dX6_stands_103 rfl rfl ?_
    refine xt_getA (pc := 104) 48 (by decide) q1794 rfl rfl rfl dX6_stands_104 ?_
    refine xr_iload_n (pc := 107) 1 dX6_stands_107 rfl rfl ?_
    obtain ⟨hi_, hf⟩ := xo_if hf
    refine xt_lald (pc := 108) 48 rfl rfl hi_ dX6_stands_108 ?_
    obtain ⟨hi_, hf⟩ := xo_if hf
    refine xt_last (pc := 109) 48 rfl rfl hi_ dX6_stands_109 ?_
    refine xr_iinc (pc := 110) (loc' := [(1, .int (x1 + 1)), (0, .ref m)]) 1 dX6_stands_110 rfl xci_1 (by decide) rfl ?_
    refine xr_goto (pc := 113) 91 dX6_stands_113 (by decide) ?_
    refine xV_sub [1, 0] rfl ?_
    exact kc _ (Option.some.inj hf).symm
def Bt_stands_118 (x1 : Int32) (τ : TS) : Option ((Int32 × TS) ⊕ ((TS))) :=
  if 25 ≤ x1 then
  some (.inr τ)
  else
  if xin x1 50 = true then
  if xin (25 + x1) 50 = true then
  some (.inl (x1 + 1, sA τ 49 (25 + x1).toNatClampNeg (tA τ 49 x1.toNatClampNeg)))
  else none
  else none
theorem ok_Bt_stands_118 {D : TD} {m : Nat} {K : xK} {Z : Option Value × TS} {x1 : Int32} {τ : TS} {o_ : ((Int32 × TS) ⊕ ((TS)))} (hf : Bt_stands_118 x1 τ = some o_) (kc : ∀ s_ : Int32 × TS, o_ = .inl s_ → xV (wT D m) K mX6_stands (xQ (wT D m) K Z) s_.2 118 [(0, .ref m), (1, .int s_.1)] []) (ke0 : ∀ e_ : TS, o_ = .inr e_ → xV (wT D m) K mX6_stands (xQ (wT D m) K Z) e_ 145 [(0, .ref m)] []) : xV (wT D m) K mX6_stands (xQ (wT D m) K Z) τ 118 [(0, .ref m), (1, .int x1)] [] := by
  unfold Bt_stands_118 at hf
  refine xr_iload_n (pc := 118) 1 dX6_stands_118 rfl rfl ?_
  refine xr_bipush (pc := 119) dX6_stands_119 xcb_25 ?_
  refine xr_icmp_ge (pc := 121) 145 dX6_stands_121 (by decide) (fun c_ => ?_) (fun c_ => ?_)
  · have hf := xo_pos c_ hf
    refine xV_sub [0] rfl ?_
    exact ke0 _ (Option.some.inj hf).symm
  · have hf := xo_neg c_ hf
    refine xr_aload_n (pc := 124) 0 dX6_stands_124 rfl rfl ?_
    refine xt_getA (pc := 125) 49 (by decide) q1795 rfl rfl rfl dX6_stands_125 ?_
    refine xr_bipush (pc := 128) dX6_stands_128 xcb_25 ?_
    refine xr_iload_n (pc := 130) 1 dX6_stands_130 rfl rfl ?_
    refine xr_iadd (pc := 131) dX6_stands_131 ?_
    refine xr_aload_n (pc := 132) 0 dX6_stands_132 rfl rfl ?_
    refine xt_getA (pc := 133) 49 (by decide) q1795 rfl rfl rfl dX6_stands_133 ?_
    refine xr_iload_n (pc := 136) 1 dX6_stands_136 rfl rfl ?_
    obtain ⟨hi_, hf⟩ := xo_if hf
    refine xt_iald (pc := 137) 49 rfl rfl hi_ dX6_stands_137 ?_
    obtain ⟨hi_, hf⟩ := xo_if hf
    refine xt_iast (pc := 138) 49 rfl rfl hi_ dX6_stands_138 ?_
    refine xr_iinc (pc := 139) (loc' := [(1, .int (x1 + 1)), (0, .ref m)]) 1 dX6_stands_139 rfl xci_1 (by decide) rfl ?_
    refine xr_goto (pc := 142) 118 dX6_stands_142 (by decide) ?_
    refine xV_sub [1, 0] rfl ?_
    exact kc _ (Option.some.inj hf).symm
def Bt_stands_147 (x1 : Int32) (τ : TS) : Option ((Int32 × TS) ⊕ ((TS))) :=
  if (tI τ 58) ≤ x1 then
  some (.inr τ)
  else
  if xin x1 3200 = true then
  if xin (1600 + x1) 3200 = true then
  some (.inl (x1 + 1, sA τ 57 (1600 + x1).toNatClampNeg (tA τ 57 x1.toNatClampNeg)))
  else none
  else none
theorem ok_Bt_stands_147 {D : TD} {m : Nat} {K : xK} {Z : Option Value × TS} {x1 : Int32} {τ : TS} {o_ : ((Int32 × TS) ⊕ ((TS)))} (hf : Bt_stands_147 x1 τ = some o_) (kc : ∀ s_ : Int32 × TS, o_ = .inl s_ → xV (wT D m) K mX6_stands (xQ (wT D m) K Z) s_.2 147 [(0, .ref m), (1, .int s_.1)] []) (ke0 : ∀ e_ : TS, o_ = .inr e_ → xV (wT D m) K mX6_stands (xQ (wT D m) K Z) e_ 177 [(0, .ref m)] []) : xV (wT D m) K mX6_stands (xQ (wT D m) K Z) τ 147 [(0, .ref m), (1, .int x1)] [] := by
  unfold Bt_stands_147 at hf
  refine xr_iload_n (pc := 147) 1 dX6_stands_147 rfl rfl ?_
  refine xr_aload_n (pc := 148) 0 dX6_stands_148 rfl rfl ?_
  refine xt_getI (pc := 149) 58 (by decide) q1804 rfl rfl rfl dX6_stands_149 ?_
  refine xr_icmp_ge (pc := 152) 177 dX6_stands_152 (by decide) (fun c_ => ?_) (fun c_ => ?_)
  · have hf := xo_pos c_ hf
    refine xV_sub [0] rfl ?_
    exact ke0 _ (Option.some.inj hf).symm
  · have hf := xo_neg c_ hf
    refine xr_aload_n (pc := 155) 0 dX6_stands_155 rfl rfl ?_
    refine xt_getA (pc := 156) 57 (by decide) q1803 rfl rfl rfl dX6_stands_156 ?_
    refine xr_sipush (pc := 159) dX6_stands_159 xcs_1600 ?_
    refine xr_iload_n (pc := 162) 1 dX6_stands_162 rfl rfl ?_
    refine xr_iadd (pc := 163) dX6_stands_163 ?_
    refine xr_aload_n (pc := 164) 0 dX6_stands_164 rfl rfl ?_
    refine xt_getA (pc := 165) 57 (by decide) q1803 rfl rfl rfl dX6_stands_165 ?_
    refine xr_iload_n (pc := 168) 1 dX6_stands_168 rfl rfl ?_
    obtain ⟨hi_, hf⟩ := xo_if hf
    refine xt_iald (pc := 169) 57 rfl rfl hi_ dX6_stands_169 ?_
    obtain ⟨hi_, hf⟩ := xo_if hf
    refine xt_iast (pc := 170) 57 rfl rfl hi_ dX6_stands_170 ?_
    refine xr_iinc (pc := 171) (loc' := [(1, .int (x1 + 1)), (0, .ref m)]) 1 dX6_stands_171 rfl xci_1 (by decide) rfl ?_
    refine xr_goto (pc := 174) 147 dX6_stands_174 (by decide) ?_
    refine xV_sub [1, 0] rfl ?_
    exact kc _ (Option.some.inj hf).symm
def Bt_stands_179 (x1 : Int32) (τ : TS) : Option ((Int32 × TS) ⊕ ((TS))) :=
  if 303 ≤ x1 then
  some (.inr τ)
  else
  if xin x1 303 = true then
  some (.inl (x1 + 1, sA τ 62 x1.toNatClampNeg 0))
  else none
theorem ok_Bt_stands_179 {D : TD} {m : Nat} {K : xK} {Z : Option Value × TS} {x1 : Int32} {τ : TS} {o_ : ((Int32 × TS) ⊕ ((TS)))} (hf : Bt_stands_179 x1 τ = some o_) (kc : ∀ s_ : Int32 × TS, o_ = .inl s_ → xV (wT D m) K mX6_stands (xQ (wT D m) K Z) s_.2 179 [(0, .ref m), (1, .int s_.1)] []) (ke0 : ∀ e_ : TS, o_ = .inr e_ → xV (wT D m) K mX6_stands (xQ (wT D m) K Z) e_ 199 [(0, .ref m)] []) : xV (wT D m) K mX6_stands (xQ (wT D m) K Z) τ 179 [(0, .ref m), (1, .int x1)] [] := by
  unfold Bt_stands_179 at hf
  refine xr_iload_n (pc := 179) 1 dX6_stands_179 rfl rfl ?_
  refine xr_sipush (pc := 180) dX6_stands_180 xcs_303 ?_
  refine xr_icmp_ge (pc := 183) 199 dX6_stands_183 (by decide) (fun c_ => ?_) (fun c_ => ?_)
  · have hf := xo_pos c_ hf
    refine xV_sub [0] rfl ?_
    exact ke0 _ (Option.some.inj hf).symm
  · have hf := xo_neg c_ hf
    refine xr_aload_n (pc := 186) 0 dX6_stands_186 rfl rfl ?_
    refine xt_getA (pc := 187) 62 (by decide) q1808 rfl rfl rfl dX6_stands_187 ?_
    refine xr_iload_n (pc := 190) 1 dX6_stands_190 rfl rfl ?_
    refine xr_iconst (pc := 191) dX6_stands_191 xci_0 ?_
    obtain ⟨hi_, hf⟩ := xo_if hf
    refine xt_iast (pc := 192) 62 rfl rfl hi_ dX6_stands_192 ?_
    refine xr_iinc (pc := 193) (loc' := [(1, .int (x1 + 1)), (0, .ref m)]) 1 dX6_stands_193 rfl xci_1 (by decide) rfl ?_
    refine xr_goto (pc := 196) 179 dX6_stands_196 (by decide) ?_
    refine xV_sub [1, 0] rfl ?_
    exact kc _ (Option.some.inj hf).symm
def Bt_stands_201 (x1 : Int32) (τ : TS) : Option ((Int32 × TS) ⊕ ((TS))) :=
  if 10 ≤ x1 then
  some (.inr τ)
  else
  if xin x1 10 = true then
  if xin (2 + x1) 303 = true then
  some (.inl (x1 + 1, sA τ 62 (2 + x1).toNatClampNeg (tA τ 51 x1.toNatClampNeg)))
  else none
  else none
theorem ok_Bt_stands_201 {D : TD} {m : Nat} {K : xK} {Z : Option Value × TS} {x1 : Int32} {τ : TS} {o_ : ((Int32 × TS) ⊕ ((TS)))} (hf : Bt_stands_201 x1 τ = some o_) (kc : ∀ s_ : Int32 × TS, o_ = .inl s_ → xV (wT D m) K mX6_stands (xQ (wT D m) K Z) s_.2 201 [(0, .ref m), (1, .int s_.1)] []) (ke0 : ∀ e_ : TS, o_ = .inr e_ → xV (wT D m) K mX6_stands (xQ (wT D m) K Z) e_ 227 [(0, .ref m)] []) : xV (wT D m) K mX6_stands (xQ (wT D m) K Z) τ 201 [(0, .ref m), (1, .int x1)] [] := by
  unfold Bt_stands_201 at hf
  refine xr_iload_n (pc := 201) 1 dX6_stands_201 rfl rfl ?_
  refine xr_bipush (pc := 202) dX6_stands_202 xcb_10 ?_
  refine xr_icmp_ge (pc := 204) 227 dX6_stands_204 (by decide) (fun c_ => ?_) (fun c_ => ?_)
  · have hf := xo_pos c_ hf
    refine xV_sub [0] rfl ?_
    exact ke0 _ (Option.some.inj hf).symm
  · have hf := xo_neg c_ hf
    refine xr_aload_n (pc := 207) 0 dX6_stands_207 rfl rfl ?_
    refine xt_getA (pc := 208) 62 (by decide) q1808 rfl rfl rfl dX6_stands_208 ?_
    refine xr_iconst (pc := 211) dX6_stands_211 xci_2 ?_
    refine xr_iload_n (pc := 212) 1 dX6_stands_212 rfl rfl ?_
    refine xr_iadd (pc := 213) dX6_stands_213 ?_
    refine xr_aload_n (pc := 214) 0 dX6_stands_214 rfl rfl ?_
    refine xt_getA (pc := 215) 51 (by decide) q1797 rfl rfl rfl dX6_stands_215 ?_
    refine xr_iload_n (pc := 218) 1 dX6_stands_218 rfl rfl ?_
    obtain ⟨hi_, hf⟩ := xo_if hf
    refine xt_iald (pc := 219) 51 rfl rfl hi_ dX6_stands_219 ?_
    obtain ⟨hi_, hf⟩ := xo_if hf
    refine xt_iast (pc := 220) 62 rfl rfl hi_ dX6_stands_220 ?_
    refine xr_iinc (pc := 221) (loc' := [(1, .int (x1 + 1)), (0, .ref m)]) 1 dX6_stands_221 rfl xci_1 (by decide) rfl ?_
    refine xr_goto (pc := 224) 201 dX6_stands_224 (by decide) ?_
    refine xV_sub [1, 0] rfl ?_
    exact kc _ (Option.some.inj hf).symm
def Bt_stands_229 (x1 : Int32) (τ : TS) : Option ((Int32 × TS) ⊕ ((TS))) :=
  if 80 ≤ x1 then
  some (.inr τ)
  else
  if xin x1 160 = true then
  if xin (80 + x1) 160 = true then
  if xin x1 80 = true then
  if xin (12 + x1) 303 = true then
  some (.inl (x1 + 1, sA (sA τ 50 (80 + x1).toNatClampNeg (tA τ 50 x1.toNatClampNeg)) 62 (12 + x1).toNatClampNeg (tA (sA τ 50 (80 + x1).toNatClampNeg (tA τ 50 x1.toNatClampNeg)) 52 x1.toNatClampNeg)))
  else none
  else none
  else none
  else none
theorem ok_Bt_stands_229 {D : TD} {m : Nat} {K : xK} {Z : Option Value × TS} {x1 : Int32} {τ : TS} {o_ : ((Int32 × TS) ⊕ ((TS)))} (hf : Bt_stands_229 x1 τ = some o_) (kc : ∀ s_ : Int32 × TS, o_ = .inl s_ → xV (wT D m) K mX6_stands (xQ (wT D m) K Z) s_.2 229 [(0, .ref m), (1, .int s_.1)] []) (ke0 : ∀ e_ : TS, o_ = .inr e_ → xV (wT D m) K mX6_stands (xQ (wT D m) K Z) e_ 271 [(0, .ref m)] []) : xV (wT D m) K mX6_stands (xQ (wT D m) K Z) τ 229 [(0, .ref m), (1, .int x1)] [] := by
  unfold Bt_stands_229 at hf
  refine xr_iload_n (pc := 229) 1 dX6_stands_229 rfl rfl ?_
  refine xr_bipush (pc := 230) dX6_stands_230 xcb_80 ?_
  refine xr_icmp_ge (pc := 232) 271 dX6_stands_232 (by decide) (fun c_ => ?_) (fun c_ => ?_)
  · have hf := xo_pos c_ hf
    refine xV_sub [0] rfl ?_
    exact ke0 _ (Option.some.inj hf).symm
  · have hf := xo_neg c_ hf
    refine xr_aload_n (pc := 235) 0 dX6_stands_235 rfl rfl ?_
    refine xt_getA (pc := 236) 50 (by decide) q1796 rfl rfl rfl dX6_stands_236 ?_
    refine xr_bipush (pc := 239) dX6_stands_239 xcb_80 ?_
    refine xr_iload_n (pc := 241) 1 dX6_stands_241 rfl rfl ?_
    refine xr_iadd (pc := 242) dX6_stands_242 ?_
    refine xr_aload_n (pc := 243) 0 dX6_stands_243 rfl rfl ?_
    refine xt_getA (pc := 244) 50 (by decide) q1796 rfl rfl rfl dX6_stands_244 ?_
    refine xr_iload_n (pc := 247) 1 dX6_stands_247 rfl rfl ?_
    obtain ⟨hi_, hf⟩ := xo_if hf
    refine xt_iald (pc := 248) 50 rfl rfl hi_ dX6_stands_248 ?_
    obtain ⟨hi_, hf⟩ := xo_if hf
    refine xt_iast (pc := 249) 50 rfl rfl hi_ dX6_stands_249 ?_
    refine xr_aload_n (pc := 250) 0 dX6_stands_250 rfl rfl ?_
    refine xt_getA (pc := 251) 62 (by decide) q1808 rfl rfl rfl dX6_stands_251 ?_
    refine xr_bipush (pc := 254) dX6_stands_254 xcb_12 ?_
    refine xr_iload_n (pc := 256) 1 dX6_stands_256 rfl rfl ?_
    refine xr_iadd (pc := 257) dX6_stands_257 ?_
    refine xr_aload_n (pc := 258) 0 dX6_stands_258 rfl rfl ?_
    refine xt_getA (pc := 259) 52 (by decide) q1798 rfl rfl rfl dX6_stands_259 ?_
    refine xr_iload_n (pc := 262) 1 dX6_stands_262 rfl rfl ?_
    obtain ⟨hi_, hf⟩ := xo_if hf
    refine xt_iald (pc := 263) 52 rfl rfl hi_ dX6_stands_263 ?_
    obtain ⟨hi_, hf⟩ := xo_if hf
    refine xt_iast (pc := 264) 62 rfl rfl hi_ dX6_stands_264 ?_
    refine xr_iinc (pc := 265) (loc' := [(1, .int (x1 + 1)), (0, .ref m)]) 1 dX6_stands_265 rfl xci_1 (by decide) rfl ?_
    refine xr_goto (pc := 268) 229 dX6_stands_268 (by decide) ?_
    refine xV_sub [1, 0] rfl ?_
    exact kc _ (Option.some.inj hf).symm
def Bt_stands_273 (x1 : Int32) (τ : TS) : Option ((Int32 × TS) ⊕ ((TS))) :=
  if (tI τ 47) ≤ x1 then
  some (.inr τ)
  else
  if xin (172 + (2 * x1)) 303 = true then
  if xin ((5 * x1) + 4) 50 = true then
  if xin ((172 + (2 * x1)) + 1) 303 = true then
  some (.inl (x1 + 1, sA (sA τ 62 (172 + (2 * x1)).toNatClampNeg 1) 62 ((172 + (2 * x1)) + 1).toNatClampNeg (tA (sA τ 62 (172 + (2 * x1)).toNatClampNeg 1) 49 ((5 * x1) + 4).toNatClampNeg)))
  else none
  else none
  else none
theorem ok_Bt_stands_273 {D : TD} {m : Nat} {K : xK} {Z : Option Value × TS} {x1 : Int32} {τ : TS} {o_ : ((Int32 × TS) ⊕ ((TS)))} (hf : Bt_stands_273 x1 τ = some o_) (kc : ∀ s_ : Int32 × TS, o_ = .inl s_ → xV (wT D m) K mX6_stands (xQ (wT D m) K Z) s_.2 273 [(0, .ref m), (1, .int s_.1)] []) (ke0 : ∀ e_ : TS, o_ = .inr e_ → xV (wT D m) K mX6_stands (xQ (wT D m) K Z) e_ 324 [(0, .ref m)] []) : xV (wT D m) K mX6_stands (xQ (wT D m) K Z) τ 273 [(0, .ref m), (1, .int x1)] [] := by
  unfold Bt_stands_273 at hf
  refine xr_iload_n (pc := 273) 1 dX6_stands_273 rfl rfl ?_
  refine xr_aload_n (pc := 274) 0 dX6_stands_274 rfl rfl ?_
  refine xt_getI (pc := 275) 47 (by decide) q1793 rfl rfl rfl dX6_stands_275 ?_
  refine xr_icmp_ge (pc := 278) 324 dX6_stands_278 (by decide) (fun c_ => ?_) (fun c_ => ?_)
  · have hf := xo_pos c_ hf
    refine xV_sub [0] rfl ?_
    exact ke0 _ (Option.some.inj hf).symm
  · have hf := xo_neg c_ hf
    refine xr_aload_n (pc := 281) 0 dX6_stands_281 rfl rfl ?_
    refine xt_getA (pc := 282) 62 (by decide) q1808 rfl rfl rfl dX6_stands_282 ?_
    refine xr_sipush (pc := 285) dX6_stands_285 xcs_172 ?_
    refine xr_iconst (pc := 288) dX6_stands_288 xci_2 ?_
    refine xr_iload_n (pc := 289) 1 dX6_stands_289 rfl rfl ?_
    refine xr_imul (pc := 290) dX6_stands_290 ?_
    refine xr_iadd (pc := 291) dX6_stands_291 ?_
    refine xr_iconst (pc := 292) dX6_stands_292 xci_1 ?_
    obtain ⟨hi_, hf⟩ := xo_if hf
    refine xt_iast (pc := 293) 62 rfl rfl hi_ dX6_stands_293 ?_
    refine xr_aload_n (pc := 294) 0 dX6_stands_294 rfl rfl ?_
    refine xt_getA (pc := 295) 62 (by decide) q1808 rfl rfl rfl dX6_stands_295 ?_
    refine xr_sipush (pc := 298) dX6_stands_298 xcs_172 ?_
    refine xr_iconst (pc := 301) dX6_stands_301 xci_2 ?_
    refine xr_iload_n (pc := 302) 1 dX6_stands_302 rfl rfl ?_
    refine xr_imul (pc := 303) dX6_stands_303 ?_
    refine xr_iadd (pc := 304) dX6_stands_304 ?_
    refine xr_iconst (pc := 305) dX6_stands_305 xci_1 ?_
    refine xr_iadd (pc := 306) dX6_stands_306 ?_
    refine xr_aload_n (pc := 307) 0 dX6_stands_307 rfl rfl ?_
    refine xt_getA (pc := 308) 49 (by decide) q1795 rfl rfl rfl dX6_stands_308 ?_
    refine xr_iconst (pc := 311) dX6_stands_311 xci_5 ?_
    refine xr_iload_n (pc := 312) 1 dX6_stands_312 rfl rfl ?_
    refine xr_imul (pc := 313) dX6_stands_313 ?_
    refine xr_iconst (pc := 314) dX6_stands_314 xci_4 ?_
    refine xr_iadd (pc := 315) dX6_stands_315 ?_
    obtain ⟨hi_, hf⟩ := xo_if hf
    refine xt_iald (pc := 316) 49 rfl rfl hi_ dX6_stands_316 ?_
    obtain ⟨hi_, hf⟩ := xo_if hf
    refine xt_iast (pc := 317) 62 rfl rfl hi_ dX6_stands_317 ?_
    refine xr_iinc (pc := 318) (loc' := [(1, .int (x1 + 1)), (0, .ref m)]) 1 dX6_stands_318 rfl xci_1 (by decide) rfl ?_
    refine xr_goto (pc := 321) 273 dX6_stands_321 (by decide) ?_
    refine xV_sub [1, 0] rfl ?_
    exact kc _ (Option.some.inj hf).symm
def f_t_stands (τ : TS) : Option TS :=
  (itr (fun s_ : Int32 × TS => Bt_stands_23 s_.1 s_.2) 4096 (0, sI (sI (sI τ 60 1) 47 (tI (sI τ 60 1) 46)) 54 (tI (sI (sI τ 60 1) 47 (tI (sI τ 60 1) 46)) 53))).bind fun b1 =>
  (itr (fun s_ : Int32 × TS => Bt_stands_50 s_.1 s_.2) 4096 (0, b1)).bind fun b2 =>
  (itr (fun s_ : Int32 × TS => Bt_stands_91 s_.1 s_.2) 4096 (0, b2)).bind fun b3 =>
  (itr (fun s_ : Int32 × TS => Bt_stands_118 s_.1 s_.2) 4096 (0, b3)).bind fun b4 =>
  (itr (fun s_ : Int32 × TS => Bt_stands_147 s_.1 s_.2) 4096 (0, b4)).bind fun b5 =>
  (itr (fun s_ : Int32 × TS => Bt_stands_179 s_.1 s_.2) 4096 (0, b5)).bind fun b6 =>
  (itr (fun s_ : Int32 × TS => Bt_stands_201 s_.1 s_.2) 4096 (0, b6)).bind fun b7 =>
  (itr (fun s_ : Int32 × TS => Bt_stands_229 s_.1 s_.2) 4096 (0, b7)).bind fun b8 =>
  (itr (fun s_ : Int32 × TS => Bt_stands_273 s_.1 s_.2) 4096 (0, b8)).bind fun b9 =>
  some (sI (sI b9 85 0) 79 0)
theorem ok_f_t_stands {D : TD} {m : Nat} {K : xK} {Z : Option Value × TS} {τ : TS} {o_ : TS} (hf : f_t_stands τ = some o_) (kr : ∀ r_ : TS, o_ = r_ → Z = (none, r_)) : xV (wT D m) K mX6_stands (xQ (wT D m) K Z) τ 0 [(0, .ref m)] [] := by
  unfold f_t_stands at hf
  refine xr_aload_n (pc := 0) 0 dX6_stands_0 rfl rfl ?_
  refine xr_iconst (pc := 1) dX6_stands_1 xci_1 ?_
  refine xt_putZ (pc := 2) 60 (by decide) q1806 rfl rfl rfl (by decide +kernel) (by decide) (by decide) rfl dX6_stands_2 ?_
  refine xr_aload_n (pc := 5) 0 dX6_stands_5 rfl rfl ?_
  refine xr_aload_n (pc := 6) 0 dX6_stands_6 rfl rfl ?_
  refine xt_getI (pc := 7) 46 (by decide) q1792 rfl rfl rfl dX6_stands_7 ?_
  refine xt_putI (pc := 10) 47 (by decide) q1793 rfl rfl rfl (by decide +kernel) rfl dX6_stands_10 ?_
  refine xr_aload_n (pc := 13) 0 dX6_stands_13 rfl rfl ?_
  refine xr_aload_n (pc := 14) 0 dX6_stands_14 rfl rfl ?_
  refine xt_getI (pc := 15) 53 (by decide) q1799 rfl rfl rfl dX6_stands_15 ?_
  refine xt_putI (pc := 18) 54 (by decide) q1800 rfl rfl rfl (by decide +kernel) rfl dX6_stands_18 ?_
  refine xr_iconst (pc := 21) dX6_stands_21 xci_0 ?_
  refine xr_istore_n (pc := 22) (loc' := [(1, .int 0), (0, .ref m)]) dX6_stands_22 rfl (by decide) rfl ?_
  refine xV_sub [1, 0] rfl ?_
  obtain ⟨b1, hb1, hf⟩ := xo_bind hf
  refine itr_rule (P := fun s_ : Int32 × TS => xV (wT D m) K mX6_stands (xQ (wT D m) K Z) s_.2 23 [(0, .ref m), (1, .int s_.1)] []) (fun s_ o_ hB_ hc_ he_ => ok_Bt_stands_23 hB_ hc_ (fun e_ h_ => ?_)) 4096 _ hb1
  · have e9_ := he_ _ h_
    rw [e9_]
    refine xr_iconst (pc := 48) dX6_stands_48 xci_0 ?_
    refine xr_istore_n (pc := 49) (loc' := [(1, .int 0), (0, .ref m)]) dX6_stands_49 rfl (by decide) rfl ?_
    refine xV_sub [1, 0] rfl ?_
    obtain ⟨b2, hb2, hf⟩ := xo_bind hf
    refine itr_rule (P := fun s_ : Int32 × TS => xV (wT D m) K mX6_stands (xQ (wT D m) K Z) s_.2 50 [(0, .ref m), (1, .int s_.1)] []) (fun s_ o_ hB_ hc_ he_ => ok_Bt_stands_50 hB_ hc_ (fun e_ h_ => ?_)) 4096 _ hb2
    · have e9_ := he_ _ h_
      rw [e9_]
      refine xr_iconst (pc := 89) dX6_stands_89 xci_0 ?_
      refine xr_istore_n (pc := 90) (loc' := [(1, .int 0), (0, .ref m)]) dX6_stands_90 rfl (by decide) rfl ?_
      refine xV_sub [1, 0] rfl ?_
      obtain ⟨b3, hb3, hf⟩ := xo_bind hf
      refine itr_rule (P := fun s_ : Int32 × TS => xV (wT D m) K mX6_stands (xQ (wT D m) K Z) s_.2 91 [(0, .ref m), (1, .int s_.1)] []) (fun s_ o_ hB_ hc_ he_ => ok_Bt_stands_91 hB_ hc_ (fun e_ h_ => ?_)) 4096 _ hb3
      · have e9_ := he_ _ h_
        rw [e9_]
        refine xr_iconst (pc := 116) dX6_stands_116 xci_0 ?_
        refine xr_istore_n (pc := 117) (loc' := [(1, .int 0), (0, .ref m)]) dX6_stands_117 rfl (by decide) rfl ?_
        refine xV_sub [1, 0] rfl ?_
        obtain ⟨b4, hb4, hf⟩ := xo_bind hf
        refine itr_rule (P := fun s_ : Int32 × TS => xV (wT D m) K mX6_stands (xQ (wT D m) K Z) s_.2 118 [(0, .ref m), (1, .int s_.1)] []) (fun s_ o_ hB_ hc_ he_ => ok_Bt_stands_118 hB_ hc_ (fun e_ h_ => ?_)) 4096 _ hb4
        · have e9_ := he_ _ h_
          rw [e9_]
          refine xr_iconst (pc := 145) dX6_stands_145 xci_0 ?_
          refine xr_istore_n (pc := 146) (loc' := [(1, .int 0), (0, .ref m)]) dX6_stands_146 rfl (by decide) rfl ?_
          refine xV_sub [1, 0] rfl ?_
          obtain ⟨b5, hb5, hf⟩ := xo_bind hf
          refine itr_rule (P := fun s_ : Int32 × TS => xV (wT D m) K mX6_stands (xQ (wT D m) K Z) s_.2 147 [(0, .ref m), (1, .int s_.1)] []) (fun s_ o_ hB_ hc_ he_ => ok_Bt_stands_147 hB_ hc_ (fun e_ h_ => ?_)) 4096 _ hb5
          · have e9_ := he_ _ h_
            rw [e9_]
            refine xr_iconst (pc := 177) dX6_stands_177 xci_0 ?_
            refine xr_istore_n (pc := 178) (loc' := [(1, .int 0), (0, .ref m)]) dX6_stands_178 rfl (by decide) rfl ?_
            refine xV_sub [1, 0] rfl ?_
            obtain ⟨b6, hb6, hf⟩ := xo_bind hf
            refine itr_rule (P := fun s_ : Int32 × TS => xV (wT D m) K mX6_stands (xQ (wT D m) K Z) s_.2 179 [(0, .ref m), (1, .int s_.1)] []) (fun s_ o_ hB_ hc_ he_ => ok_Bt_stands_179 hB_ hc_ (fun e_ h_ => ?_)) 4096 _ hb6
            · have e9_ := he_ _ h_
              rw [e9_]
              refine xr_iconst (pc := 199) dX6_stands_199 xci_0 ?_
              refine xr_istore_n (pc := 200) (loc' := [(1, .int 0), (0, .ref m)]) dX6_stands_200 rfl (by decide) rfl ?_
              refine xV_sub [1, 0] rfl ?_
              obtain ⟨b7, hb7, hf⟩ := xo_bind hf
              refine itr_rule (P := fun s_ : Int32 × TS => xV (wT D m) K mX6_stands (xQ (wT D m) K Z) s_.2 201 [(0, .ref m), (1, .int s_.1)] []) (fun s_ o_ hB_ hc_ he_ => ok_Bt_stands_201 hB_ hc_ (fun e_ h_ => ?_)) 4096 _ hb7
              · have e9_ := he_ _ h_
                rw [e9_]
                refine xr_iconst (pc := 227) dX6_stands_227 xci_0 ?_
                refine xr_istore_n (pc := 228) (loc' := [(1, .int 0), (0, .ref m)]) dX6_stands_228 rfl (by decide) rfl ?_
                refine xV_sub [1, 0] rfl ?_
                obtain ⟨b8, hb8, hf⟩ := xo_bind hf
                refine itr_rule (P := fun s_ : Int32 × TS => xV (wT D m) K mX6_stands (xQ (wT D m) K Z) s_.2 229 [(0, .ref m), (1, .int s_.1)] []) (fun s_ o_ hB_ hc_ he_ => ok_Bt_stands_229 hB_ hc_ (fun e_ h_ => ?_)) 4096 _ hb8
                · have e9_ := he_ _ h_
                  rw [e9_]
                  refine xr_iconst (pc := 271) dX6_stands_271 xci_0 ?_
                  refine xr_istore_n (pc := 272) (loc' := [(1, .int 0), (0, .ref m)]) dX6_stands_272 rfl (by decide) rfl ?_
                  refine xV_sub [1, 0] rfl ?_
                  obtain ⟨b9, hb9, hf⟩ := xo_bind hf
                  refine itr_rule (P := fun s_ : Int32 × TS => xV (wT D m) K mX6_stands (xQ (wT D m) K Z) s_.2 273 [(0, .ref m), (1, .int s_.1)] []) (fun s_ o_ hB_ hc_ he_ => ok_Bt_stands_273 hB_ hc_ (fun e_ h_ => ?_)) 4096 _ hb9
                  · have e9_ := he_ _ h_
                    rw [e9_]
                    refine xr_aload_n (pc := 324) 0 dX6_stands_324 rfl rfl ?_
                    refine xr_iconst (pc := 325) dX6_stands_325 xci_0 ?_
                    refine xt_putI (pc := 326) 85 (by decide) q1831 rfl rfl rfl (by decide +kernel) rfl dX6_stands_326 ?_
                    refine xr_aload_n (pc := 329) 0 dX6_stands_329 rfl rfl ?_
                    refine xr_iconst (pc := 330) dX6_stands_330 xci_0 ?_
                    refine xt_putI (pc := 331) 79 (by decide) q1825 rfl rfl rfl (by decide +kernel) rfl dX6_stands_331 ?_
                    rw [kr _ (Option.some.inj hf).symm]
                    exact xr_vret (pc := 334) dX6_stands_334 rfl
theorem met_f_t_stands (l : Launch) {D : TD} {m : Nat} {τ : TS} {o_ : TS} (hf : f_t_stands τ = some o_) : xMet (wT D m) l yX6_stands (ws_ yX6_stands cX6_stands 2 none) 0 0 0 0 [.ref m] τ (none, o_) :=
  xMet_of (by decide) (Nat.le_of_ble_eq_true rfl) KT_moved (fun _ _ => trivial) (fun K _ _ _ => ok_f_t_stands hf (fun _ h => by rw [h]))
theorem hd_f_t_stands : yX6_stands.cls = RX6 ∧ yX6_stands.cls ≠ "java/lang/invoke/MethodHandle" ∧ yX6_stands.cls ≠ "java/lang/invoke/VarHandle" ∧ (parseMethodDescriptor yX6_stands.desc).map (fun d => d.parameters.length) = some 0 := by decide +kernel
theorem call_f_t_stands {D : TD} {m : Nat} {K : xK} {M : xM} {Q : State → Prop} {τ : TS} {pc : Nat} {loc : List (Nat × Value)} {st : List Value} {τ1 : TS} (hf : f_t_stands τ = some τ1) (ho : M.2.2.1 = RX6) (hfr : 1 ≤ M.2.2.2.1) (hlo : 21 ≤ M.2.2.2.2.1) (hcat : (st.map fun v => v.category).sum ≤ 8) (d : decode M.1 pc = .ok (.invokevirtual 437, 3)) (k : xV (wT D m) K M Q τ1 (pc + 3) loc st) : xV (wT D m) K M Q τ pc loc (.ref m :: st) :=
  xr_callV (As := []) (rest := st) (met_f_t_stands K.2.1 hf) (lw_V q2321 q2323 qs104 q186 q2324) hd_f_t_stands ho hfr hlo rfl (fun H hR hK => t_recv H hR hK) rfl hcat d k
abbrev mX6_valley : xM := (cX6_valley, 2, RX6, 11, 660, (some .int), "valley")
def Bt_valley_64 (x1 : Int32) (τ : TS) : Option ((Int32 × TS) ⊕ ((TS))) :=
  if 10 ≤ x1 then
  some (.inr τ)
  else
  if xin x1 10 = true then
  some (.inl (x1 + 1, sA τ 51 x1.toNatClampNeg 0))
  else none
theorem ok_Bt_valley_64 {D : TD} {m : Nat} {K : xK} {Z : Option Value × TS} {x1 : Int32} {τ : TS} {o_ : ((Int32 × TS) ⊕ ((TS)))} (hf : Bt_valley_64 x1 τ = some o_) (kc : ∀ s_ : Int32 × TS, o_ = .inl s_ → xV (wT D m) K mX6_valley (xQ (wT D m) K Z) s_.2 64 [(0, .ref m), (1, .int s_.1)] []) (ke0 : ∀ e_ : TS, o_ = .inr e_ → xV (wT D m) K mX6_valley (xQ (wT D m) K Z) e_ 83 [(0, .ref m)] []) : xV (wT D m) K mX6_valley (xQ (wT D m) K Z) τ 64 [(0, .ref m), (1, .int x1)] [] := by
  unfold Bt_valley_64 at hf
  refine xr_iload_n (pc := 64) 1 dX6_valley_64 rfl rfl ?_
  refine xr_bipush (pc := 65) dX6_valley_65 xcb_10 ?_
  refine xr_icmp_ge (pc := 67) 83 dX6_valley_67 (by decide) (fun c_ => ?_) (fun c_ => ?_)
  · have hf := xo_pos c_ hf
    refine xV_sub [0] rfl ?_
    exact ke0 _ (Option.some.inj hf).symm
  · have hf := xo_neg c_ hf
    refine xr_aload_n (pc := 70) 0 dX6_valley_70 rfl rfl ?_
    refine xt_getA (pc := 71) 51 (by decide) q1797 rfl rfl rfl dX6_valley_71 ?_
    refine xr_iload_n (pc := 74) 1 dX6_valley_74 rfl rfl ?_
    refine xr_iconst (pc := 75) dX6_valley_75 xci_0 ?_
    obtain ⟨hi_, hf⟩ := xo_if hf
    refine xt_iast (pc := 76) 51 rfl rfl hi_ dX6_valley_76 ?_
    refine xr_iinc (pc := 77) (loc' := [(1, .int (x1 + 1)), (0, .ref m)]) 1 dX6_valley_77 rfl xci_1 (by decide) rfl ?_
    refine xr_goto (pc := 80) 64 dX6_valley_80 (by decide) ?_
    refine xV_sub [1, 0] rfl ?_
    exact kc _ (Option.some.inj hf).symm
def Bt_valley_85 (x1 : Int32) (τ : TS) : Option ((Int32 × TS) ⊕ ((TS))) :=
  if 80 ≤ x1 then
  some (.inr τ)
  else
  if xin x1 160 = true then
  if xin x1 80 = true then
  some (.inl (x1 + 1, sA (sA τ 50 x1.toNatClampNeg 5) 52 x1.toNatClampNeg 0))
  else none
  else none
theorem ok_Bt_valley_85 {D : TD} {m : Nat} {K : xK} {Z : Option Value × TS} {x1 : Int32} {τ : TS} {o_ : ((Int32 × TS) ⊕ ((TS)))} (hf : Bt_valley_85 x1 τ = some o_) (kc : ∀ s_ : Int32 × TS, o_ = .inl s_ → xV (wT D m) K mX6_valley (xQ (wT D m) K Z) s_.2 85 [(0, .ref m), (1, .int s_.1)] []) (ke0 : ∀ e_ : TS, o_ = .inr e_ → xV (wT D m) K mX6_valley (xQ (wT D m) K Z) e_ 111 [(0, .ref m)] []) : xV (wT D m) K mX6_valley (xQ (wT D m) K Z) τ 85 [(0, .ref m), (1, .int x1)] [] := by
  unfold Bt_valley_85 at hf
  refine xr_iload_n (pc := 85) 1 dX6_valley_85 rfl rfl ?_
  refine xr_bipush (pc := 86) dX6_valley_86 xcb_80 ?_
  refine xr_icmp_ge (pc := 88) 111 dX6_valley_88 (by decide) (fun c_ => ?_) (fun c_ => ?_)
  · have hf := xo_pos c_ hf
    refine xV_sub [0] rfl ?_
    exact ke0 _ (Option.some.inj hf).symm
  · have hf := xo_neg c_ hf
    refine xr_aload_n (pc := 91) 0 dX6_valley_91 rfl rfl ?_
    refine xt_getA (pc := 92) 50 (by decide) q1796 rfl rfl rfl dX6_valley_92 ?_
    refine xr_iload_n (pc := 95) 1 dX6_valley_95 rfl rfl ?_
    refine xr_iconst (pc := 96) dX6_valley_96 xci_5 ?_
    obtain ⟨hi_, hf⟩ := xo_if hf
    refine xt_iast (pc := 97) 50 rfl rfl hi_ dX6_valley_97 ?_
    refine xr_aload_n (pc := 98) 0 dX6_valley_98 rfl rfl ?_
    refine xt_getA (pc := 99) 52 (by decide) q1798 rfl rfl rfl dX6_valley_99 ?_
    refine xr_iload_n (pc := 102) 1 dX6_valley_102 rfl rfl ?_
    refine xr_iconst (pc := 103) dX6_valley_103 xci_0 ?_
    obtain ⟨hi_, hf⟩ := xo_if hf
    refine xt_iast (pc := 104) 52 rfl rfl hi_ dX6_valley_104 ?_
    refine xr_iinc (pc := 105) (loc' := [(1, .int (x1 + 1)), (0, .ref m)]) 1 dX6_valley_105 rfl xci_1 (by decide) rfl ?_
    refine xr_goto (pc := 108) 85 dX6_valley_108 (by decide) ?_
    refine xV_sub [1, 0] rfl ?_
    exact kc _ (Option.some.inj hf).symm
def Bt_valley_120 (τ : TS) : Option ((TS) ⊕ ((TS))) :=
  if (tI τ 5) = 0 then
  xbd (f_t_look τ) fun r4 τ4 =>
  if r4 = (-1) then
  some (.inr τ4)
  else
  (f_t_statementTold τ4).bind fun τ5 =>
  some (.inl τ5)
  else
  some (.inr τ)
theorem ok_Bt_valley_120 {D : TD} {m : Nat} {K : xK} {Z : Option Value × TS} {τ : TS} {o_ : ((TS) ⊕ ((TS)))} (hf : Bt_valley_120 τ = some o_) (kc : ∀ s_ : TS, o_ = .inl s_ → xV (wT D m) K mX6_valley (xQ (wT D m) K Z) s_ 120 [(0, .ref m)] []) (ke0 : ∀ e_ : TS, o_ = .inr e_ → xV (wT D m) K mX6_valley (xQ (wT D m) K Z) e_ 142 [(0, .ref m)] []) : xV (wT D m) K mX6_valley (xQ (wT D m) K Z) τ 120 [(0, .ref m)] [] := by
  unfold Bt_valley_120 at hf
  refine xr_aload_n (pc := 120) 0 dX6_valley_120 rfl rfl ?_
  refine xt_getI (pc := 121) 5 (by decide) q1751 rfl rfl rfl dX6_valley_121 ?_
  refine xr_if_ne (pc := 124) 142 dX6_valley_124 (by decide) (fun c_ => ?_) (fun c_ => ?_)
  · have hf := xo_pos c_ hf
    refine xr_aload_n (pc := 127) 0 dX6_valley_127 rfl rfl ?_
    obtain ⟨r4, τ4, hτ4, hf⟩ := xo_bd hf
    refine call_f_t_look (pc := 128) hτ4 rfl (Nat.le_of_ble_eq_true rfl) (Nat.le_of_ble_eq_true rfl) (Nat.le_of_ble_eq_true rfl) dX6_valley_128 ?_
    refine xr_iconst (pc := 131) dX6_valley_131 xci_m1 ?_
    refine xr_icmp_eq (pc := 132) 142 dX6_valley_132 (by decide) (fun c_ => ?_) (fun c_ => ?_)
    · have hf := xo_pos c_ hf
      exact ke0 _ (Option.some.inj hf).symm
    · have hf := xo_neg c_ hf
      refine xr_aload_n (pc := 135) 0 dX6_valley_135 rfl rfl ?_
      obtain ⟨τ5, hτ5, hf⟩ := xo_bind hf
      refine call_f_t_statementTold (pc := 136) hτ5 rfl (Nat.le_of_ble_eq_true rfl) (Nat.le_of_ble_eq_true rfl) (Nat.le_of_ble_eq_true rfl) dX6_valley_136 ?_
      refine xr_goto (pc := 139) 120 dX6_valley_139 (by decide) ?_
      exact kc _ (Option.some.inj hf).symm
  · have hf := xo_neg c_ hf
    exact ke0 _ (Option.some.inj hf).symm
def Jt_valley_142 (τ : TS) : Option (Int32 × TS) :=
  if (tI (sI (sI τ 7 (tI τ 5)) 8 (tI (sI τ 7 (tI τ 5)) 6)) 5) = 0 then
  (f_t_stands (sI (sI τ 7 (tI τ 5)) 8 (tI (sI τ 7 (tI τ 5)) 6))).bind fun τ7 =>
  some ((tI τ7 59, τ7))
  else
  if xin 1 6 = true then
  if xin 1 6 = true then
  some (((-1), sA (sI (sI τ 7 (tI τ 5)) 8 (tI (sI τ 7 (tI τ 5)) 6)) 9 (1 : Int32).toNatClampNeg ((tA (sI (sI τ 7 (tI τ 5)) 8 (tI (sI τ 7 (tI τ 5)) 6)) 9 (1 : Int32).toNatClampNeg) + 1)))
  else none
  else none
theorem ok_Jt_valley_142 {D : TD} {m : Nat} {K : xK} {Z : Option Value × TS} {τ : TS} {o_ : (Int32 × TS)} (hf : Jt_valley_142 τ = some o_) (kr : ∀ r_ : (Int32 × TS), o_ = r_ → Z = (some (.int r_.1), r_.2)) : xV (wT D m) K mX6_valley (xQ (wT D m) K Z) τ 142 [(0, .ref m)] [] := by
  unfold Jt_valley_142 at hf
  refine xr_aload_n (pc := 142) 0 dX6_valley_142 rfl rfl ?_
  refine xr_aload_n (pc := 143) 0 dX6_valley_143 rfl rfl ?_
  refine xt_getI (pc := 144) 5 (by decide) q1751 rfl rfl rfl dX6_valley_144 ?_
  refine xt_putI (pc := 147) 7 (by decide) q1753 rfl rfl rfl (by decide +kernel) rfl dX6_valley_147 ?_
  refine xr_aload_n (pc := 150) 0 dX6_valley_150 rfl rfl ?_
  refine xr_aload_n (pc := 151) 0 dX6_valley_151 rfl rfl ?_
  refine xt_getI (pc := 152) 6 (by decide) q1752 rfl rfl rfl dX6_valley_152 ?_
  refine xt_putI (pc := 155) 8 (by decide) q1754 rfl rfl rfl (by decide +kernel) rfl dX6_valley_155 ?_
  refine xr_aload_n (pc := 158) 0 dX6_valley_158 rfl rfl ?_
  refine xt_getI (pc := 159) 5 (by decide) q1751 rfl rfl rfl dX6_valley_159 ?_
  refine xr_if_eq (pc := 162) 177 dX6_valley_162 (by decide) (fun c_ => ?_) (fun c_ => ?_)
  · have hf := xo_pos c_ hf
    refine xr_aload_n (pc := 177) 0 dX6_valley_177 rfl rfl ?_
    obtain ⟨τ7, hτ7, hf⟩ := xo_bind hf
    refine call_f_t_stands (pc := 178) hτ7 rfl (Nat.le_of_ble_eq_true rfl) (Nat.le_of_ble_eq_true rfl) (Nat.le_of_ble_eq_true rfl) dX6_valley_178 ?_
    refine xr_aload_n (pc := 181) 0 dX6_valley_181 rfl rfl ?_
    refine xt_getI (pc := 182) 59 (by decide) q1805 rfl rfl rfl dX6_valley_182 ?_
    rw [kr _ (Option.some.inj hf).symm]
    exact xr_iret (pc := 185) dX6_valley_185 rfl
  · have hf := xo_neg c_ hf
    refine xr_aload_n (pc := 165) 0 dX6_valley_165 rfl rfl ?_
    refine xt_getA (pc := 166) 9 (by decide) q1755 rfl rfl rfl dX6_valley_166 ?_
    refine xr_iconst (pc := 169) dX6_valley_169 xci_1 ?_
    refine xr_dup2_11 (pc := 170) dX6_valley_170 rfl rfl ?_
    obtain ⟨hi_, hf⟩ := xo_if hf
    refine xt_iald (pc := 171) 9 rfl rfl hi_ dX6_valley_171 ?_
    refine xr_iconst (pc := 172) dX6_valley_172 xci_1 ?_
    refine xr_iadd (pc := 173) dX6_valley_173 ?_
    obtain ⟨hi_, hf⟩ := xo_if hf
    refine xt_iast (pc := 174) 9 rfl rfl hi_ dX6_valley_174 ?_
    refine xr_iconst (pc := 175) dX6_valley_175 xci_m1 ?_
    rw [kr _ (Option.some.inj hf).symm]
    exact xr_iret (pc := 176) dX6_valley_176 rfl
def f_t_valley (τ : TS) : Option (Int32 × TS) :=
  if xin 0 4 = true then
  if xin 1 4 = true then
  (itr (fun s_ : Int32 × TS => Bt_valley_64 s_.1 s_.2) 4096 (0, sA (sA (sI (sI (sI (sI (sI (sI (sI (sI (sI τ 3 (tI τ 1)) 1 0) 2 0) 4 (-1)) 5 0) 6 (-1)) 58 0) 46 0) 53 0) 55 (0 : Int32).toNatClampNeg (-1)) 55 (1 : Int32).toNatClampNeg (-1))).bind fun b1 =>
  (itr (fun s_ : Int32 × TS => Bt_valley_85 s_.1 s_.2) 4096 (0, b1)).bind fun b2 =>
  (f_t_valleyTold b2).bind fun τ3 =>
  (itr (fun s_ : TS => Bt_valley_120 s_) 4096 (sI τ3 59 1)).bind fun b6 =>
  Jt_valley_142 b6
  else none
  else none
theorem ok_f_t_valley {D : TD} {m : Nat} {K : xK} {Z : Option Value × TS} {τ : TS} {o_ : (Int32 × TS)} (hf : f_t_valley τ = some o_) (kr : ∀ r_ : (Int32 × TS), o_ = r_ → Z = (some (.int r_.1), r_.2)) : xV (wT D m) K mX6_valley (xQ (wT D m) K Z) τ 0 [(0, .ref m)] [] := by
  unfold f_t_valley at hf
  refine xr_aload_n (pc := 0) 0 dX6_valley_0 rfl rfl ?_
  refine xr_aload_n (pc := 1) 0 dX6_valley_1 rfl rfl ?_
  refine xt_getI (pc := 2) 1 (by decide) q1747 rfl rfl rfl dX6_valley_2 ?_
  refine xt_putI (pc := 5) 3 (by decide) q1749 rfl rfl rfl (by decide +kernel) rfl dX6_valley_5 ?_
  refine xr_aload_n (pc := 8) 0 dX6_valley_8 rfl rfl ?_
  refine xr_iconst (pc := 9) dX6_valley_9 xci_0 ?_
  refine xt_putI (pc := 10) 1 (by decide) q1747 rfl rfl rfl (by decide +kernel) rfl dX6_valley_10 ?_
  refine xr_aload_n (pc := 13) 0 dX6_valley_13 rfl rfl ?_
  refine xr_iconst (pc := 14) dX6_valley_14 xci_0 ?_
  refine xt_putI (pc := 15) 2 (by decide) q1748 rfl rfl rfl (by decide +kernel) rfl dX6_valley_15 ?_
  refine xr_aload_n (pc := 18) 0 dX6_valley_18 rfl rfl ?_
  refine xr_iconst (pc := 19) dX6_valley_19 xci_m1 ?_
  refine xt_putI (pc := 20) 4 (by decide) q1750 rfl rfl rfl (by decide +kernel) rfl dX6_valley_20 ?_
  refine xr_aload_n (pc := 23) 0 dX6_valley_23 rfl rfl ?_
  refine xr_iconst (pc := 24) dX6_valley_24 xci_0 ?_
  refine xt_putI (pc := 25) 5 (by decide) q1751 rfl rfl rfl (by decide +kernel) rfl dX6_valley_25 ?_
  refine xr_aload_n (pc := 28) 0 dX6_valley_28 rfl rfl ?_
  refine xr_iconst (pc := 29) dX6_valley_29 xci_m1 ?_
  refine xt_putI (pc := 30) 6 (by decide) q1752 rfl rfl rfl (by decide +kernel) rfl dX6_valley_30 ?_
  refine xr_aload_n (pc := 33) 0 dX6_valley_33 rfl rfl ?_
  refine xr_iconst (pc := 34) dX6_valley_34 xci_0 ?_
  refine xt_putI (pc := 35) 58 (by decide) q1804 rfl rfl rfl (by decide +kernel) rfl dX6_valley_35 ?_
  refine xr_aload_n (pc := 38) 0 dX6_valley_38 rfl rfl ?_
  refine xr_iconst (pc := 39) dX6_valley_39 xci_0 ?_
  refine xt_putI (pc := 40) 46 (by decide) q1792 rfl rfl rfl (by decide +kernel) rfl dX6_valley_40 ?_
  refine xr_aload_n (pc := 43) 0 dX6_valley_43 rfl rfl ?_
  refine xr_iconst (pc := 44) dX6_valley_44 xci_0 ?_
  refine xt_putI (pc := 45) 53 (by decide) q1799 rfl rfl rfl (by decide +kernel) rfl dX6_valley_45 ?_
  refine xr_aload_n (pc := 48) 0 dX6_valley_48 rfl rfl ?_
  refine xt_getA (pc := 49) 55 (by decide) q1801 rfl rfl rfl dX6_valley_49 ?_
  refine xr_iconst (pc := 52) dX6_valley_52 xci_0 ?_
  refine xr_iconst (pc := 53) dX6_valley_53 xci_m1 ?_
  obtain ⟨hi_, hf⟩ := xo_if hf
  refine xt_iast (pc := 54) 55 rfl rfl hi_ dX6_valley_54 ?_
  refine xr_aload_n (pc := 55) 0 dX6_valley_55 rfl rfl ?_
  refine xt_getA (pc := 56) 55 (by decide) q1801 rfl rfl rfl dX6_valley_56 ?_
  refine xr_iconst (pc := 59) dX6_valley_59 xci_1 ?_
  refine xr_iconst (pc := 60) dX6_valley_60 xci_m1 ?_
  obtain ⟨hi_, hf⟩ := xo_if hf
  refine xt_iast (pc := 61) 55 rfl rfl hi_ dX6_valley_61 ?_
  refine xr_iconst (pc := 62) dX6_valley_62 xci_0 ?_
  refine xr_istore_n (pc := 63) (loc' := [(1, .int 0), (0, .ref m)]) dX6_valley_63 rfl (by decide) rfl ?_
  refine xV_sub [1, 0] rfl ?_
  obtain ⟨b1, hb1, hf⟩ := xo_bind hf
  refine itr_rule (P := fun s_ : Int32 × TS => xV (wT D m) K mX6_valley (xQ (wT D m) K Z) s_.2 64 [(0, .ref m), (1, .int s_.1)] []) (fun s_ o_ hB_ hc_ he_ => ok_Bt_valley_64 hB_ hc_ (fun e_ h_ => ?_)) 4096 _ hb1
  · have e9_ := he_ _ h_
    rw [e9_]
    refine xr_iconst (pc := 83) dX6_valley_83 xci_0 ?_
    refine xr_istore_n (pc := 84) (loc' := [(1, .int 0), (0, .ref m)]) dX6_valley_84 rfl (by decide) rfl ?_
    refine xV_sub [1, 0] rfl ?_
    obtain ⟨b2, hb2, hf⟩ := xo_bind hf
    refine itr_rule (P := fun s_ : Int32 × TS => xV (wT D m) K mX6_valley (xQ (wT D m) K Z) s_.2 85 [(0, .ref m), (1, .int s_.1)] []) (fun s_ o_ hB_ hc_ he_ => ok_Bt_valley_85 hB_ hc_ (fun e_ h_ => ?_)) 4096 _ hb2
    · have e9_ := he_ _ h_
      rw [e9_]
      refine xr_aload_n (pc := 111) 0 dX6_valley_111 rfl rfl ?_
      obtain ⟨τ3, hτ3, hf⟩ := xo_bind hf
      refine call_f_t_valleyTold (pc := 112) hτ3 rfl (Nat.le_of_ble_eq_true rfl) (Nat.le_of_ble_eq_true rfl) (Nat.le_of_ble_eq_true rfl) dX6_valley_112 ?_
      refine xr_aload_n (pc := 115) 0 dX6_valley_115 rfl rfl ?_
      refine xr_iconst (pc := 116) dX6_valley_116 xci_1 ?_
      refine xt_putI (pc := 117) 59 (by decide) q1805 rfl rfl rfl (by decide +kernel) rfl dX6_valley_117 ?_
      obtain ⟨b6, hb6, hf⟩ := xo_bind hf
      refine itr_rule (P := fun s_ : TS => xV (wT D m) K mX6_valley (xQ (wT D m) K Z) s_ 120 [(0, .ref m)] []) (fun s_ o_ hB_ hc_ he_ => ok_Bt_valley_120 hB_ hc_ (fun e_ h_ => ?_)) 4096 _ hb6
      · have e9_ := he_ _ h_
        rw [e9_]
        exact ok_Jt_valley_142 hf kr
theorem met_f_t_valley (l : Launch) {D : TD} {m : Nat} {τ : TS} {o_ : (Int32 × TS)} (hf : f_t_valley τ = some o_) : xMet (wT D m) l yX6_valley (ws_ yX6_valley cX6_valley 2 (some .int)) 11 660 0 0 [.ref m] τ (some (.int o_.1), o_.2) :=
  xMet_of (by decide) (Nat.le_of_ble_eq_true rfl) KT_moved (fun _ _ => trivial) (fun K _ _ _ => ok_f_t_valley hf (fun _ h => by rw [h]))
abbrev mX6_fault : xM := (cX6_fault, 2, RX6, 0, 0, (some .int), "fault")
def f_t_fault (x1 : Int32) (τ : TS) : Option (Int32 × TS) :=
  if x1 = 0 then
  some ((tI τ 7, τ))
  else
  if x1 = 1 then
  some ((tI τ 8, τ))
  else
  some (((-1), τ))
theorem ok_f_t_fault {D : TD} {m : Nat} {K : xK} {Z : Option Value × TS} {x1 : Int32} {τ : TS} {o_ : (Int32 × TS)} (hf : f_t_fault x1 τ = some o_) (kr : ∀ r_ : (Int32 × TS), o_ = r_ → Z = (some (.int r_.1), r_.2)) : xV (wT D m) K mX6_fault (xQ (wT D m) K Z) τ 0 [(0, .ref m), (1, .int x1)] [] := by
  unfold f_t_fault at hf
  refine xr_iload_n (pc := 0) 1 dX6_fault_0 rfl rfl ?_
  refine xr_if_ne (pc := 1) 11 dX6_fault_1 (by decide) (fun c_ => ?_) (fun c_ => ?_)
  · have hf := xo_pos c_ hf
    refine xr_aload_n (pc := 4) 0 dX6_fault_4 rfl rfl ?_
    refine xt_getI (pc := 5) 7 (by decide) q1753 rfl rfl rfl dX6_fault_5 ?_
    refine xr_goto (pc := 8) 24 dX6_fault_8 (by decide) ?_
    rw [kr _ (Option.some.inj hf).symm]
    exact xr_iret (pc := 24) dX6_fault_24 rfl
  · have hf := xo_neg c_ hf
    refine xr_iload_n (pc := 11) 1 dX6_fault_11 rfl rfl ?_
    refine xr_iconst (pc := 12) dX6_fault_12 xci_1 ?_
    refine xr_icmp_ne (pc := 13) 23 dX6_fault_13 (by decide) (fun c_ => ?_) (fun c_ => ?_)
    · have hf := xo_pos c_ hf
      refine xr_aload_n (pc := 16) 0 dX6_fault_16 rfl rfl ?_
      refine xt_getI (pc := 17) 8 (by decide) q1754 rfl rfl rfl dX6_fault_17 ?_
      refine xr_goto (pc := 20) 24 dX6_fault_20 (by decide) ?_
      rw [kr _ (Option.some.inj hf).symm]
      exact xr_iret (pc := 24) dX6_fault_24 rfl
    · have hf := xo_neg c_ hf
      refine xr_iconst (pc := 23) dX6_fault_23 xci_m1 ?_
      rw [kr _ (Option.some.inj hf).symm]
      exact xr_iret (pc := 24) dX6_fault_24 rfl
theorem met_f_t_fault (l : Launch) {D : TD} {m : Nat} {x1 : Int32} {τ : TS} {o_ : (Int32 × TS)} (hf : f_t_fault x1 τ = some o_) : xMet (wT D m) l yX6_fault (ws_ yX6_fault cX6_fault 2 (some .int)) 0 0 0 0 [.ref m, .int x1] τ (some (.int o_.1), o_.2) :=
  xMet_of (by decide) (Nat.le_of_ble_eq_true rfl) KT_moved (fun _ _ => trivial) (fun K _ _ _ => ok_f_t_fault hf (fun _ h => by rw [h]))
abbrev mX6_lordMany : xM := (cX6_lordMany, 1, RX6, 0, 0, (some .int), "lordMany")
def f_t_lordMany (τ : TS) : Option (Int32 × TS) :=
  some ((tI τ 47, τ))
theorem ok_f_t_lordMany {D : TD} {m : Nat} {K : xK} {Z : Option Value × TS} {τ : TS} {o_ : (Int32 × TS)} (hf : f_t_lordMany τ = some o_) (kr : ∀ r_ : (Int32 × TS), o_ = r_ → Z = (some (.int r_.1), r_.2)) : xV (wT D m) K mX6_lordMany (xQ (wT D m) K Z) τ 0 [(0, .ref m)] [] := by
  unfold f_t_lordMany at hf
  refine xr_aload_n (pc := 0) 0 dX6_lordMany_0 rfl rfl ?_
  refine xt_getI (pc := 1) 47 (by decide) q1793 rfl rfl rfl dX6_lordMany_1 ?_
  rw [kr _ (Option.some.inj hf).symm]
  exact xr_iret (pc := 4) dX6_lordMany_4 rfl
theorem met_f_t_lordMany (l : Launch) {D : TD} {m : Nat} {τ : TS} {o_ : (Int32 × TS)} (hf : f_t_lordMany τ = some o_) : xMet (wT D m) l yX6_lordMany (ws_ yX6_lordMany cX6_lordMany 1 (some .int)) 0 0 0 0 [.ref m] τ (some (.int o_.1), o_.2) :=
  xMet_of (by decide) (Nat.le_of_ble_eq_true rfl) KT_moved (fun _ _ => trivial) (fun K _ _ _ => ok_f_t_lordMany hf (fun _ h => by rw [h]))
theorem hd_f_t_lordMany : yX6_lordMany.cls = RX6 ∧ yX6_lordMany.cls ≠ "java/lang/invoke/MethodHandle" ∧ yX6_lordMany.cls ≠ "java/lang/invoke/VarHandle" ∧ (parseMethodDescriptor yX6_lordMany.desc).map (fun d => d.parameters.length) = some 0 := by decide +kernel
theorem call_f_t_lordMany {D : TD} {m : Nat} {K : xK} {M : xM} {Q : State → Prop} {τ : TS} {pc : Nat} {loc : List (Nat × Value)} {st : List Value} {r : Int32} {τ1 : TS} (hf : f_t_lordMany τ = some (r, τ1)) (ho : M.2.2.1 = RX6) (hfr : 1 ≤ M.2.2.2.1) (hlo : 20 ≤ M.2.2.2.2.1) (hcat : (st.map fun v => v.category).sum ≤ 8) (d : decode M.1 pc = .ok (.invokevirtual 466, 3)) (k : xV (wT D m) K M Q τ1 (pc + 3) loc (.int r :: st)) : xV (wT D m) K M Q τ pc loc (.ref m :: st) :=
  xr_callV (As := []) (rest := st) (met_f_t_lordMany K.2.1 hf) (lw_V q2333 q2335 qs105 q186 q2336) hd_f_t_lordMany ho hfr hlo rfl (fun H hR hK => t_recv H hR hK) rfl hcat d k
abbrev mX6_columnMany : xM := (cX6_columnMany, 1, RX6, 0, 0, (some .int), "columnMany")
def f_t_columnMany (τ : TS) : Option (Int32 × TS) :=
  if xin 3 6 = true then
  some ((tA τ 45 (3 : Int32).toNatClampNeg, τ))
  else none
theorem ok_f_t_columnMany {D : TD} {m : Nat} {K : xK} {Z : Option Value × TS} {τ : TS} {o_ : (Int32 × TS)} (hf : f_t_columnMany τ = some o_) (kr : ∀ r_ : (Int32 × TS), o_ = r_ → Z = (some (.int r_.1), r_.2)) : xV (wT D m) K mX6_columnMany (xQ (wT D m) K Z) τ 0 [(0, .ref m)] [] := by
  unfold f_t_columnMany at hf
  refine xr_aload_n (pc := 0) 0 dX6_columnMany_0 rfl rfl ?_
  refine xt_getA (pc := 1) 45 (by decide) q1791 rfl rfl rfl dX6_columnMany_1 ?_
  refine xr_iconst (pc := 4) dX6_columnMany_4 xci_3 ?_
  obtain ⟨hi_, hf⟩ := xo_if hf
  refine xt_iald (pc := 5) 45 rfl rfl hi_ dX6_columnMany_5 ?_
  rw [kr _ (Option.some.inj hf).symm]
  exact xr_iret (pc := 6) dX6_columnMany_6 rfl
theorem met_f_t_columnMany (l : Launch) {D : TD} {m : Nat} {τ : TS} {o_ : (Int32 × TS)} (hf : f_t_columnMany τ = some o_) : xMet (wT D m) l yX6_columnMany (ws_ yX6_columnMany cX6_columnMany 1 (some .int)) 0 0 0 0 [.ref m] τ (some (.int o_.1), o_.2) :=
  xMet_of (by decide) (Nat.le_of_ble_eq_true rfl) KT_moved (fun _ _ => trivial) (fun K _ _ _ => ok_f_t_columnMany hf (fun _ h => by rw [h]))
theorem hd_f_t_columnMany : yX6_columnMany.cls = RX6 ∧ yX6_columnMany.cls ≠ "java/lang/invoke/MethodHandle" ∧ yX6_columnMany.cls ≠ "java/lang/invoke/VarHandle" ∧ (parseMethodDescriptor yX6_columnMany.desc).map (fun d => d.parameters.length) = some 0 := by decide +kernel
theorem call_f_t_columnMany {D : TD} {m : Nat} {K : xK} {M : xM} {Q : State → Prop} {τ : TS} {pc : Nat} {loc : List (Nat × Value)} {st : List Value} {r : Int32} {τ1 : TS} (hf : f_t_columnMany τ = some (r, τ1)) (ho : M.2.2.1 = RX6) (hfr : 1 ≤ M.2.2.2.1) (hlo : 20 ≤ M.2.2.2.2.1) (hcat : (st.map fun v => v.category).sum ≤ 8) (d : decode M.1 pc = .ok (.invokevirtual 456, 3)) (k : xV (wT D m) K M Q τ1 (pc + 3) loc (.int r :: st)) : xV (wT D m) K M Q τ pc loc (.ref m :: st) :=
  xr_callV (As := []) (rest := st) (met_f_t_columnMany K.2.1 hf) (lw_V q2341 q2343 qs107 q186 q2344) hd_f_t_columnMany ho hfr hlo rfl (fun H hR hK => t_recv H hR hK) rfl hcat d k
abbrev mX6_rowOf : xM := (cX6_rowOf, 2, RX6, 0, 0, (some .int), "rowOf")
def f_t_rowOf (x1 : Int32) (τ : TS) : Option (Int32 × TS) :=
  if xin (2 + x1) 303 = true then
  some ((tA τ 62 (2 + x1).toNatClampNeg, τ))
  else none
theorem ok_f_t_rowOf {D : TD} {m : Nat} {K : xK} {Z : Option Value × TS} {x1 : Int32} {τ : TS} {o_ : (Int32 × TS)} (hf : f_t_rowOf x1 τ = some o_) (kr : ∀ r_ : (Int32 × TS), o_ = r_ → Z = (some (.int r_.1), r_.2)) : xV (wT D m) K mX6_rowOf (xQ (wT D m) K Z) τ 0 [(0, .ref m), (1, .int x1)] [] := by
  unfold f_t_rowOf at hf
  refine xr_aload_n (pc := 0) 0 dX6_rowOf_0 rfl rfl ?_
  refine xt_getA (pc := 1) 62 (by decide) q1808 rfl rfl rfl dX6_rowOf_1 ?_
  refine xr_iconst (pc := 4) dX6_rowOf_4 xci_2 ?_
  refine xr_iload_n (pc := 5) 1 dX6_rowOf_5 rfl rfl ?_
  refine xr_iadd (pc := 6) dX6_rowOf_6 ?_
  obtain ⟨hi_, hf⟩ := xo_if hf
  refine xt_iald (pc := 7) 62 rfl rfl hi_ dX6_rowOf_7 ?_
  rw [kr _ (Option.some.inj hf).symm]
  exact xr_iret (pc := 8) dX6_rowOf_8 rfl
theorem met_f_t_rowOf (l : Launch) {D : TD} {m : Nat} {x1 : Int32} {τ : TS} {o_ : (Int32 × TS)} (hf : f_t_rowOf x1 τ = some o_) : xMet (wT D m) l yX6_rowOf (ws_ yX6_rowOf cX6_rowOf 2 (some .int)) 0 0 0 0 [.ref m, .int x1] τ (some (.int o_.1), o_.2) :=
  xMet_of (by decide) (Nat.le_of_ble_eq_true rfl) KT_moved (fun _ _ => trivial) (fun K _ _ _ => ok_f_t_rowOf hf (fun _ h => by rw [h]))
theorem hd_f_t_rowOf : yX6_rowOf.cls = RX6 ∧ yX6_rowOf.cls ≠ "java/lang/invoke/MethodHandle" ∧ yX6_rowOf.cls ≠ "java/lang/invoke/VarHandle" ∧ (parseMethodDescriptor yX6_rowOf.desc).map (fun d => d.parameters.length) = some 1 := by decide +kernel
theorem call_f_t_rowOf {D : TD} {m : Nat} {K : xK} {M : xM} {Q : State → Prop} {x1 : Int32} {τ : TS} {pc : Nat} {loc : List (Nat × Value)} {st : List Value} {r : Int32} {τ1 : TS} (hf : f_t_rowOf x1 τ = some (r, τ1)) (ho : M.2.2.1 = RX6) (hfr : 1 ≤ M.2.2.2.1) (hlo : 21 ≤ M.2.2.2.2.1) (hcat : (st.map fun v => v.category).sum ≤ 8) (d : decode M.1 pc = .ok (.invokevirtual 469, 3)) (k : xV (wT D m) K M Q τ1 (pc + 3) loc (.int r :: st)) : xV (wT D m) K M Q τ pc loc (.int x1 :: .ref m :: st) :=
  xr_callV (As := [.int x1]) (rest := st) (met_f_t_rowOf K.2.1 hf) (lw_V q2353 q2355 qs110 q186 q2356) hd_f_t_rowOf ho hfr hlo rfl (fun H hR hK => t_recv H hR hK) rfl hcat d k
abbrev mX6_beforeOf : xM := (cX6_beforeOf, 2, RX6, 1, 60, (some .int), "beforeOf")
def f_t_beforeOf (x1 : Int32) (τ : TS) : Option (Int32 × TS) :=
  if x1 = 0 then
  xbd (f_t_rowOf x1 τ) fun r1 τ1 =>
  some ((r1, τ1))
  else
  xbd (f_t_rowOf (x1 - 1) τ) fun r2 τ2 =>
  some ((r2, τ2))
theorem ok_f_t_beforeOf {D : TD} {m : Nat} {K : xK} {Z : Option Value × TS} {x1 : Int32} {τ : TS} {o_ : (Int32 × TS)} (hf : f_t_beforeOf x1 τ = some o_) (kr : ∀ r_ : (Int32 × TS), o_ = r_ → Z = (some (.int r_.1), r_.2)) : xV (wT D m) K mX6_beforeOf (xQ (wT D m) K Z) τ 0 [(0, .ref m), (1, .int x1)] [] := by
  unfold f_t_beforeOf at hf
  refine xr_aload_n (pc := 0) 0 dX6_beforeOf_0 rfl rfl ?_
  refine xr_iload_n (pc := 1) 1 dX6_beforeOf_1 rfl rfl ?_
  refine xr_if_ne (pc := 2) 9 dX6_beforeOf_2 (by decide) (fun c_ => ?_) (fun c_ => ?_)
  · have hf := xo_pos c_ hf
    refine xr_iload_n (pc := 5) 1 dX6_beforeOf_5 rfl rfl ?_
    refine xr_goto (pc := 6) 12 dX6_beforeOf_6 (by decide) ?_
    obtain ⟨r1, τ1, hτ1, hf⟩ := xo_bd hf
    refine call_f_t_rowOf (pc := 12) hτ1 rfl (Nat.le_of_ble_eq_true rfl) (Nat.le_of_ble_eq_true rfl) (Nat.le_of_ble_eq_true rfl) dX6_beforeOf_12 ?_
    rw [kr _ (Option.some.inj hf).symm]
    exact xr_iret (pc := 15) dX6_beforeOf_15 rfl
  · have hf := xo_neg c_ hf
    refine xr_iload_n (pc := 9) 1 dX6_beforeOf_9 rfl rfl ?_
    refine xr_iconst (pc := 10) dX6_beforeOf_10 xci_1 ?_
    refine xr_isub (pc := 11) dX6_beforeOf_11 ?_
    obtain ⟨r2, τ2, hτ2, hf⟩ := xo_bd hf
    refine call_f_t_rowOf (pc := 12) hτ2 rfl (Nat.le_of_ble_eq_true rfl) (Nat.le_of_ble_eq_true rfl) (Nat.le_of_ble_eq_true rfl) dX6_beforeOf_12 ?_
    rw [kr _ (Option.some.inj hf).symm]
    exact xr_iret (pc := 15) dX6_beforeOf_15 rfl
theorem met_f_t_beforeOf (l : Launch) {D : TD} {m : Nat} {x1 : Int32} {τ : TS} {o_ : (Int32 × TS)} (hf : f_t_beforeOf x1 τ = some o_) : xMet (wT D m) l yX6_beforeOf (ws_ yX6_beforeOf cX6_beforeOf 2 (some .int)) 1 60 0 0 [.ref m, .int x1] τ (some (.int o_.1), o_.2) :=
  xMet_of (by decide) (Nat.le_of_ble_eq_true rfl) KT_moved (fun _ _ => trivial) (fun K _ _ _ => ok_f_t_beforeOf hf (fun _ h => by rw [h]))
theorem hd_f_t_beforeOf : yX6_beforeOf.cls = RX6 ∧ yX6_beforeOf.cls ≠ "java/lang/invoke/MethodHandle" ∧ yX6_beforeOf.cls ≠ "java/lang/invoke/VarHandle" ∧ (parseMethodDescriptor yX6_beforeOf.desc).map (fun d => d.parameters.length) = some 1 := by decide +kernel
theorem call_f_t_beforeOf {D : TD} {m : Nat} {K : xK} {M : xM} {Q : State → Prop} {x1 : Int32} {τ : TS} {pc : Nat} {loc : List (Nat × Value)} {st : List Value} {r : Int32} {τ1 : TS} (hf : f_t_beforeOf x1 τ = some (r, τ1)) (ho : M.2.2.1 = RX6) (hfr : 2 ≤ M.2.2.2.1) (hlo : 81 ≤ M.2.2.2.2.1) (hcat : (st.map fun v => v.category).sum ≤ 8) (d : decode M.1 pc = .ok (.invokevirtual 476, 3)) (k : xV (wT D m) K M Q τ1 (pc + 3) loc (.int r :: st)) : xV (wT D m) K M Q τ pc loc (.int x1 :: .ref m :: st) :=
  xr_callV (As := [.int x1]) (rest := st) (met_f_t_beforeOf K.2.1 hf) (lw_V q2349 q2351 qs109 q186 q2352) hd_f_t_beforeOf ho hfr hlo rfl (fun H hR hK => t_recv H hR hK) rfl hcat d k
abbrev mX6_behindOf : xM := (cX6_behindOf, 2, RX6, 1, 60, (some .int), "behindOf")
def f_t_behindOf (x1 : Int32) (τ : TS) : Option (Int32 × TS) :=
  xbd (f_t_columnMany τ) fun r1 τ1 =>
  if x1 = (r1 - 1) then
  xbd (f_t_rowOf x1 τ1) fun r2 τ2 =>
  some ((r2, τ2))
  else
  xbd (f_t_rowOf (x1 + 1) τ1) fun r3 τ3 =>
  some ((r3, τ3))
theorem ok_f_t_behindOf {D : TD} {m : Nat} {K : xK} {Z : Option Value × TS} {x1 : Int32} {τ : TS} {o_ : (Int32 × TS)} (hf : f_t_behindOf x1 τ = some o_) (kr : ∀ r_ : (Int32 × TS), o_ = r_ → Z = (some (.int r_.1), r_.2)) : xV (wT D m) K mX6_behindOf (xQ (wT D m) K Z) τ 0 [(0, .ref m), (1, .int x1)] [] := by
  unfold f_t_behindOf at hf
  refine xr_aload_n (pc := 0) 0 dX6_behindOf_0 rfl rfl ?_
  refine xr_iload_n (pc := 1) 1 dX6_behindOf_1 rfl rfl ?_
  refine xr_aload_n (pc := 2) 0 dX6_behindOf_2 rfl rfl ?_
  obtain ⟨r1, τ1, hτ1, hf⟩ := xo_bd hf
  refine call_f_t_columnMany (pc := 3) hτ1 rfl (Nat.le_of_ble_eq_true rfl) (Nat.le_of_ble_eq_true rfl) (Nat.le_of_ble_eq_true rfl) dX6_behindOf_3 ?_
  refine xr_iconst (pc := 6) dX6_behindOf_6 xci_1 ?_
  refine xr_isub (pc := 7) dX6_behindOf_7 ?_
  refine xr_icmp_ne (pc := 8) 15 dX6_behindOf_8 (by decide) (fun c_ => ?_) (fun c_ => ?_)
  · have hf := xo_pos c_ hf
    refine xr_iload_n (pc := 11) 1 dX6_behindOf_11 rfl rfl ?_
    refine xr_goto (pc := 12) 18 dX6_behindOf_12 (by decide) ?_
    obtain ⟨r2, τ2, hτ2, hf⟩ := xo_bd hf
    refine call_f_t_rowOf (pc := 18) hτ2 rfl (Nat.le_of_ble_eq_true rfl) (Nat.le_of_ble_eq_true rfl) (Nat.le_of_ble_eq_true rfl) dX6_behindOf_18 ?_
    rw [kr _ (Option.some.inj hf).symm]
    exact xr_iret (pc := 21) dX6_behindOf_21 rfl
  · have hf := xo_neg c_ hf
    refine xr_iload_n (pc := 15) 1 dX6_behindOf_15 rfl rfl ?_
    refine xr_iconst (pc := 16) dX6_behindOf_16 xci_1 ?_
    refine xr_iadd (pc := 17) dX6_behindOf_17 ?_
    obtain ⟨r3, τ3, hτ3, hf⟩ := xo_bd hf
    refine call_f_t_rowOf (pc := 18) hτ3 rfl (Nat.le_of_ble_eq_true rfl) (Nat.le_of_ble_eq_true rfl) (Nat.le_of_ble_eq_true rfl) dX6_behindOf_18 ?_
    rw [kr _ (Option.some.inj hf).symm]
    exact xr_iret (pc := 21) dX6_behindOf_21 rfl
theorem met_f_t_behindOf (l : Launch) {D : TD} {m : Nat} {x1 : Int32} {τ : TS} {o_ : (Int32 × TS)} (hf : f_t_behindOf x1 τ = some o_) : xMet (wT D m) l yX6_behindOf (ws_ yX6_behindOf cX6_behindOf 2 (some .int)) 1 60 0 0 [.ref m, .int x1] τ (some (.int o_.1), o_.2) :=
  xMet_of (by decide) (Nat.le_of_ble_eq_true rfl) KT_moved (fun _ _ => trivial) (fun K _ _ _ => ok_f_t_behindOf hf (fun _ h => by rw [h]))
theorem hd_f_t_behindOf : yX6_behindOf.cls = RX6 ∧ yX6_behindOf.cls ≠ "java/lang/invoke/MethodHandle" ∧ yX6_behindOf.cls ≠ "java/lang/invoke/VarHandle" ∧ (parseMethodDescriptor yX6_behindOf.desc).map (fun d => d.parameters.length) = some 1 := by decide +kernel
theorem call_f_t_behindOf {D : TD} {m : Nat} {K : xK} {M : xM} {Q : State → Prop} {x1 : Int32} {τ : TS} {pc : Nat} {loc : List (Nat × Value)} {st : List Value} {r : Int32} {τ1 : TS} (hf : f_t_behindOf x1 τ = some (r, τ1)) (ho : M.2.2.1 = RX6) (hfr : 2 ≤ M.2.2.2.1) (hlo : 81 ≤ M.2.2.2.2.1) (hcat : (st.map fun v => v.category).sum ≤ 8) (d : decode M.1 pc = .ok (.invokevirtual 479, 3)) (k : xV (wT D m) K M Q τ1 (pc + 3) loc (.int r :: st)) : xV (wT D m) K M Q τ pc loc (.int x1 :: .ref m :: st) :=
  xr_callV (As := [.int x1]) (rest := st) (met_f_t_behindOf K.2.1 hf) (lw_V q2357 q2359 qs111 q186 q2360) hd_f_t_behindOf ho hfr hlo rfl (fun H hR hK => t_recv H hR hK) rfl hcat d k
abbrev mX6_isInner : xM := (cX6_isInner, 2, RX6, 1, 60, (some .boolean), "isInner")
def Jt_isInner_18 (τ : TS) : Option (Int32 × TS) :=
  some ((0, τ))
theorem ok_Jt_isInner_18 {D : TD} {m : Nat} {K : xK} {Z : Option Value × TS} {τ : TS} {o_ : (Int32 × TS)} (hf : Jt_isInner_18 τ = some o_) (kr : ∀ r_ : (Int32 × TS), o_ = r_ → Z = (some (.int r_.1), r_.2)) : xV (wT D m) K mX6_isInner (xQ (wT D m) K Z) τ 18 [] [] := by
  unfold Jt_isInner_18 at hf
  refine xr_iconst (pc := 18) dX6_isInner_18 xci_0 ?_
  rw [kr _ (Option.some.inj hf).symm]
  exact xr_zret (pc := 19) dX6_isInner_19 rfl xz_0
def f_t_isInner (x1 : Int32) (τ : TS) : Option (Int32 × TS) :=
  if x1 ≤ 0 then
  Jt_isInner_18 τ
  else
  xbd (f_t_columnMany τ) fun r1 τ1 =>
  if (r1 - 1) ≤ x1 then
  Jt_isInner_18 τ1
  else
  some ((1, τ1))
theorem ok_f_t_isInner {D : TD} {m : Nat} {K : xK} {Z : Option Value × TS} {x1 : Int32} {τ : TS} {o_ : (Int32 × TS)} (hf : f_t_isInner x1 τ = some o_) (kr : ∀ r_ : (Int32 × TS), o_ = r_ → Z = (some (.int r_.1), r_.2)) : xV (wT D m) K mX6_isInner (xQ (wT D m) K Z) τ 0 [(0, .ref m), (1, .int x1)] [] := by
  unfold f_t_isInner at hf
  refine xr_iload_n (pc := 0) 1 dX6_isInner_0 rfl rfl ?_
  refine xr_if_le (pc := 1) 18 dX6_isInner_1 (by decide) (fun c_ => ?_) (fun c_ => ?_)
  · have hf := xo_pos c_ hf
    refine xV_sub [] rfl ?_
    exact ok_Jt_isInner_18 hf kr
  · have hf := xo_neg c_ hf
    refine xr_iload_n (pc := 4) 1 dX6_isInner_4 rfl rfl ?_
    refine xr_aload_n (pc := 5) 0 dX6_isInner_5 rfl rfl ?_
    obtain ⟨r1, τ1, hτ1, hf⟩ := xo_bd hf
    refine call_f_t_columnMany (pc := 6) hτ1 rfl (Nat.le_of_ble_eq_true rfl) (Nat.le_of_ble_eq_true rfl) (Nat.le_of_ble_eq_true rfl) dX6_isInner_6 ?_
    refine xr_iconst (pc := 9) dX6_isInner_9 xci_1 ?_
    refine xr_isub (pc := 10) dX6_isInner_10 ?_
    refine xr_icmp_ge (pc := 11) 18 dX6_isInner_11 (by decide) (fun c_ => ?_) (fun c_ => ?_)
    · have hf := xo_pos c_ hf
      refine xV_sub [] rfl ?_
      exact ok_Jt_isInner_18 hf kr
    · have hf := xo_neg c_ hf
      refine xr_iconst (pc := 14) dX6_isInner_14 xci_1 ?_
      refine xr_goto (pc := 15) 19 dX6_isInner_15 (by decide) ?_
      rw [kr _ (Option.some.inj hf).symm]
      exact xr_zret (pc := 19) dX6_isInner_19 rfl xz_1
theorem met_f_t_isInner (l : Launch) {D : TD} {m : Nat} {x1 : Int32} {τ : TS} {o_ : (Int32 × TS)} (hf : f_t_isInner x1 τ = some o_) : xMet (wT D m) l yX6_isInner (ws_ yX6_isInner cX6_isInner 2 (some .boolean)) 1 60 0 0 [.ref m, .int x1] τ (some (.int o_.1), o_.2) :=
  xMet_of (by decide) (Nat.le_of_ble_eq_true rfl) KT_moved (fun _ _ => trivial) (fun K _ _ _ => ok_f_t_isInner hf (fun _ h => by rw [h]))
theorem hd_f_t_isInner : yX6_isInner.cls = RX6 ∧ yX6_isInner.cls ≠ "java/lang/invoke/MethodHandle" ∧ yX6_isInner.cls ≠ "java/lang/invoke/VarHandle" ∧ (parseMethodDescriptor yX6_isInner.desc).map (fun d => d.parameters.length) = some 1 := by decide +kernel
theorem call_f_t_isInner {D : TD} {m : Nat} {K : xK} {M : xM} {Q : State → Prop} {x1 : Int32} {τ : TS} {pc : Nat} {loc : List (Nat × Value)} {st : List Value} {r : Int32} {τ1 : TS} (hf : f_t_isInner x1 τ = some (r, τ1)) (ho : M.2.2.1 = RX6) (hfr : 2 ≤ M.2.2.2.1) (hlo : 81 ≤ M.2.2.2.2.1) (hcat : (st.map fun v => v.category).sum ≤ 8) (d : decode M.1 pc = .ok (.invokevirtual 473, 3)) (k : xV (wT D m) K M Q τ1 (pc + 3) loc (.int r :: st)) : xV (wT D m) K M Q τ pc loc (.int x1 :: .ref m :: st) :=
  xr_callV (As := [.int x1]) (rest := st) (met_f_t_isInner K.2.1 hf) (lw_V q2369 q2371 qs114 q186 q2372) hd_f_t_isInner ho hfr hlo rfl (fun H hR hK => t_recv H hR hK) rfl hcat d k
abbrev mX6_turnBy : xM := (cX6_turnBy, 6, RX6, 2, 120, (some .int), "turnBy")
def f_t_turnBy (x1 : Int32) (x2 : Int32) (x3 : Int32) (x4 : Int32) (τ : TS) : Option (Int32 × TS) :=
  xbd (f_t_isInner x1 τ) fun r1 τ1 =>
  if r1 = 0 then
  some ((0, τ1))
  else
  if 0 ≤ ((x2 + x4) - (2 * x3)) then
  some (((x2 + x4) - (2 * x3), τ1))
  else
  some ((-((x2 + x4) - (2 * x3)), τ1))
theorem ok_f_t_turnBy {D : TD} {m : Nat} {K : xK} {Z : Option Value × TS} {x1 : Int32} {x2 : Int32} {x3 : Int32} {x4 : Int32} {τ : TS} {o_ : (Int32 × TS)} (hf : f_t_turnBy x1 x2 x3 x4 τ = some o_) (kr : ∀ r_ : (Int32 × TS), o_ = r_ → Z = (some (.int r_.1), r_.2)) : xV (wT D m) K mX6_turnBy (xQ (wT D m) K Z) τ 0 [(0, .ref m), (1, .int x1), (2, .int x2), (3, .int x3), (4, .int x4)] [] := by
  unfold f_t_turnBy at hf
  refine xr_iload_n (pc := 0) 2 dX6_turnBy_0 rfl rfl ?_
  refine xr_iload (pc := 1) 4 dX6_turnBy_1 rfl ?_
  refine xr_iadd (pc := 3) dX6_turnBy_3 ?_
  refine xr_iconst (pc := 4) dX6_turnBy_4 xci_2 ?_
  refine xr_iload_n (pc := 5) 3 dX6_turnBy_5 rfl rfl ?_
  refine xr_imul (pc := 6) dX6_turnBy_6 ?_
  refine xr_isub (pc := 7) dX6_turnBy_7 ?_
  refine xr_istore (pc := 8) (loc' := [(5, .int ((x2 + x4) - (2 * x3))), (0, .ref m), (1, .int x1), (2, .int x2), (3, .int x3), (4, .int x4)]) dX6_turnBy_8 (by decide) rfl ?_
  refine xr_aload_n (pc := 10) 1 dX6_turnBy_10 rfl rfl ?_
  refine xr_iload_n (pc := 11) 2 dX6_turnBy_11 rfl rfl ?_
  obtain ⟨r1, τ1, hτ1, hf⟩ := xo_bd hf
  refine call_f_t_isInner (pc := 12) hτ1 rfl (Nat.le_of_ble_eq_true rfl) (Nat.le_of_ble_eq_true rfl) (Nat.le_of_ble_eq_true rfl) dX6_turnBy_12 ?_
  refine xr_if_ne (pc := 15) 22 dX6_turnBy_15 (by decide) (fun c_ => ?_) (fun c_ => ?_)
  · have hf := xo_pos c_ hf
    refine xr_iconst (pc := 18) dX6_turnBy_18 xci_0 ?_
    refine xr_goto (pc := 19) 35 dX6_turnBy_19 (by decide) ?_
    rw [kr _ (Option.some.inj hf).symm]
    exact xr_iret (pc := 35) dX6_turnBy_35 rfl
  · have hf := xo_neg c_ hf
    refine xr_iload (pc := 22) 0 dX6_turnBy_22 rfl ?_
    refine xr_if_ge (pc := 24) 33 dX6_turnBy_24 (by decide) (fun c_ => ?_) (fun c_ => ?_)
    · have hf := xo_pos c_ hf
      refine xr_iload (pc := 33) 0 dX6_turnBy_33 rfl ?_
      rw [kr _ (Option.some.inj hf).symm]
      exact xr_iret (pc := 35) dX6_turnBy_35 rfl
    · have hf := xo_neg c_ hf
      refine xr_iload (pc := 27) 0 dX6_turnBy_27 rfl ?_
      refine xr_ineg (pc := 29) dX6_turnBy_29 ?_
      refine xr_goto (pc := 30) 35 dX6_turnBy_30 (by decide) ?_
      rw [kr _ (Option.some.inj hf).symm]
      exact xr_iret (pc := 35) dX6_turnBy_35 rfl
theorem met_f_t_turnBy (l : Launch) {D : TD} {m : Nat} {x1 : Int32} {x2 : Int32} {x3 : Int32} {x4 : Int32} {τ : TS} {o_ : (Int32 × TS)} (hf : f_t_turnBy x1 x2 x3 x4 τ = some o_) : xMet (wT D m) l yX6_turnBy (ws_ yX6_turnBy cX6_turnBy 6 (some .int)) 2 120 0 0 [.ref m, .int x1, .int x2, .int x3, .int x4] τ (some (.int o_.1), o_.2) :=
  xMet_of (by decide) (Nat.le_of_ble_eq_true rfl) KT_moved (fun _ _ => trivial) (fun K _ _ _ => ok_f_t_turnBy hf (fun _ h => by rw [h]))
theorem hd_f_t_turnBy : yX6_turnBy.cls = RX6 ∧ yX6_turnBy.cls ≠ "java/lang/invoke/MethodHandle" ∧ yX6_turnBy.cls ≠ "java/lang/invoke/VarHandle" ∧ (parseMethodDescriptor yX6_turnBy.desc).map (fun d => d.parameters.length) = some 4 := by decide +kernel
theorem call_f_t_turnBy {D : TD} {m : Nat} {K : xK} {M : xM} {Q : State → Prop} {x1 : Int32} {x2 : Int32} {x3 : Int32} {x4 : Int32} {τ : TS} {pc : Nat} {loc : List (Nat × Value)} {st : List Value} {r : Int32} {τ1 : TS} (hf : f_t_turnBy x1 x2 x3 x4 τ = some (r, τ1)) (ho : M.2.2.1 = RX6) (hfr : 3 ≤ M.2.2.2.1) (hlo : 145 ≤ M.2.2.2.2.1) (hcat : (st.map fun v => v.category).sum ≤ 8) (d : decode M.1 pc = .ok (.invokevirtual 482, 3)) (k : xV (wT D m) K M Q τ1 (pc + 3) loc (.int r :: st)) : xV (wT D m) K M Q τ pc loc (.int x4 :: .int x3 :: .int x2 :: .int x1 :: .ref m :: st) :=
  xr_callV (As := [.int x1, .int x2, .int x3, .int x4]) (rest := st) (met_f_t_turnBy K.2.1 hf) (lw_V q2365 q2367 qs113 q186 q2368) hd_f_t_turnBy ho hfr hlo rfl (fun H hR hK => t_recv H hR hK) rfl hcat d k
abbrev mX6_qPuts : xM := (cX6_qPuts, 3, RX6, 0, 0, none, "qPuts")
def f_t_qPuts (x1 : Int64) (τ : TS) : Option TS :=
  if xin (tI τ 127) 1700 = true then
  some (sI (sM τ 126 (tI τ 127).toNatClampNeg x1) 127 ((tI (sM τ 126 (tI τ 127).toNatClampNeg x1) 127) + 1))
  else none
theorem ok_f_t_qPuts {D : TD} {m : Nat} {K : xK} {Z : Option Value × TS} {x1 : Int64} {τ : TS} {o_ : TS} (hf : f_t_qPuts x1 τ = some o_) (kr : ∀ r_ : TS, o_ = r_ → Z = (none, r_)) : xV (wT D m) K mX6_qPuts (xQ (wT D m) K Z) τ 0 [(0, .ref m), (1, .long x1)] [] := by
  unfold f_t_qPuts at hf
  refine xr_aload_n (pc := 0) 0 dX6_qPuts_0 rfl rfl ?_
  refine xt_getA (pc := 1) 126 (by decide) q1872 rfl rfl rfl dX6_qPuts_1 ?_
  refine xr_aload_n (pc := 4) 0 dX6_qPuts_4 rfl rfl ?_
  refine xt_getI (pc := 5) 127 (by decide) q1873 rfl rfl rfl dX6_qPuts_5 ?_
  refine xr_lload_n (pc := 8) 1 dX6_qPuts_8 rfl rfl ?_
  obtain ⟨hi_, hf⟩ := xo_if hf
  refine xt_last (pc := 9) 126 rfl rfl hi_ dX6_qPuts_9 ?_
  refine xr_aload_n (pc := 10) 0 dX6_qPuts_10 rfl rfl ?_
  refine xr_dup (pc := 11) dX6_qPuts_11 rfl ?_
  refine xt_getI (pc := 12) 127 (by decide) q1873 rfl rfl rfl dX6_qPuts_12 ?_
  refine xr_iconst (pc := 15) dX6_qPuts_15 xci_1 ?_
  refine xr_iadd (pc := 16) dX6_qPuts_16 ?_
  refine xt_putI (pc := 17) 127 (by decide) q1873 rfl rfl rfl (by decide +kernel) rfl dX6_qPuts_17 ?_
  rw [kr _ (Option.some.inj hf).symm]
  exact xr_vret (pc := 20) dX6_qPuts_20 rfl
theorem met_f_t_qPuts (l : Launch) {D : TD} {m : Nat} {x1 : Int64} {τ : TS} {o_ : TS} (hf : f_t_qPuts x1 τ = some o_) : xMet (wT D m) l yX6_qPuts (ws_ yX6_qPuts cX6_qPuts 3 none) 0 0 0 0 [.ref m, .long x1] τ (none, o_) :=
  xMet_of (by decide) (Nat.le_of_ble_eq_true rfl) KT_moved (fun _ _ => trivial) (fun K _ _ _ => ok_f_t_qPuts hf (fun _ h => by rw [h]))
theorem hd_f_t_qPuts : yX6_qPuts.cls = RX6 ∧ yX6_qPuts.cls ≠ "java/lang/invoke/MethodHandle" ∧ yX6_qPuts.cls ≠ "java/lang/invoke/VarHandle" ∧ (parseMethodDescriptor yX6_qPuts.desc).map (fun d => d.parameters.length) = some 1 := by decide +kernel
theorem call_f_t_qPuts {D : TD} {m : Nat} {K : xK} {M : xM} {Q : State → Prop} {x1 : Int64} {τ : TS} {pc : Nat} {loc : List (Nat × Value)} {st : List Value} {τ1 : TS} (hf : f_t_qPuts x1 τ = some τ1) (ho : M.2.2.1 = RX6) (hfr : 1 ≤ M.2.2.2.1) (hlo : 22 ≤ M.2.2.2.2.1) (hcat : (st.map fun v => v.category).sum ≤ 8) (d : decode M.1 pc = .ok (.invokevirtual 502, 3)) (k : xV (wT D m) K M Q τ1 (pc + 3) loc st) : xV (wT D m) K M Q τ pc loc (.long x1 :: .ref m :: st) :=
  xr_callV (As := [.long x1]) (rest := st) (met_f_t_qPuts K.2.1 hf) (lw_V q2377 q2379 qs116 q186 q2380) hd_f_t_qPuts ho hfr hlo rfl (fun H hR hK => t_recv H hR hK) rfl hcat d k
abbrev mX6_willowsAt : xM := (cX6_willowsAt, 2, RX6, 0, 0, (some .int), "willowsAt")
def f_t_willowsAt (x1 : Int32) (τ : TS) : Option (Int32 × TS) :=
  if xin (12 + x1) 303 = true then
  some ((tA τ 62 (12 + x1).toNatClampNeg, τ))
  else none
theorem ok_f_t_willowsAt {D : TD} {m : Nat} {K : xK} {Z : Option Value × TS} {x1 : Int32} {τ : TS} {o_ : (Int32 × TS)} (hf : f_t_willowsAt x1 τ = some o_) (kr : ∀ r_ : (Int32 × TS), o_ = r_ → Z = (some (.int r_.1), r_.2)) : xV (wT D m) K mX6_willowsAt (xQ (wT D m) K Z) τ 0 [(0, .ref m), (1, .int x1)] [] := by
  unfold f_t_willowsAt at hf
  refine xr_aload_n (pc := 0) 0 dX6_willowsAt_0 rfl rfl ?_
  refine xt_getA (pc := 1) 62 (by decide) q1808 rfl rfl rfl dX6_willowsAt_1 ?_
  refine xr_bipush (pc := 4) dX6_willowsAt_4 xcb_12 ?_
  refine xr_iload_n (pc := 6) 1 dX6_willowsAt_6 rfl rfl ?_
  refine xr_iadd (pc := 7) dX6_willowsAt_7 ?_
  obtain ⟨hi_, hf⟩ := xo_if hf
  refine xt_iald (pc := 8) 62 rfl rfl hi_ dX6_willowsAt_8 ?_
  rw [kr _ (Option.some.inj hf).symm]
  exact xr_iret (pc := 9) dX6_willowsAt_9 rfl
theorem met_f_t_willowsAt (l : Launch) {D : TD} {m : Nat} {x1 : Int32} {τ : TS} {o_ : (Int32 × TS)} (hf : f_t_willowsAt x1 τ = some o_) : xMet (wT D m) l yX6_willowsAt (ws_ yX6_willowsAt cX6_willowsAt 2 (some .int)) 0 0 0 0 [.ref m, .int x1] τ (some (.int o_.1), o_.2) :=
  xMet_of (by decide) (Nat.le_of_ble_eq_true rfl) KT_moved (fun _ _ => trivial) (fun K _ _ _ => ok_f_t_willowsAt hf (fun _ h => by rw [h]))
theorem hd_f_t_willowsAt : yX6_willowsAt.cls = RX6 ∧ yX6_willowsAt.cls ≠ "java/lang/invoke/MethodHandle" ∧ yX6_willowsAt.cls ≠ "java/lang/invoke/VarHandle" ∧ (parseMethodDescriptor yX6_willowsAt.desc).map (fun d => d.parameters.length) = some 1 := by decide +kernel
theorem call_f_t_willowsAt {D : TD} {m : Nat} {K : xK} {M : xM} {Q : State → Prop} {x1 : Int32} {τ : TS} {pc : Nat} {loc : List (Nat × Value)} {st : List Value} {r : Int32} {τ1 : TS} (hf : f_t_willowsAt x1 τ = some (r, τ1)) (ho : M.2.2.1 = RX6) (hfr : 1 ≤ M.2.2.2.1) (hlo : 21 ≤ M.2.2.2.2.1) (hcat : (st.map fun v => v.category).sum ≤ 8) (d : decode M.1 pc = .ok (.invokevirtual 519, 3)) (k : xV (wT D m) K M Q τ1 (pc + 3) loc (.int r :: st)) : xV (wT D m) K M Q τ pc loc (.int x1 :: .ref m :: st) :=
  xr_callV (As := [.int x1]) (rest := st) (met_f_t_willowsAt K.2.1 hf) (lw_V q2385 q2387 qs118 q186 q2388) hd_f_t_willowsAt ho hfr hlo rfl (fun H hR hK => t_recv H hR hK) rfl hcat d k
abbrev mX6_isOf : xM := (cX6_isOf, 3, RX6, 0, 0, (some .boolean), "isOf")
def Jt_isOf_34 (τ : TS) : Option (Int32 × TS) :=
  some ((0, τ))
theorem ok_Jt_isOf_34 {D : TD} {m : Nat} {K : xK} {Z : Option Value × TS} {τ : TS} {o_ : (Int32 × TS)} (hf : Jt_isOf_34 τ = some o_) (kr : ∀ r_ : (Int32 × TS), o_ = r_ → Z = (some (.int r_.1), r_.2)) : xV (wT D m) K mX6_isOf (xQ (wT D m) K Z) τ 34 [] [] := by
  unfold Jt_isOf_34 at hf
  refine xr_iconst (pc := 34) dX6_isOf_34 xci_0 ?_
  rw [kr _ (Option.some.inj hf).symm]
  exact xr_zret (pc := 35) dX6_isOf_35 rfl xz_0
def f_t_isOf (x1 : Int32) (x2 : Int32) (τ : TS) : Option (Int32 × TS) :=
  if xin (25 + (5 * x1)) 50 = true then
  if x2 < (tA τ 49 (25 + (5 * x1)).toNatClampNeg) then
  Jt_isOf_34 τ
  else
  if xin (26 + (5 * x1)) 50 = true then
  if (tA τ 49 (26 + (5 * x1)).toNatClampNeg) < x2 then
  Jt_isOf_34 τ
  else
  some ((1, τ))
  else none
  else none
theorem ok_f_t_isOf {D : TD} {m : Nat} {K : xK} {Z : Option Value × TS} {x1 : Int32} {x2 : Int32} {τ : TS} {o_ : (Int32 × TS)} (hf : f_t_isOf x1 x2 τ = some o_) (kr : ∀ r_ : (Int32 × TS), o_ = r_ → Z = (some (.int r_.1), r_.2)) : xV (wT D m) K mX6_isOf (xQ (wT D m) K Z) τ 0 [(0, .ref m), (1, .int x1), (2, .int x2)] [] := by
  unfold f_t_isOf at hf
  refine xr_iload_n (pc := 0) 2 dX6_isOf_0 rfl rfl ?_
  refine xr_aload_n (pc := 1) 0 dX6_isOf_1 rfl rfl ?_
  refine xt_getA (pc := 2) 49 (by decide) q1795 rfl rfl rfl dX6_isOf_2 ?_
  refine xr_bipush (pc := 5) dX6_isOf_5 xcb_25 ?_
  refine xr_iconst (pc := 7) dX6_isOf_7 xci_5 ?_
  refine xr_iload_n (pc := 8) 1 dX6_isOf_8 rfl rfl ?_
  refine xr_imul (pc := 9) dX6_isOf_9 ?_
  refine xr_iadd (pc := 10) dX6_isOf_10 ?_
  obtain ⟨hi_, hf⟩ := xo_if hf
  refine xt_iald (pc := 11) 49 rfl rfl hi_ dX6_isOf_11 ?_
  refine xr_icmp_lt (pc := 12) 34 dX6_isOf_12 (by decide) (fun c_ => ?_) (fun c_ => ?_)
  · have hf := xo_pos c_ hf
    refine xV_sub [] rfl ?_
    exact ok_Jt_isOf_34 hf kr
  · have hf := xo_neg c_ hf
    refine xr_iload_n (pc := 15) 2 dX6_isOf_15 rfl rfl ?_
    refine xr_aload_n (pc := 16) 0 dX6_isOf_16 rfl rfl ?_
    refine xt_getA (pc := 17) 49 (by decide) q1795 rfl rfl rfl dX6_isOf_17 ?_
    refine xr_bipush (pc := 20) dX6_isOf_20 xcb_26 ?_
    refine xr_iconst (pc := 22) dX6_isOf_22 xci_5 ?_
    refine xr_iload_n (pc := 23) 1 dX6_isOf_23 rfl rfl ?_
    refine xr_imul (pc := 24) dX6_isOf_24 ?_
    refine xr_iadd (pc := 25) dX6_isOf_25 ?_
    obtain ⟨hi_, hf⟩ := xo_if hf
    refine xt_iald (pc := 26) 49 rfl rfl hi_ dX6_isOf_26 ?_
    refine xr_icmp_gt (pc := 27) 34 dX6_isOf_27 (by decide) (fun c_ => ?_) (fun c_ => ?_)
    · have hf := xo_pos c_ hf
      refine xV_sub [] rfl ?_
      exact ok_Jt_isOf_34 hf kr
    · have hf := xo_neg c_ hf
      refine xr_iconst (pc := 30) dX6_isOf_30 xci_1 ?_
      refine xr_goto (pc := 31) 35 dX6_isOf_31 (by decide) ?_
      rw [kr _ (Option.some.inj hf).symm]
      exact xr_zret (pc := 35) dX6_isOf_35 rfl xz_1
theorem met_f_t_isOf (l : Launch) {D : TD} {m : Nat} {x1 : Int32} {x2 : Int32} {τ : TS} {o_ : (Int32 × TS)} (hf : f_t_isOf x1 x2 τ = some o_) : xMet (wT D m) l yX6_isOf (ws_ yX6_isOf cX6_isOf 3 (some .boolean)) 0 0 0 0 [.ref m, .int x1, .int x2] τ (some (.int o_.1), o_.2) :=
  xMet_of (by decide) (Nat.le_of_ble_eq_true rfl) KT_moved (fun _ _ => trivial) (fun K _ _ _ => ok_f_t_isOf hf (fun _ h => by rw [h]))
theorem hd_f_t_isOf : yX6_isOf.cls = RX6 ∧ yX6_isOf.cls ≠ "java/lang/invoke/MethodHandle" ∧ yX6_isOf.cls ≠ "java/lang/invoke/VarHandle" ∧ (parseMethodDescriptor yX6_isOf.desc).map (fun d => d.parameters.length) = some 2 := by decide +kernel
theorem call_f_t_isOf {D : TD} {m : Nat} {K : xK} {M : xM} {Q : State → Prop} {x1 : Int32} {x2 : Int32} {τ : TS} {pc : Nat} {loc : List (Nat × Value)} {st : List Value} {r : Int32} {τ1 : TS} (hf : f_t_isOf x1 x2 τ = some (r, τ1)) (ho : M.2.2.1 = RX6) (hfr : 1 ≤ M.2.2.2.1) (hlo : 22 ≤ M.2.2.2.2.1) (hcat : (st.map fun v => v.category).sum ≤ 8) (d : decode M.1 pc = .ok (.invokevirtual 492, 3)) (k : xV (wT D m) K M Q τ1 (pc + 3) loc (.int r :: st)) : xV (wT D m) K M Q τ pc loc (.int x2 :: .int x1 :: .ref m :: st) :=
  xr_callV (As := [.int x1, .int x2]) (rest := st) (met_f_t_isOf K.2.1 hf) (lw_V q2393 q2395 qs120 q186 q2396) hd_f_t_isOf ho hfr hlo rfl (fun H hR hK => t_recv H hR hK) rfl hcat d k
abbrev mX6_doesOffer : xM := (cX6_doesOffer, 2, RX6, 0, 0, (some .boolean), "doesOffer")
def f_t_doesOffer (x1 : Int32) (τ : TS) : Option (Int32 × TS) :=
  if xin (172 + (2 * x1)) 303 = true then
  if (tA τ 62 (172 + (2 * x1)).toNatClampNeg) = 1 then
  some ((1, τ))
  else
  some ((0, τ))
  else none
theorem ok_f_t_doesOffer {D : TD} {m : Nat} {K : xK} {Z : Option Value × TS} {x1 : Int32} {τ : TS} {o_ : (Int32 × TS)} (hf : f_t_doesOffer x1 τ = some o_) (kr : ∀ r_ : (Int32 × TS), o_ = r_ → Z = (some (.int r_.1), r_.2)) : xV (wT D m) K mX6_doesOffer (xQ (wT D m) K Z) τ 0 [(0, .ref m), (1, .int x1)] [] := by
  unfold f_t_doesOffer at hf
  refine xr_aload_n (pc := 0) 0 dX6_doesOffer_0 rfl rfl ?_
  refine xt_getA (pc := 1) 62 (by decide) q1808 rfl rfl rfl dX6_doesOffer_1 ?_
  refine xr_sipush (pc := 4) dX6_doesOffer_4 xcs_172 ?_
  refine xr_iconst (pc := 7) dX6_doesOffer_7 xci_2 ?_
  refine xr_iload_n (pc := 8) 1 dX6_doesOffer_8 rfl rfl ?_
  refine xr_imul (pc := 9) dX6_doesOffer_9 ?_
  refine xr_iadd (pc := 10) dX6_doesOffer_10 ?_
  obtain ⟨hi_, hf⟩ := xo_if hf
  refine xt_iald (pc := 11) 62 rfl rfl hi_ dX6_doesOffer_11 ?_
  refine xr_iconst (pc := 12) dX6_doesOffer_12 xci_1 ?_
  refine xr_icmp_ne (pc := 13) 20 dX6_doesOffer_13 (by decide) (fun c_ => ?_) (fun c_ => ?_)
  · have hf := xo_pos c_ hf
    refine xr_iconst (pc := 16) dX6_doesOffer_16 xci_1 ?_
    refine xr_goto (pc := 17) 21 dX6_doesOffer_17 (by decide) ?_
    rw [kr _ (Option.some.inj hf).symm]
    exact xr_zret (pc := 21) dX6_doesOffer_21 rfl xz_1
  · have hf := xo_neg c_ hf
    refine xr_iconst (pc := 20) dX6_doesOffer_20 xci_0 ?_
    rw [kr _ (Option.some.inj hf).symm]
    exact xr_zret (pc := 21) dX6_doesOffer_21 rfl xz_0
theorem met_f_t_doesOffer (l : Launch) {D : TD} {m : Nat} {x1 : Int32} {τ : TS} {o_ : (Int32 × TS)} (hf : f_t_doesOffer x1 τ = some o_) : xMet (wT D m) l yX6_doesOffer (ws_ yX6_doesOffer cX6_doesOffer 2 (some .boolean)) 0 0 0 0 [.ref m, .int x1] τ (some (.int o_.1), o_.2) :=
  xMet_of (by decide) (Nat.le_of_ble_eq_true rfl) KT_moved (fun _ _ => trivial) (fun K _ _ _ => ok_f_t_doesOffer hf (fun _ h => by rw [h]))
theorem hd_f_t_doesOffer : yX6_doesOffer.cls = RX6 ∧ yX6_doesOffer.cls ≠ "java/lang/invoke/MethodHandle" ∧ yX6_doesOffer.cls ≠ "java/lang/invoke/VarHandle" ∧ (parseMethodDescriptor yX6_doesOffer.desc).map (fun d => d.parameters.length) = some 1 := by decide +kernel
theorem call_f_t_doesOffer {D : TD} {m : Nat} {K : xK} {M : xM} {Q : State → Prop} {x1 : Int32} {τ : TS} {pc : Nat} {loc : List (Nat × Value)} {st : List Value} {r : Int32} {τ1 : TS} (hf : f_t_doesOffer x1 τ = some (r, τ1)) (ho : M.2.2.1 = RX6) (hfr : 1 ≤ M.2.2.2.1) (hlo : 21 ≤ M.2.2.2.2.1) (hcat : (st.map fun v => v.category).sum ≤ 8) (d : decode M.1 pc = .ok (.invokevirtual 486, 3)) (k : xV (wT D m) K M Q τ1 (pc + 3) loc (.int r :: st)) : xV (wT D m) K M Q τ pc loc (.int x1 :: .ref m :: st) :=
  xr_callV (As := [.int x1]) (rest := st) (met_f_t_doesOffer K.2.1 hf) (lw_V q2401 q2403 qs122 q186 q2404) hd_f_t_doesOffer ho hfr hlo rfl (fun H hR hK => t_recv H hR hK) rfl hcat d k
abbrev mX6_purseOf : xM := (cX6_purseOf, 2, RX6, 0, 0, (some .int), "purseOf")
def f_t_purseOf (x1 : Int32) (τ : TS) : Option (Int32 × TS) :=
  if xin ((172 + (2 * x1)) + 1) 303 = true then
  some ((tA τ 62 ((172 + (2 * x1)) + 1).toNatClampNeg, τ))
  else none
theorem ok_f_t_purseOf {D : TD} {m : Nat} {K : xK} {Z : Option Value × TS} {x1 : Int32} {τ : TS} {o_ : (Int32 × TS)} (hf : f_t_purseOf x1 τ = some o_) (kr : ∀ r_ : (Int32 × TS), o_ = r_ → Z = (some (.int r_.1), r_.2)) : xV (wT D m) K mX6_purseOf (xQ (wT D m) K Z) τ 0 [(0, .ref m), (1, .int x1)] [] := by
  unfold f_t_purseOf at hf
  refine xr_aload_n (pc := 0) 0 dX6_purseOf_0 rfl rfl ?_
  refine xt_getA (pc := 1) 62 (by decide) q1808 rfl rfl rfl dX6_purseOf_1 ?_
  refine xr_sipush (pc := 4) dX6_purseOf_4 xcs_172 ?_
  refine xr_iconst (pc := 7) dX6_purseOf_7 xci_2 ?_
  refine xr_iload_n (pc := 8) 1 dX6_purseOf_8 rfl rfl ?_
  refine xr_imul (pc := 9) dX6_purseOf_9 ?_
  refine xr_iadd (pc := 10) dX6_purseOf_10 ?_
  refine xr_iconst (pc := 11) dX6_purseOf_11 xci_1 ?_
  refine xr_iadd (pc := 12) dX6_purseOf_12 ?_
  obtain ⟨hi_, hf⟩ := xo_if hf
  refine xt_iald (pc := 13) 62 rfl rfl hi_ dX6_purseOf_13 ?_
  rw [kr _ (Option.some.inj hf).symm]
  exact xr_iret (pc := 14) dX6_purseOf_14 rfl
theorem met_f_t_purseOf (l : Launch) {D : TD} {m : Nat} {x1 : Int32} {τ : TS} {o_ : (Int32 × TS)} (hf : f_t_purseOf x1 τ = some o_) : xMet (wT D m) l yX6_purseOf (ws_ yX6_purseOf cX6_purseOf 2 (some .int)) 0 0 0 0 [.ref m, .int x1] τ (some (.int o_.1), o_.2) :=
  xMet_of (by decide) (Nat.le_of_ble_eq_true rfl) KT_moved (fun _ _ => trivial) (fun K _ _ _ => ok_f_t_purseOf hf (fun _ h => by rw [h]))
theorem hd_f_t_purseOf : yX6_purseOf.cls = RX6 ∧ yX6_purseOf.cls ≠ "java/lang/invoke/MethodHandle" ∧ yX6_purseOf.cls ≠ "java/lang/invoke/VarHandle" ∧ (parseMethodDescriptor yX6_purseOf.desc).map (fun d => d.parameters.length) = some 1 := by decide +kernel
theorem call_f_t_purseOf {D : TD} {m : Nat} {K : xK} {M : xM} {Q : State → Prop} {x1 : Int32} {τ : TS} {pc : Nat} {loc : List (Nat × Value)} {st : List Value} {r : Int32} {τ1 : TS} (hf : f_t_purseOf x1 τ = some (r, τ1)) (ho : M.2.2.1 = RX6) (hfr : 1 ≤ M.2.2.2.1) (hlo : 21 ≤ M.2.2.2.2.1) (hcat : (st.map fun v => v.category).sum ≤ 8) (d : decode M.1 pc = .ok (.invokevirtual 489, 3)) (k : xV (wT D m) K M Q τ1 (pc + 3) loc (.int r :: st)) : xV (wT D m) K M Q τ pc loc (.int x1 :: .ref m :: st) :=
  xr_callV (As := [.int x1]) (rest := st) (met_f_t_purseOf K.2.1 hf) (lw_V q2405 q2407 qs123 q186 q2408) hd_f_t_purseOf ho hfr hlo rfl (fun H hR hK => t_recv H hR hK) rfl hcat d k
abbrev mX6_offerOf : xM := (cX6_offerOf, 3, RX6, 1, 60, (some .int), "offerOf")
def Jt_offerOf_33 (τ : TS) : Option (Int32 × TS) :=
  some ((0, τ))
theorem ok_Jt_offerOf_33 {D : TD} {m : Nat} {K : xK} {Z : Option Value × TS} {τ : TS} {o_ : (Int32 × TS)} (hf : Jt_offerOf_33 τ = some o_) (kr : ∀ r_ : (Int32 × TS), o_ = r_ → Z = (some (.int r_.1), r_.2)) : xV (wT D m) K mX6_offerOf (xQ (wT D m) K Z) τ 33 [] [] := by
  unfold Jt_offerOf_33 at hf
  refine xr_iconst (pc := 33) dX6_offerOf_33 xci_0 ?_
  rw [kr _ (Option.some.inj hf).symm]
  exact xr_iret (pc := 34) dX6_offerOf_34 rfl
def f_t_offerOf (x1 : Int32) (τ : TS) : Option (Int32 × TS) :=
  if xin (27 + (5 * x1)) 50 = true then
  xbd (f_t_doesOffer x1 τ) fun r1 τ1 =>
  if r1 = 0 then
  Jt_offerOf_33 τ1
  else
  xbd (f_t_purseOf x1 τ1) fun r2 τ2 =>
  if r2 < (tA τ 49 (27 + (5 * x1)).toNatClampNeg) then
  Jt_offerOf_33 τ2
  else
  some ((tA τ 49 (27 + (5 * x1)).toNatClampNeg, τ2))
  else none
theorem ok_f_t_offerOf {D : TD} {m : Nat} {K : xK} {Z : Option Value × TS} {x1 : Int32} {τ : TS} {o_ : (Int32 × TS)} (hf : f_t_offerOf x1 τ = some o_) (kr : ∀ r_ : (Int32 × TS), o_ = r_ → Z = (some (.int r_.1), r_.2)) : xV (wT D m) K mX6_offerOf (xQ (wT D m) K Z) τ 0 [(0, .ref m), (1, .int x1)] [] := by
  unfold f_t_offerOf at hf
  refine xr_aload_n (pc := 0) 0 dX6_offerOf_0 rfl rfl ?_
  refine xt_getA (pc := 1) 49 (by decide) q1795 rfl rfl rfl dX6_offerOf_1 ?_
  refine xr_bipush (pc := 4) dX6_offerOf_4 xcb_27 ?_
  refine xr_iconst (pc := 6) dX6_offerOf_6 xci_5 ?_
  refine xr_iload_n (pc := 7) 1 dX6_offerOf_7 rfl rfl ?_
  refine xr_imul (pc := 8) dX6_offerOf_8 ?_
  refine xr_iadd (pc := 9) dX6_offerOf_9 ?_
  obtain ⟨hi_, hf⟩ := xo_if hf
  refine xt_iald (pc := 10) 49 rfl rfl hi_ dX6_offerOf_10 ?_
  refine xr_istore_n (pc := 11) (loc' := [(2, .int (tA τ 49 (27 + (5 * x1)).toNatClampNeg)), (0, .ref m), (1, .int x1)]) dX6_offerOf_11 rfl (by decide) rfl ?_
  refine xr_aload_n (pc := 12) 1 dX6_offerOf_12 rfl rfl ?_
  refine xr_iload_n (pc := 13) 2 dX6_offerOf_13 rfl rfl ?_
  obtain ⟨r1, τ1, hτ1, hf⟩ := xo_bd hf
  refine call_f_t_doesOffer (pc := 14) hτ1 rfl (Nat.le_of_ble_eq_true rfl) (Nat.le_of_ble_eq_true rfl) (Nat.le_of_ble_eq_true rfl) dX6_offerOf_14 ?_
  refine xr_if_eq (pc := 17) 33 dX6_offerOf_17 (by decide) (fun c_ => ?_) (fun c_ => ?_)
  · have hf := xo_pos c_ hf
    refine xV_sub [] rfl ?_
    exact ok_Jt_offerOf_33 hf kr
  · have hf := xo_neg c_ hf
    refine xr_aload_n (pc := 20) 1 dX6_offerOf_20 rfl rfl ?_
    refine xr_iload_n (pc := 21) 2 dX6_offerOf_21 rfl rfl ?_
    obtain ⟨r2, τ2, hτ2, hf⟩ := xo_bd hf
    refine call_f_t_purseOf (pc := 22) hτ2 rfl (Nat.le_of_ble_eq_true rfl) (Nat.le_of_ble_eq_true rfl) (Nat.le_of_ble_eq_true rfl) dX6_offerOf_22 ?_
    refine xr_iload_n (pc := 25) 0 dX6_offerOf_25 rfl rfl ?_
    refine xr_icmp_lt (pc := 26) 33 dX6_offerOf_26 (by decide) (fun c_ => ?_) (fun c_ => ?_)
    · have hf := xo_pos c_ hf
      refine xV_sub [] rfl ?_
      exact ok_Jt_offerOf_33 hf kr
    · have hf := xo_neg c_ hf
      refine xr_iload_n (pc := 29) 0 dX6_offerOf_29 rfl rfl ?_
      refine xr_goto (pc := 30) 34 dX6_offerOf_30 (by decide) ?_
      rw [kr _ (Option.some.inj hf).symm]
      exact xr_iret (pc := 34) dX6_offerOf_34 rfl
theorem met_f_t_offerOf (l : Launch) {D : TD} {m : Nat} {x1 : Int32} {τ : TS} {o_ : (Int32 × TS)} (hf : f_t_offerOf x1 τ = some o_) : xMet (wT D m) l yX6_offerOf (ws_ yX6_offerOf cX6_offerOf 3 (some .int)) 1 60 0 0 [.ref m, .int x1] τ (some (.int o_.1), o_.2) :=
  xMet_of (by decide) (Nat.le_of_ble_eq_true rfl) KT_moved (fun _ _ => trivial) (fun K _ _ _ => ok_f_t_offerOf hf (fun _ h => by rw [h]))
theorem hd_f_t_offerOf : yX6_offerOf.cls = RX6 ∧ yX6_offerOf.cls ≠ "java/lang/invoke/MethodHandle" ∧ yX6_offerOf.cls ≠ "java/lang/invoke/VarHandle" ∧ (parseMethodDescriptor yX6_offerOf.desc).map (fun d => d.parameters.length) = some 1 := by decide +kernel
theorem call_f_t_offerOf {D : TD} {m : Nat} {K : xK} {M : xM} {Q : State → Prop} {x1 : Int32} {τ : TS} {pc : Nat} {loc : List (Nat × Value)} {st : List Value} {r : Int32} {τ1 : TS} (hf : f_t_offerOf x1 τ = some (r, τ1)) (ho : M.2.2.1 = RX6) (hfr : 2 ≤ M.2.2.2.1) (hlo : 82 ≤ M.2.2.2.2.1) (hcat : (st.map fun v => v.category).sum ≤ 8) (d : decode M.1 pc = .ok (.invokevirtual 496, 3)) (k : xV (wT D m) K M Q τ1 (pc + 3) loc (.int r :: st)) : xV (wT D m) K M Q τ pc loc (.int x1 :: .ref m :: st) :=
  xr_callV (As := [.int x1]) (rest := st) (met_f_t_offerOf K.2.1 hf) (lw_V q2397 q2399 qs121 q186 q2400) hd_f_t_offerOf ho hfr hlo rfl (fun H hR hK => t_recv H hR hK) rfl hcat d k
abbrev mX6_payOf : xM := (cX6_payOf, 4, RX6, 2, 120, (some .int), "payOf")
def Jt_payOf_29 (x1 : Int32) (x2 : Int32) (x3 : Int32) (τ : TS) : Option ((Int32 × Int32 × TS) ⊕ ((Int32 × TS))) :=
  some (.inl (x2, x3 + 1, τ))
theorem ok_Jt_payOf_29 {D : TD} {m : Nat} {K : xK} {Z : Option Value × TS} {x1 : Int32} {x2 : Int32} {x3 : Int32} {τ : TS} {o_ : ((Int32 × Int32 × TS) ⊕ ((Int32 × TS)))} (hf : Jt_payOf_29 x1 x2 x3 τ = some o_) (kc : ∀ s_ : Int32 × Int32 × TS, o_ = .inl s_ → xV (wT D m) K mX6_payOf (xQ (wT D m) K Z) s_.2.2 4 [(0, .ref m), (1, .int x1), (2, .int s_.1), (3, .int s_.2.1)] []) (ke0 : ∀ e_ : Int32 × TS, o_ = .inr e_ → xV (wT D m) K mX6_payOf (xQ (wT D m) K Z) e_.2 35 [(2, .int e_.1)] []) : xV (wT D m) K mX6_payOf (xQ (wT D m) K Z) τ 29 [(0, .ref m), (1, .int x1), (2, .int x2), (3, .int x3)] [] := by
  unfold Jt_payOf_29 at hf
  refine xr_iinc (pc := 29) (loc' := [(3, .int (x3 + 1)), (0, .ref m), (1, .int x1), (2, .int x2)]) 3 dX6_payOf_29 rfl xci_1 (by decide) rfl ?_
  refine xr_goto (pc := 32) 4 dX6_payOf_32 (by decide) ?_
  refine xV_sub [1, 2, 3, 0] rfl ?_
  exact kc _ (Option.some.inj hf).symm
def Bt_payOf_4 (x1 : Int32) (x2 : Int32) (x3 : Int32) (τ : TS) : Option ((Int32 × Int32 × TS) ⊕ ((Int32 × TS))) :=
  xbd (f_t_lordMany τ) fun r1 τ1 =>
  if r1 ≤ x3 then
  some (.inr (x2, τ1))
  else
  xbd (f_t_isOf x3 x1 τ1) fun r2 τ2 =>
  if r2 = 0 then
  Jt_payOf_29 x1 x2 x3 τ2
  else
  xbd (f_t_offerOf x3 τ2) fun r3 τ3 =>
  Jt_payOf_29 x1 (x2 + r3) x3 τ3
theorem ok_Bt_payOf_4 {D : TD} {m : Nat} {K : xK} {Z : Option Value × TS} {x1 : Int32} {x2 : Int32} {x3 : Int32} {τ : TS} {o_ : ((Int32 × Int32 × TS) ⊕ ((Int32 × TS)))} (hf : Bt_payOf_4 x1 x2 x3 τ = some o_) (kc : ∀ s_ : Int32 × Int32 × TS, o_ = .inl s_ → xV (wT D m) K mX6_payOf (xQ (wT D m) K Z) s_.2.2 4 [(0, .ref m), (1, .int x1), (2, .int s_.1), (3, .int s_.2.1)] []) (ke0 : ∀ e_ : Int32 × TS, o_ = .inr e_ → xV (wT D m) K mX6_payOf (xQ (wT D m) K Z) e_.2 35 [(2, .int e_.1)] []) : xV (wT D m) K mX6_payOf (xQ (wT D m) K Z) τ 4 [(0, .ref m), (1, .int x1), (2, .int x2), (3, .int x3)] [] := by
  unfold Bt_payOf_4 at hf
  refine xr_iload_n (pc := 4) 3 dX6_payOf_4 rfl rfl ?_
  refine xr_aload_n (pc := 5) 0 dX6_payOf_5 rfl rfl ?_
  obtain ⟨r1, τ1, hτ1, hf⟩ := xo_bd hf
  refine call_f_t_lordMany (pc := 6) hτ1 rfl (Nat.le_of_ble_eq_true rfl) (Nat.le_of_ble_eq_true rfl) (Nat.le_of_ble_eq_true rfl) dX6_payOf_6 ?_
  refine xr_icmp_ge (pc := 9) 35 dX6_payOf_9 (by decide) (fun c_ => ?_) (fun c_ => ?_)
  · have hf := xo_pos c_ hf
    refine xV_sub [2] rfl ?_
    exact ke0 _ (Option.some.inj hf).symm
  · have hf := xo_neg c_ hf
    refine xr_aload_n (pc := 12) 0 dX6_payOf_12 rfl rfl ?_
    refine xr_iload_n (pc := 13) 3 dX6_payOf_13 rfl rfl ?_
    refine xr_iload_n (pc := 14) 1 dX6_payOf_14 rfl rfl ?_
    obtain ⟨r2, τ2, hτ2, hf⟩ := xo_bd hf
    refine call_f_t_isOf (pc := 15) hτ2 rfl (Nat.le_of_ble_eq_true rfl) (Nat.le_of_ble_eq_true rfl) (Nat.le_of_ble_eq_true rfl) dX6_payOf_15 ?_
    refine xr_if_eq (pc := 18) 29 dX6_payOf_18 (by decide) (fun c_ => ?_) (fun c_ => ?_)
    · have hf := xo_pos c_ hf
      exact ok_Jt_payOf_29 hf kc ke0
    · have hf := xo_neg c_ hf
      refine xr_iload_n (pc := 21) 2 dX6_payOf_21 rfl rfl ?_
      refine xr_aload_n (pc := 22) 0 dX6_payOf_22 rfl rfl ?_
      refine xr_iload_n (pc := 23) 3 dX6_payOf_23 rfl rfl ?_
      obtain ⟨r3, τ3, hτ3, hf⟩ := xo_bd hf
      refine call_f_t_offerOf (pc := 24) hτ3 rfl (Nat.le_of_ble_eq_true rfl) (Nat.le_of_ble_eq_true rfl) (Nat.le_of_ble_eq_true rfl) dX6_payOf_24 ?_
      refine xr_iadd (pc := 27) dX6_payOf_27 ?_
      refine xr_istore_n (pc := 28) (loc' := [(2, .int (x2 + r3)), (0, .ref m), (1, .int x1), (3, .int x3)]) dX6_payOf_28 rfl (by decide) rfl ?_
      refine xV_sub [1, 2, 0, 3] rfl ?_
      exact ok_Jt_payOf_29 hf kc ke0
def f_t_payOf (x1 : Int32) (τ : TS) : Option (Int32 × TS) :=
  (itr (fun s_ : Int32 × Int32 × TS => Bt_payOf_4 x1 s_.1 s_.2.1 s_.2.2) 4096 (0, 0, τ)).bind fun b4 =>
  some ((b4.1, b4.2))
theorem ok_f_t_payOf {D : TD} {m : Nat} {K : xK} {Z : Option Value × TS} {x1 : Int32} {τ : TS} {o_ : (Int32 × TS)} (hf : f_t_payOf x1 τ = some o_) (kr : ∀ r_ : (Int32 × TS), o_ = r_ → Z = (some (.int r_.1), r_.2)) : xV (wT D m) K mX6_payOf (xQ (wT D m) K Z) τ 0 [(0, .ref m), (1, .int x1)] [] := by
  unfold f_t_payOf at hf
  refine xr_iconst (pc := 0) dX6_payOf_0 xci_0 ?_
  refine xr_istore_n (pc := 1) (loc' := [(2, .int 0), (0, .ref m), (1, .int x1)]) dX6_payOf_1 rfl (by decide) rfl ?_
  refine xr_iconst (pc := 2) dX6_payOf_2 xci_0 ?_
  refine xr_istore_n (pc := 3) (loc' := [(3, .int 0), (2, .int 0), (0, .ref m), (1, .int x1)]) dX6_payOf_3 rfl (by decide) rfl ?_
  refine xV_sub [2, 3, 1, 0] rfl ?_
  obtain ⟨b4, hb4, hf⟩ := xo_bind hf
  refine itr_rule (P := fun s_ : Int32 × Int32 × TS => xV (wT D m) K mX6_payOf (xQ (wT D m) K Z) s_.2.2 4 [(0, .ref m), (1, .int x1), (2, .int s_.1), (3, .int s_.2.1)] []) (fun s_ o_ hB_ hc_ he_ => ok_Bt_payOf_4 hB_ hc_ (fun e_ h_ => ?_)) 4096 _ hb4
  · have e9_ := he_ _ h_
    rw [e9_]
    refine xr_iload_n (pc := 35) 0 dX6_payOf_35 rfl rfl ?_
    rw [kr _ (Option.some.inj hf).symm]
    exact xr_iret (pc := 36) dX6_payOf_36 rfl
theorem met_f_t_payOf (l : Launch) {D : TD} {m : Nat} {x1 : Int32} {τ : TS} {o_ : (Int32 × TS)} (hf : f_t_payOf x1 τ = some o_) : xMet (wT D m) l yX6_payOf (ws_ yX6_payOf cX6_payOf 4 (some .int)) 2 120 0 0 [.ref m, .int x1] τ (some (.int o_.1), o_.2) :=
  xMet_of (by decide) (Nat.le_of_ble_eq_true rfl) KT_moved (fun _ _ => trivial) (fun K _ _ _ => ok_f_t_payOf hf (fun _ h => by rw [h]))
theorem hd_f_t_payOf : yX6_payOf.cls = RX6 ∧ yX6_payOf.cls ≠ "java/lang/invoke/MethodHandle" ∧ yX6_payOf.cls ≠ "java/lang/invoke/VarHandle" ∧ (parseMethodDescriptor yX6_payOf.desc).map (fun d => d.parameters.length) = some 1 := by decide +kernel
theorem call_f_t_payOf {D : TD} {m : Nat} {K : xK} {M : xM} {Q : State → Prop} {x1 : Int32} {τ : TS} {pc : Nat} {loc : List (Nat × Value)} {st : List Value} {r : Int32} {τ1 : TS} (hf : f_t_payOf x1 τ = some (r, τ1)) (ho : M.2.2.1 = RX6) (hfr : 3 ≤ M.2.2.2.1) (hlo : 143 ≤ M.2.2.2.2.1) (hcat : (st.map fun v => v.category).sum ≤ 8) (d : decode M.1 pc = .ok (.invokevirtual 513, 3)) (k : xV (wT D m) K M Q τ1 (pc + 3) loc (.int r :: st)) : xV (wT D m) K M Q τ pc loc (.int x1 :: .ref m :: st) :=
  xr_callV (As := [.int x1]) (rest := st) (met_f_t_payOf K.2.1 hf) (lw_V q2389 q2391 qs119 q186 q2392) hd_f_t_payOf ho hfr hlo rfl (fun H hR hK => t_recv H hR hK) rfl hcat d k
abbrev mX6_everAt : xM := (cX6_everAt, 2, RX6, 0, 0, (some .int), "everAt")
def f_t_everAt (x1 : Int32) (τ : TS) : Option (Int32 × TS) :=
  if xin (92 + x1) 303 = true then
  some ((tA τ 62 (92 + x1).toNatClampNeg, τ))
  else none
theorem ok_f_t_everAt {D : TD} {m : Nat} {K : xK} {Z : Option Value × TS} {x1 : Int32} {τ : TS} {o_ : (Int32 × TS)} (hf : f_t_everAt x1 τ = some o_) (kr : ∀ r_ : (Int32 × TS), o_ = r_ → Z = (some (.int r_.1), r_.2)) : xV (wT D m) K mX6_everAt (xQ (wT D m) K Z) τ 0 [(0, .ref m), (1, .int x1)] [] := by
  unfold f_t_everAt at hf
  refine xr_aload_n (pc := 0) 0 dX6_everAt_0 rfl rfl ?_
  refine xt_getA (pc := 1) 62 (by decide) q1808 rfl rfl rfl dX6_everAt_1 ?_
  refine xr_bipush (pc := 4) dX6_everAt_4 xcb_92 ?_
  refine xr_iload_n (pc := 6) 1 dX6_everAt_6 rfl rfl ?_
  refine xr_iadd (pc := 7) dX6_everAt_7 ?_
  obtain ⟨hi_, hf⟩ := xo_if hf
  refine xt_iald (pc := 8) 62 rfl rfl hi_ dX6_everAt_8 ?_
  rw [kr _ (Option.some.inj hf).symm]
  exact xr_iret (pc := 9) dX6_everAt_9 rfl
theorem met_f_t_everAt (l : Launch) {D : TD} {m : Nat} {x1 : Int32} {τ : TS} {o_ : (Int32 × TS)} (hf : f_t_everAt x1 τ = some o_) : xMet (wT D m) l yX6_everAt (ws_ yX6_everAt cX6_everAt 2 (some .int)) 0 0 0 0 [.ref m, .int x1] τ (some (.int o_.1), o_.2) :=
  xMet_of (by decide) (Nat.le_of_ble_eq_true rfl) KT_moved (fun _ _ => trivial) (fun K _ _ _ => ok_f_t_everAt hf (fun _ h => by rw [h]))
theorem hd_f_t_everAt : yX6_everAt.cls = RX6 ∧ yX6_everAt.cls ≠ "java/lang/invoke/MethodHandle" ∧ yX6_everAt.cls ≠ "java/lang/invoke/VarHandle" ∧ (parseMethodDescriptor yX6_everAt.desc).map (fun d => d.parameters.length) = some 1 := by decide +kernel
theorem call_f_t_everAt {D : TD} {m : Nat} {K : xK} {M : xM} {Q : State → Prop} {x1 : Int32} {τ : TS} {pc : Nat} {loc : List (Nat × Value)} {st : List Value} {r : Int32} {τ1 : TS} (hf : f_t_everAt x1 τ = some (r, τ1)) (ho : M.2.2.1 = RX6) (hfr : 1 ≤ M.2.2.2.1) (hlo : 21 ≤ M.2.2.2.2.1) (hcat : (st.map fun v => v.category).sum ≤ 8) (d : decode M.1 pc = .ok (.invokevirtual 593, 3)) (k : xV (wT D m) K M Q τ1 (pc + 3) loc (.int r :: st)) : xV (wT D m) K M Q τ pc loc (.int x1 :: .ref m :: st) :=
  xr_callV (As := [.int x1]) (rest := st) (met_f_t_everAt K.2.1 hf) (lw_V q2409 q2411 qs124 q186 q2412) hd_f_t_everAt ho hfr hlo rfl (fun H hR hK => t_recv H hR hK) rfl hcat d k
abbrev mX6_qPartOf : xM := (cX6_qPartOf, 3, RX6, 3, 180, (some .long), "qPartOf")
def f_t_qPartOf (x1 : Int32) (x2 : Int32) (τ : TS) : Option (Int64 × TS) :=
  if x1 = 0 then
  some (((tI τ 64).toInt64, τ))
  else
  if x1 = 1 then
  some (((tI τ 65).toInt64, τ))
  else
  if x1 = 2 then
  some (((tI τ 66).toInt64, τ))
  else
  if x1 = 3 then
  if xin 0 303 = true then
  some (((tA τ 62 (0 : Int32).toNatClampNeg).toInt64, τ))
  else none
  else
  if x1 = 4 then
  if xin ((80 + (8 * (tI τ 64))) + (tI τ 65)) 160 = true then
  some (((tA τ 50 ((80 + (8 * (tI τ 64))) + (tI τ 65)).toNatClampNeg).toInt64, τ))
  else none
  else
  if x1 = 5 then
  xbd (f_t_willowsAt ((8 * (tI τ 64)) + (tI τ 65)) τ) fun r5 τ5 =>
  some ((r5.toInt64, τ5))
  else
  if x1 = 6 then
  xbd (f_t_payOf (tI τ 64) τ) fun r4 τ4 =>
  some ((r4.toInt64, τ4))
  else
  if x1 = 7 then
  xbd (f_t_everAt ((8 * (tI τ 64)) + (tI τ 65)) τ) fun r3 τ3 =>
  some ((r3.toInt64, τ3))
  else
  if x1 = 8 then
  some (((tI τ 67).toInt64, τ))
  else
  if x1 = 9 then
  some (((tI τ 68).toInt64, τ))
  else
  if x1 = 10 then
  some ((x2.toInt64, τ))
  else
  if x1 = 11 then
  if xin (25 + (5 * x2)) 50 = true then
  some (((tA τ 49 (25 + (5 * x2)).toNatClampNeg).toInt64, τ))
  else none
  else
  if x1 = 12 then
  if xin (26 + (5 * x2)) 50 = true then
  some (((tA τ 49 (26 + (5 * x2)).toNatClampNeg).toInt64, τ))
  else none
  else
  if x1 = 13 then
  if xin (27 + (5 * x2)) 50 = true then
  some (((tA τ 49 (27 + (5 * x2)).toNatClampNeg).toInt64, τ))
  else none
  else
  if x1 = 14 then
  if xin (28 + (5 * x2)) 50 = true then
  some (((tA τ 49 (28 + (5 * x2)).toNatClampNeg).toInt64, τ))
  else none
  else
  if x1 = 15 then
  xbd (f_t_purseOf x2 τ) fun r2 τ2 =>
  some ((r2.toInt64, τ2))
  else
  if x1 = 16 then
  xbd (f_t_doesOffer x2 τ) fun r1 τ1 =>
  if r1 = 0 then
  some ((0, τ1))
  else
  some ((1, τ1))
  else
  if xin x2 5 = true then
  some (((tA τ 69 x2.toNatClampNeg).toInt64, τ))
  else none
theorem ok_f_t_qPartOf {D : TD} {m : Nat} {K : xK} {Z : Option Value × TS} {x1 : Int32} {x2 : Int32} {τ : TS} {o_ : (Int64 × TS)} (hf : f_t_qPartOf x1 x2 τ = some o_) (kr : ∀ r_ : (Int64 × TS), o_ = r_ → Z = (some (.long r_.1), r_.2)) : xV (wT D m) K mX6_qPartOf (xQ (wT D m) K Z) τ 0 [(0, .ref m), (1, .int x1), (2, .int x2)] [] := by
  unfold f_t_qPartOf at hf
  refine xr_iload_n (pc := 0) 1 dX6_qPartOf_0 rfl rfl ?_
  by_cases c0_ : x1 = 0
  · have hf := xo_pos c0_ hf
    refine xr_tsw_in (pc := 1) (v := 0) (off := 83) 84 dX6_qPartOf_1 c0_ (by decide) (by decide +kernel) (by decide) ?_
    refine xr_aload_n (pc := 84) 0 dX6_qPartOf_84 rfl rfl ?_
    refine xt_getI (pc := 85) 64 (by decide) q1810 rfl rfl rfl dX6_qPartOf_85 ?_
    refine xr_i2l (pc := 88) dX6_qPartOf_88 ?_
    rw [kr _ (Option.some.inj hf).symm]
    exact xr_lret (pc := 89) dX6_qPartOf_89 rfl
  have hf := xo_neg c0_ hf
  by_cases c1_ : x1 = 1
  · have hf := xo_pos c1_ hf
    refine xr_tsw_in (pc := 1) (v := 1) (off := 89) 90 dX6_qPartOf_1 c1_ (by decide) (by decide +kernel) (by decide) ?_
    refine xr_aload_n (pc := 90) 0 dX6_qPartOf_90 rfl rfl ?_
    refine xt_getI (pc := 91) 65 (by decide) q1811 rfl rfl rfl dX6_qPartOf_91 ?_
    refine xr_i2l (pc := 94) dX6_qPartOf_94 ?_
    rw [kr _ (Option.some.inj hf).symm]
    exact xr_lret (pc := 95) dX6_qPartOf_95 rfl
  have hf := xo_neg c1_ hf
  by_cases c2_ : x1 = 2
  · have hf := xo_pos c2_ hf
    refine xr_tsw_in (pc := 1) (v := 2) (off := 95) 96 dX6_qPartOf_1 c2_ (by decide) (by decide +kernel) (by decide) ?_
    refine xr_aload_n (pc := 96) 0 dX6_qPartOf_96 rfl rfl ?_
    refine xt_getI (pc := 97) 66 (by decide) q1812 rfl rfl rfl dX6_qPartOf_97 ?_
    refine xr_i2l (pc := 100) dX6_qPartOf_100 ?_
    rw [kr _ (Option.some.inj hf).symm]
    exact xr_lret (pc := 101) dX6_qPartOf_101 rfl
  have hf := xo_neg c2_ hf
  by_cases c3_ : x1 = 3
  · have hf := xo_pos c3_ hf
    refine xr_tsw_in (pc := 1) (v := 3) (off := 101) 102 dX6_qPartOf_1 c3_ (by decide) (by decide +kernel) (by decide) ?_
    refine xr_aload_n (pc := 102) 0 dX6_qPartOf_102 rfl rfl ?_
    refine xt_getA (pc := 103) 62 (by decide) q1808 rfl rfl rfl dX6_qPartOf_103 ?_
    refine xr_iconst (pc := 106) dX6_qPartOf_106 xci_0 ?_
    obtain ⟨hi_, hf⟩ := xo_if hf
    refine xt_iald (pc := 107) 62 rfl rfl hi_ dX6_qPartOf_107 ?_
    refine xr_i2l (pc := 108) dX6_qPartOf_108 ?_
    rw [kr _ (Option.some.inj hf).symm]
    exact xr_lret (pc := 109) dX6_qPartOf_109 rfl
  have hf := xo_neg c3_ hf
  by_cases c4_ : x1 = 4
  · have hf := xo_pos c4_ hf
    refine xr_tsw_in (pc := 1) (v := 4) (off := 109) 110 dX6_qPartOf_1 c4_ (by decide) (by decide +kernel) (by decide) ?_
    refine xr_aload_n (pc := 110) 0 dX6_qPartOf_110 rfl rfl ?_
    refine xt_getA (pc := 111) 50 (by decide) q1796 rfl rfl rfl dX6_qPartOf_111 ?_
    refine xr_bipush (pc := 114) dX6_qPartOf_114 xcb_80 ?_
    refine xr_bipush (pc := 116) dX6_qPartOf_116 xcb_8 ?_
    refine xr_aload_n (pc := 118) 0 dX6_qPartOf_118 rfl rfl ?_
    refine xt_getI (pc := 119) 64 (by decide) q1810 rfl rfl rfl dX6_qPartOf_119 ?_
    refine xr_imul (pc := 122) dX6_qPartOf_122 ?_
    refine xr_iadd (pc := 123) dX6_qPartOf_123 ?_
    refine xr_aload_n (pc := 124) 0 dX6_qPartOf_124 rfl rfl ?_
    refine xt_getI (pc := 125) 65 (by decide) q1811 rfl rfl rfl dX6_qPartOf_125 ?_
    refine xr_iadd (pc := 128) dX6_qPartOf_128 ?_
    obtain ⟨hi_, hf⟩ := xo_if hf
    refine xt_iald (pc := 129) 50 rfl rfl hi_ dX6_qPartOf_129 ?_
    refine xr_i2l (pc := 130) dX6_qPartOf_130 ?_
    rw [kr _ (Option.some.inj hf).symm]
    exact xr_lret (pc := 131) dX6_qPartOf_131 rfl
  have hf := xo_neg c4_ hf
  by_cases c5_ : x1 = 5
  · have hf := xo_pos c5_ hf
    refine xr_tsw_in (pc := 1) (v := 5) (off := 131) 132 dX6_qPartOf_1 c5_ (by decide) (by decide +kernel) (by decide) ?_
    refine xr_aload_n (pc := 132) 0 dX6_qPartOf_132 rfl rfl ?_
    refine xr_bipush (pc := 133) dX6_qPartOf_133 xcb_8 ?_
    refine xr_aload_n (pc := 135) 0 dX6_qPartOf_135 rfl rfl ?_
    refine xt_getI (pc := 136) 64 (by decide) q1810 rfl rfl rfl dX6_qPartOf_136 ?_
    refine xr_imul (pc := 139) dX6_qPartOf_139 ?_
    refine xr_aload_n (pc := 140) 0 dX6_qPartOf_140 rfl rfl ?_
    refine xt_getI (pc := 141) 65 (by decide) q1811 rfl rfl rfl dX6_qPartOf_141 ?_
    refine xr_iadd (pc := 144) dX6_qPartOf_144 ?_
    obtain ⟨r5, τ5, hτ5, hf⟩ := xo_bd hf
    refine call_f_t_willowsAt (pc := 145) hτ5 rfl (Nat.le_of_ble_eq_true rfl) (Nat.le_of_ble_eq_true rfl) (Nat.le_of_ble_eq_true rfl) dX6_qPartOf_145 ?_
    refine xr_i2l (pc := 148) dX6_qPartOf_148 ?_
    rw [kr _ (Option.some.inj hf).symm]
    exact xr_lret (pc := 149) dX6_qPartOf_149 rfl
  have hf := xo_neg c5_ hf
  by_cases c6_ : x1 = 6
  · have hf := xo_pos c6_ hf
    refine xr_tsw_in (pc := 1) (v := 6) (off := 149) 150 dX6_qPartOf_1 c6_ (by decide) (by decide +kernel) (by decide) ?_
    refine xr_aload_n (pc := 150) 0 dX6_qPartOf_150 rfl rfl ?_
    refine xr_aload_n (pc := 151) 0 dX6_qPartOf_151 rfl rfl ?_
    refine xt_getI (pc := 152) 64 (by decide) q1810 rfl rfl rfl dX6_qPartOf_152 ?_
    obtain ⟨r4, τ4, hτ4, hf⟩ := xo_bd hf
    refine call_f_t_payOf (pc := 155) hτ4 rfl (Nat.le_of_ble_eq_true rfl) (Nat.le_of_ble_eq_true rfl) (Nat.le_of_ble_eq_true rfl) dX6_qPartOf_155 ?_
    refine xr_i2l (pc := 158) dX6_qPartOf_158 ?_
    rw [kr _ (Option.some.inj hf).symm]
    exact xr_lret (pc := 159) dX6_qPartOf_159 rfl
  have hf := xo_neg c6_ hf
  by_cases c7_ : x1 = 7
  · have hf := xo_pos c7_ hf
    refine xr_tsw_in (pc := 1) (v := 7) (off := 159) 160 dX6_qPartOf_1 c7_ (by decide) (by decide +kernel) (by decide) ?_
    refine xr_aload_n (pc := 160) 0 dX6_qPartOf_160 rfl rfl ?_
    refine xr_bipush (pc := 161) dX6_qPartOf_161 xcb_8 ?_
    refine xr_aload_n (pc := 163) 0 dX6_qPartOf_163 rfl rfl ?_
    refine xt_getI (pc := 164) 64 (by decide) q1810 rfl rfl rfl dX6_qPartOf_164 ?_
    refine xr_imul (pc := 167) dX6_qPartOf_167 ?_
    refine xr_aload_n (pc := 168) 0 dX6_qPartOf_168 rfl rfl ?_
    refine xt_getI (pc := 169) 65 (by decide) q1811 rfl rfl rfl dX6_qPartOf_169 ?_
    refine xr_iadd (pc := 172) dX6_qPartOf_172 ?_
    obtain ⟨r3, τ3, hτ3, hf⟩ := xo_bd hf
    refine call_f_t_everAt (pc := 173) hτ3 rfl (Nat.le_of_ble_eq_true rfl) (Nat.le_of_ble_eq_true rfl) (Nat.le_of_ble_eq_true rfl) dX6_qPartOf_173 ?_
    refine xr_i2l (pc := 176) dX6_qPartOf_176 ?_
    rw [kr _ (Option.some.inj hf).symm]
    exact xr_lret (pc := 177) dX6_qPartOf_177 rfl
  have hf := xo_neg c7_ hf
  by_cases c8_ : x1 = 8
  · have hf := xo_pos c8_ hf
    refine xr_tsw_in (pc := 1) (v := 8) (off := 177) 178 dX6_qPartOf_1 c8_ (by decide) (by decide +kernel) (by decide) ?_
    refine xr_aload_n (pc := 178) 0 dX6_qPartOf_178 rfl rfl ?_
    refine xt_getI (pc := 179) 67 (by decide) q1813 rfl rfl rfl dX6_qPartOf_179 ?_
    refine xr_i2l (pc := 182) dX6_qPartOf_182 ?_
    rw [kr _ (Option.some.inj hf).symm]
    exact xr_lret (pc := 183) dX6_qPartOf_183 rfl
  have hf := xo_neg c8_ hf
  by_cases c9_ : x1 = 9
  · have hf := xo_pos c9_ hf
    refine xr_tsw_in (pc := 1) (v := 9) (off := 183) 184 dX6_qPartOf_1 c9_ (by decide) (by decide +kernel) (by decide) ?_
    refine xr_aload_n (pc := 184) 0 dX6_qPartOf_184 rfl rfl ?_
    refine xt_getI (pc := 185) 68 (by decide) q1814 rfl rfl rfl dX6_qPartOf_185 ?_
    refine xr_i2l (pc := 188) dX6_qPartOf_188 ?_
    rw [kr _ (Option.some.inj hf).symm]
    exact xr_lret (pc := 189) dX6_qPartOf_189 rfl
  have hf := xo_neg c9_ hf
  by_cases c10_ : x1 = 10
  · have hf := xo_pos c10_ hf
    refine xr_tsw_in (pc := 1) (v := 10) (off := 189) 190 dX6_qPartOf_1 c10_ (by decide) (by decide +kernel) (by decide) ?_
    refine xr_iload_n (pc := 190) 2 dX6_qPartOf_190 rfl rfl ?_
    refine xr_i2l (pc := 191) dX6_qPartOf_191 ?_
    rw [kr _ (Option.some.inj hf).symm]
    exact xr_lret (pc := 192) dX6_qPartOf_192 rfl
  have hf := xo_neg c10_ hf
  by_cases c11_ : x1 = 11
  · have hf := xo_pos c11_ hf
    refine xr_tsw_in (pc := 1) (v := 11) (off := 192) 193 dX6_qPartOf_1 c11_ (by decide) (by decide +kernel) (by decide) ?_
    refine xr_aload_n (pc := 193) 0 dX6_qPartOf_193 rfl rfl ?_
    refine xt_getA (pc := 194) 49 (by decide) q1795 rfl rfl rfl dX6_qPartOf_194 ?_
    refine xr_bipush (pc := 197) dX6_qPartOf_197 xcb_25 ?_
    refine xr_iconst (pc := 199) dX6_qPartOf_199 xci_5 ?_
    refine xr_iload_n (pc := 200) 2 dX6_qPartOf_200 rfl rfl ?_
    refine xr_imul (pc := 201) dX6_qPartOf_201 ?_
    refine xr_iadd (pc := 202) dX6_qPartOf_202 ?_
    obtain ⟨hi_, hf⟩ := xo_if hf
    refine xt_iald (pc := 203) 49 rfl rfl hi_ dX6_qPartOf_203 ?_
    refine xr_i2l (pc := 204) dX6_qPartOf_204 ?_
    rw [kr _ (Option.some.inj hf).symm]
    exact xr_lret (pc := 205) dX6_qPartOf_205 rfl
  have hf := xo_neg c11_ hf
  by_cases c12_ : x1 = 12
  · have hf := xo_pos c12_ hf
    refine xr_tsw_in (pc := 1) (v := 12) (off := 205) 206 dX6_qPartOf_1 c12_ (by decide) (by decide +kernel) (by decide) ?_
    refine xr_aload_n (pc := 206) 0 dX6_qPartOf_206 rfl rfl ?_
    refine xt_getA (pc := 207) 49 (by decide) q1795 rfl rfl rfl dX6_qPartOf_207 ?_
    refine xr_bipush (pc := 210) dX6_qPartOf_210 xcb_26 ?_
    refine xr_iconst (pc := 212) dX6_qPartOf_212 xci_5 ?_
    refine xr_iload_n (pc := 213) 2 dX6_qPartOf_213 rfl rfl ?_
    refine xr_imul (pc := 214) dX6_qPartOf_214 ?_
    refine xr_iadd (pc := 215) dX6_qPartOf_215 ?_
    obtain ⟨hi_, hf⟩ := xo_if hf
    refine xt_iald (pc := 216) 49 rfl rfl hi_ dX6_qPartOf_216 ?_
    refine xr_i2l (pc := 217) dX6_qPartOf_217 ?_
    rw [kr _ (Option.some.inj hf).symm]
    exact xr_lret (pc := 218) dX6_qPartOf_218 rfl
  have hf := xo_neg c12_ hf
  by_cases c13_ : x1 = 13
  · have hf := xo_pos c13_ hf
    refine xr_tsw_in (pc := 1) (v := 13) (off := 218) 219 dX6_qPartOf_1 c13_ (by decide) (by decide +kernel) (by decide) ?_
    refine xr_aload_n (pc := 219) 0 dX6_qPartOf_219 rfl rfl ?_
    refine xt_getA (pc := 220) 49 (by decide) q1795 rfl rfl rfl dX6_qPartOf_220 ?_
    refine xr_bipush (pc := 223) dX6_qPartOf_223 xcb_27 ?_
    refine xr_iconst (pc := 225) dX6_qPartOf_225 xci_5 ?_
    refine xr_iload_n (pc := 226) 2 dX6_qPartOf_226 rfl rfl ?_
    refine xr_imul (pc := 227) dX6_qPartOf_227 ?_
    refine xr_iadd (pc := 228) dX6_qPartOf_228 ?_
    obtain ⟨hi_, hf⟩ := xo_if hf
    refine xt_iald (pc := 229) 49 rfl rfl hi_ dX6_qPartOf_229 ?_
    refine xr_i2l (pc := 230) dX6_qPartOf_230 ?_
    rw [kr _ (Option.some.inj hf).symm]
    exact xr_lret (pc := 231) dX6_qPartOf_231 rfl
  have hf := xo_neg c13_ hf
  by_cases c14_ : x1 = 14
  · have hf := xo_pos c14_ hf
    refine xr_tsw_in (pc := 1) (v := 14) (off := 231) 232 dX6_qPartOf_1 c14_ (by decide) (by decide +kernel) (by decide) ?_
    refine xr_aload_n (pc := 232) 0 dX6_qPartOf_232 rfl rfl ?_
    refine xt_getA (pc := 233) 49 (by decide) q1795 rfl rfl rfl dX6_qPartOf_233 ?_
    refine xr_bipush (pc := 236) dX6_qPartOf_236 xcb_28 ?_
    refine xr_iconst (pc := 238) dX6_qPartOf_238 xci_5 ?_
    refine xr_iload_n (pc := 239) 2 dX6_qPartOf_239 rfl rfl ?_
    refine xr_imul (pc := 240) dX6_qPartOf_240 ?_
    refine xr_iadd (pc := 241) dX6_qPartOf_241 ?_
    obtain ⟨hi_, hf⟩ := xo_if hf
    refine xt_iald (pc := 242) 49 rfl rfl hi_ dX6_qPartOf_242 ?_
    refine xr_i2l (pc := 243) dX6_qPartOf_243 ?_
    rw [kr _ (Option.some.inj hf).symm]
    exact xr_lret (pc := 244) dX6_qPartOf_244 rfl
  have hf := xo_neg c14_ hf
  by_cases c15_ : x1 = 15
  · have hf := xo_pos c15_ hf
    refine xr_tsw_in (pc := 1) (v := 15) (off := 244) 245 dX6_qPartOf_1 c15_ (by decide) (by decide +kernel) (by decide) ?_
    refine xr_aload_n (pc := 245) 0 dX6_qPartOf_245 rfl rfl ?_
    refine xr_iload_n (pc := 246) 2 dX6_qPartOf_246 rfl rfl ?_
    obtain ⟨r2, τ2, hτ2, hf⟩ := xo_bd hf
    refine call_f_t_purseOf (pc := 247) hτ2 rfl (Nat.le_of_ble_eq_true rfl) (Nat.le_of_ble_eq_true rfl) (Nat.le_of_ble_eq_true rfl) dX6_qPartOf_247 ?_
    refine xr_i2l (pc := 250) dX6_qPartOf_250 ?_
    rw [kr _ (Option.some.inj hf).symm]
    exact xr_lret (pc := 251) dX6_qPartOf_251 rfl
  have hf := xo_neg c15_ hf
  by_cases c16_ : x1 = 16
  · have hf := xo_pos c16_ hf
    refine xr_tsw_in (pc := 1) (v := 16) (off := 251) 252 dX6_qPartOf_1 c16_ (by decide) (by decide +kernel) (by decide) ?_
    refine xr_aload_n (pc := 252) 0 dX6_qPartOf_252 rfl rfl ?_
    refine xr_iload_n (pc := 253) 2 dX6_qPartOf_253 rfl rfl ?_
    obtain ⟨r1, τ1, hτ1, hf⟩ := xo_bd hf
    refine call_f_t_doesOffer (pc := 254) hτ1 rfl (Nat.le_of_ble_eq_true rfl) (Nat.le_of_ble_eq_true rfl) (Nat.le_of_ble_eq_true rfl) dX6_qPartOf_254 ?_
    refine xr_if_eq (pc := 257) 264 dX6_qPartOf_257 (by decide) (fun c_ => ?_) (fun c_ => ?_)
    · have hf := xo_pos c_ hf
      refine xr_lconst (pc := 264) dX6_qPartOf_264 (by decide : _ = (0 : Int64)) ?_
      rw [kr _ (Option.some.inj hf).symm]
      exact xr_lret (pc := 265) dX6_qPartOf_265 rfl
    · have hf := xo_neg c_ hf
      refine xr_lconst (pc := 260) dX6_qPartOf_260 (by decide : _ = (1 : Int64)) ?_
      refine xr_goto (pc := 261) 265 dX6_qPartOf_261 (by decide) ?_
      rw [kr _ (Option.some.inj hf).symm]
      exact xr_lret (pc := 265) dX6_qPartOf_265 rfl
  have hf := xo_neg c16_ hf
  refine xr_tsw_out (pc := 1) 266 dX6_qPartOf_1 (xsw_out 0 16 [0, 1, 2, 3, 4, 5, 6, 7, 8, 9, 10, 11, 12, 13, 14, 15, 16] (by decide +kernel) (List.forall_mem_cons.mpr ⟨c0_, List.forall_mem_cons.mpr ⟨c1_, List.forall_mem_cons.mpr ⟨c2_, List.forall_mem_cons.mpr ⟨c3_, List.forall_mem_cons.mpr ⟨c4_, List.forall_mem_cons.mpr ⟨c5_, List.forall_mem_cons.mpr ⟨c6_, List.forall_mem_cons.mpr ⟨c7_, List.forall_mem_cons.mpr ⟨c8_, List.forall_mem_cons.mpr ⟨c9_, List.forall_mem_cons.mpr ⟨c10_, List.forall_mem_cons.mpr ⟨c11_, List.forall_mem_cons.mpr ⟨c12_, List.forall_mem_cons.mpr ⟨c13_, List.forall_mem_cons.mpr ⟨c14_, List.forall_mem_cons.mpr ⟨c15_, List.forall_mem_cons.mpr ⟨c16_, List.forall_mem_nil _⟩⟩⟩⟩⟩⟩⟩⟩⟩⟩⟩⟩⟩⟩⟩⟩⟩)) (by decide) ?_
  refine xr_aload_n (pc := 266) 0 dX6_qPartOf_266 rfl rfl ?_
  refine xt_getA (pc := 267) 69 (by decide) q1815 rfl rfl rfl dX6_qPartOf_267 ?_
  refine xr_iload_n (pc := 270) 2 dX6_qPartOf_270 rfl rfl ?_
  obtain ⟨hi_, hf⟩ := xo_if hf
  refine xt_iald (pc := 271) 69 rfl rfl hi_ dX6_qPartOf_271 ?_
  refine xr_i2l (pc := 272) dX6_qPartOf_272 ?_
  rw [kr _ (Option.some.inj hf).symm]
  exact xr_lret (pc := 273) dX6_qPartOf_273 rfl
theorem met_f_t_qPartOf (l : Launch) {D : TD} {m : Nat} {x1 : Int32} {x2 : Int32} {τ : TS} {o_ : (Int64 × TS)} (hf : f_t_qPartOf x1 x2 τ = some o_) : xMet (wT D m) l yX6_qPartOf (ws_ yX6_qPartOf cX6_qPartOf 3 (some .long)) 3 180 0 0 [.ref m, .int x1, .int x2] τ (some (.long o_.1), o_.2) :=
  xMet_of (by decide) (Nat.le_of_ble_eq_true rfl) KT_moved (fun _ _ => trivial) (fun K _ _ _ => ok_f_t_qPartOf hf (fun _ h => by rw [h]))
theorem hd_f_t_qPartOf : yX6_qPartOf.cls = RX6 ∧ yX6_qPartOf.cls ≠ "java/lang/invoke/MethodHandle" ∧ yX6_qPartOf.cls ≠ "java/lang/invoke/VarHandle" ∧ (parseMethodDescriptor yX6_qPartOf.desc).map (fun d => d.parameters.length) = some 2 := by decide +kernel
theorem call_f_t_qPartOf {D : TD} {m : Nat} {K : xK} {M : xM} {Q : State → Prop} {x1 : Int32} {x2 : Int32} {τ : TS} {pc : Nat} {loc : List (Nat × Value)} {st : List Value} {r : Int64} {τ1 : TS} (hf : f_t_qPartOf x1 x2 τ = some (r, τ1)) (ho : M.2.2.1 = RX6) (hfr : 4 ≤ M.2.2.2.1) (hlo : 202 ≤ M.2.2.2.2.1) (hcat : (st.map fun v => v.category).sum ≤ 8) (d : decode M.1 pc = .ok (.invokevirtual 506, 3)) (k : xV (wT D m) K M Q τ1 (pc + 3) loc (.long r :: st)) : xV (wT D m) K M Q τ pc loc (.int x2 :: .int x1 :: .ref m :: st) :=
  xr_callV (As := [.int x1, .int x2]) (rest := st) (met_f_t_qPartOf K.2.1 hf) (lw_V q2381 q2383 qs117 q186 q2384) hd_f_t_qPartOf ho hfr hlo rfl (fun H hR hK => t_recv H hR hK) rfl hcat d k
abbrev mX6_qClip : xM := (cX6_qClip, 2, RX6, 0, 0, (some .long), "qClip")
def f_t_qClip (x0 : Int64) (τ : TS) : Option (Int64 × TS) :=
  if (lg_cmp x0 1000000) ≤ 0 then
  if 0 ≤ (lg_cmp x0 (-1000000)) then
  some ((x0, τ))
  else
  some (((-1000000), τ))
  else
  some ((1000000, τ))
theorem ok_f_t_qClip {D : TD} {m : Nat} {K : xK} {Z : Option Value × TS} {x0 : Int64} {τ : TS} {o_ : (Int64 × TS)} (hf : f_t_qClip x0 τ = some o_) (kr : ∀ r_ : (Int64 × TS), o_ = r_ → Z = (some (.long r_.1), r_.2)) : xV (wT D m) K mX6_qClip (xQ (wT D m) K Z) τ 0 [(0, .long x0)] [] := by
  unfold f_t_qClip at hf
  refine xr_lload_n (pc := 0) 0 dX6_qClip_0 rfl rfl ?_
  refine xr_ldc2 (pc := 1) q2420 dX6_qClip_1 ?_
  refine xr_lcmp (pc := 4) dX6_qClip_4 ?_
  refine xr_if_le (pc := 5) 14 dX6_qClip_5 (by decide) (fun c_ => ?_) (fun c_ => ?_)
  · have hf := xo_pos c_ hf
    refine xr_lload_n (pc := 14) 0 dX6_qClip_14 rfl rfl ?_
    refine xr_ldc2 (pc := 15) q2421 dX6_qClip_15 ?_
    refine xr_lcmp (pc := 18) dX6_qClip_18 ?_
    refine xr_if_ge (pc := 19) 28 dX6_qClip_19 (by decide) (fun c_ => ?_) (fun c_ => ?_)
    · have hf := xo_pos c_ hf
      refine xr_lload_n (pc := 28) 0 dX6_qClip_28 rfl rfl ?_
      rw [kr _ (Option.some.inj hf).symm]
      exact xr_lret (pc := 29) dX6_qClip_29 rfl
    · have hf := xo_neg c_ hf
      refine xr_ldc2 (pc := 22) q2421 dX6_qClip_22 ?_
      refine xr_goto (pc := 25) 29 dX6_qClip_25 (by decide) ?_
      rw [kr _ (Option.some.inj hf).symm]
      exact xr_lret (pc := 29) dX6_qClip_29 rfl
  · have hf := xo_neg c_ hf
    refine xr_ldc2 (pc := 8) q2420 dX6_qClip_8 ?_
    refine xr_goto (pc := 11) 29 dX6_qClip_11 (by decide) ?_
    rw [kr _ (Option.some.inj hf).symm]
    exact xr_lret (pc := 29) dX6_qClip_29 rfl
theorem met_f_t_qClip (l : Launch) {D : TD} {m : Nat} {x0 : Int64} {τ : TS} {o_ : (Int64 × TS)} (hf : f_t_qClip x0 τ = some o_) : xMet (wT D m) l yX6_qClip (ws_ yX6_qClip cX6_qClip 2 (some .long)) 0 0 0 0 [.long x0] τ (some (.long o_.1), o_.2) :=
  xMet_of (by decide) (Nat.le_of_ble_eq_true rfl) KT_moved (fun _ _ => trivial) (fun K _ _ _ => ok_f_t_qClip hf (fun _ h => by rw [h]))
theorem hd_f_t_qClip : yX6_qClip.cls ≠ "java/lang/invoke/MethodHandle" ∧ yX6_qClip.cls ≠ "java/lang/invoke/VarHandle" ∧ (parseMethodDescriptor yX6_qClip.desc).map (fun d => d.parameters.length) = some 1 := by decide +kernel
theorem call_f_t_qClip {D : TD} {m : Nat} {K : xK} {M : xM} {Q : State → Prop} {x0 : Int64} {τ : TS} {pc : Nat} {loc : List (Nat × Value)} {st : List Value} {r : Int64} {τ1 : TS} (hf : f_t_qClip x0 τ = some (r, τ1)) (ho : M.2.2.1 = RX6) (hfr : 1 ≤ M.2.2.2.1) (hlo : 21 ≤ M.2.2.2.2.1) (hcat : (st.map fun v => v.category).sum ≤ 8) (d : decode M.1 pc = .ok (.invokestatic 759, 3)) (k : xV (wT D m) K M Q τ1 (pc + 3) loc (.long r :: st)) : xV (wT D m) K M Q τ pc loc (.long x0 :: st) :=
  xr_callS (As := [.long x0]) (rest := st) (met_f_t_qClip K.2.1 hf) (lw_S q2417 q2418 q186 q2419) hd_f_t_qClip ho hfr hlo rfl rfl hcat d k
abbrev mX6_qFloor : xM := (cX6_qFloor, 6, RX6, 0, 0, (some .long), "qFloor")
def Jt_qFloor_53 (x4 : Int64) (τ : TS) : Option (Int64 × TS) :=
  some ((x4, τ))
theorem ok_Jt_qFloor_53 {D : TD} {m : Nat} {K : xK} {Z : Option Value × TS} {x4 : Int64} {τ : TS} {o_ : (Int64 × TS)} (hf : Jt_qFloor_53 x4 τ = some o_) (kr : ∀ r_ : (Int64 × TS), o_ = r_ → Z = (some (.long r_.1), r_.2)) : xV (wT D m) K mX6_qFloor (xQ (wT D m) K Z) τ 53 [(4, .long x4)] [] := by
  unfold Jt_qFloor_53 at hf
  refine xr_lload (pc := 53) 0 dX6_qFloor_53 rfl ?_
  rw [kr _ (Option.some.inj hf).symm]
  exact xr_lret (pc := 55) dX6_qFloor_55 rfl
def Jt_qFloor_43 (x4 : Int64) (s0 : Int32) (s1 : Int32) (τ : TS) : Option (Int64 × TS) :=
  if s1 = s0 then
  Jt_qFloor_53 x4 τ
  else
  some ((x4 - 1, τ))
theorem ok_Jt_qFloor_43 {D : TD} {m : Nat} {K : xK} {Z : Option Value × TS} {x4 : Int64} {s0 : Int32} {s1 : Int32} {τ : TS} {o_ : (Int64 × TS)} (hf : Jt_qFloor_43 x4 s0 s1 τ = some o_) (kr : ∀ r_ : (Int64 × TS), o_ = r_ → Z = (some (.long r_.1), r_.2)) : xV (wT D m) K mX6_qFloor (xQ (wT D m) K Z) τ 43 [(4, .long x4)] [.int s0, .int s1] := by
  unfold Jt_qFloor_43 at hf
  refine xr_icmp_eq (pc := 43) 53 dX6_qFloor_43 (by decide) (fun c_ => ?_) (fun c_ => ?_)
  · have hf := xo_pos c_ hf
    exact ok_Jt_qFloor_53 hf kr
  · have hf := xo_neg c_ hf
    refine xr_lload (pc := 46) 0 dX6_qFloor_46 rfl ?_
    refine xr_lconst (pc := 48) dX6_qFloor_48 (by decide : _ = (1 : Int64)) ?_
    refine xr_lsub (pc := 49) dX6_qFloor_49 ?_
    refine xr_goto (pc := 50) 55 dX6_qFloor_50 (by decide) ?_
    rw [kr _ (Option.some.inj hf).symm]
    exact xr_lret (pc := 55) dX6_qFloor_55 rfl
def Jt_qFloor_32 (x2 : Int64) (x4 : Int64) (s0 : Int32) (τ : TS) : Option (Int64 × TS) :=
  if 0 ≤ (lg_cmp x2 0) then
  Jt_qFloor_43 x4 0 s0 τ
  else
  Jt_qFloor_43 x4 1 s0 τ
theorem ok_Jt_qFloor_32 {D : TD} {m : Nat} {K : xK} {Z : Option Value × TS} {x2 : Int64} {x4 : Int64} {s0 : Int32} {τ : TS} {o_ : (Int64 × TS)} (hf : Jt_qFloor_32 x2 x4 s0 τ = some o_) (kr : ∀ r_ : (Int64 × TS), o_ = r_ → Z = (some (.long r_.1), r_.2)) : xV (wT D m) K mX6_qFloor (xQ (wT D m) K Z) τ 32 [(2, .long x2), (4, .long x4)] [.int s0] := by
  unfold Jt_qFloor_32 at hf
  refine xr_lload_n (pc := 32) 0 dX6_qFloor_32 rfl rfl ?_
  refine xr_lconst (pc := 33) dX6_qFloor_33 (by decide : _ = (0 : Int64)) ?_
  refine xr_lcmp (pc := 34) dX6_qFloor_34 ?_
  refine xr_if_ge (pc := 35) 42 dX6_qFloor_35 (by decide) (fun c_ => ?_) (fun c_ => ?_)
  · have hf := xo_pos c_ hf
    refine xr_iconst (pc := 42) dX6_qFloor_42 xci_0 ?_
    refine xV_sub [1] rfl ?_
    exact ok_Jt_qFloor_43 hf kr
  · have hf := xo_neg c_ hf
    refine xr_iconst (pc := 38) dX6_qFloor_38 xci_1 ?_
    refine xr_goto (pc := 39) 43 dX6_qFloor_39 (by decide) ?_
    refine xV_sub [1] rfl ?_
    exact ok_Jt_qFloor_43 hf kr
def f_t_qFloor (x0 : Int64) (x2 : Int64) (τ : TS) : Option (Int64 × TS) :=
  if (lg_cmp x2 0) = 0 then
  some ((0, τ))
  else
  if ¬ x2 = 0 then
  if ¬ x2 = 0 then
  if (lg_cmp (x0 - x0 / x2 * x2) 0) = 0 then
  Jt_qFloor_53 (x0 / x2) τ
  else
  if 0 ≤ (lg_cmp x0 0) then
  Jt_qFloor_32 x2 (x0 / x2) 0 τ
  else
  Jt_qFloor_32 x2 (x0 / x2) 1 τ
  else none
  else none
theorem ok_f_t_qFloor {D : TD} {m : Nat} {K : xK} {Z : Option Value × TS} {x0 : Int64} {x2 : Int64} {τ : TS} {o_ : (Int64 × TS)} (hf : f_t_qFloor x0 x2 τ = some o_) (kr : ∀ r_ : (Int64 × TS), o_ = r_ → Z = (some (.long r_.1), r_.2)) : xV (wT D m) K mX6_qFloor (xQ (wT D m) K Z) τ 0 [(0, .long x0), (2, .long x2)] [] := by
  unfold f_t_qFloor at hf
  refine xr_lload_n (pc := 0) 1 dX6_qFloor_0 rfl rfl ?_
  refine xr_lconst (pc := 1) dX6_qFloor_1 (by decide : _ = (0 : Int64)) ?_
  refine xr_lcmp (pc := 2) dX6_qFloor_2 ?_
  refine xr_if_ne (pc := 3) 8 dX6_qFloor_3 (by decide) (fun c_ => ?_) (fun c_ => ?_)
  · have hf := xo_pos c_ hf
    refine xr_lconst (pc := 6) dX6_qFloor_6 (by decide : _ = (0 : Int64)) ?_
    rw [kr _ (Option.some.inj hf).symm]
    exact xr_lret (pc := 7) dX6_qFloor_7 rfl
  · have hf := xo_neg c_ hf
    refine xr_lload_n (pc := 8) 0 dX6_qFloor_8 rfl rfl ?_
    refine xr_lload_n (pc := 9) 1 dX6_qFloor_9 rfl rfl ?_
    obtain ⟨hz_, hf⟩ := xo_if hf
    refine xr_ldiv (pc := 10) dX6_qFloor_10 hz_ ?_
    refine xr_lstore (pc := 11) (loc' := [(4, .long (x0 / x2)), (0, .long x0), (2, .long x2)]) dX6_qFloor_11 (by decide) rfl ?_
    refine xr_lload_n (pc := 13) 1 dX6_qFloor_13 rfl rfl ?_
    refine xr_lload_n (pc := 14) 2 dX6_qFloor_14 rfl rfl ?_
    obtain ⟨hz_, hf⟩ := xo_if hf
    refine xr_lrem (pc := 15) dX6_qFloor_15 hz_ ?_
    refine xr_lconst (pc := 16) dX6_qFloor_16 (by decide : _ = (0 : Int64)) ?_
    refine xr_lcmp (pc := 17) dX6_qFloor_17 ?_
    refine xr_if_eq (pc := 18) 53 dX6_qFloor_18 (by decide) (fun c_ => ?_) (fun c_ => ?_)
    · have hf := xo_pos c_ hf
      refine xV_sub [0] rfl ?_
      exact ok_Jt_qFloor_53 hf kr
    · have hf := xo_neg c_ hf
      refine xr_lload_n (pc := 21) 1 dX6_qFloor_21 rfl rfl ?_
      refine xr_lconst (pc := 22) dX6_qFloor_22 (by decide : _ = (0 : Int64)) ?_
      refine xr_lcmp (pc := 23) dX6_qFloor_23 ?_
      refine xr_if_ge (pc := 24) 31 dX6_qFloor_24 (by decide) (fun c_ => ?_) (fun c_ => ?_)
      · have hf := xo_pos c_ hf
        refine xr_iconst (pc := 31) dX6_qFloor_31 xci_0 ?_
        refine xV_sub [2, 0] rfl ?_
        exact ok_Jt_qFloor_32 hf kr
      · have hf := xo_neg c_ hf
        refine xr_iconst (pc := 27) dX6_qFloor_27 xci_1 ?_
        refine xr_goto (pc := 28) 32 dX6_qFloor_28 (by decide) ?_
        refine xV_sub [2, 0] rfl ?_
        exact ok_Jt_qFloor_32 hf kr
theorem met_f_t_qFloor (l : Launch) {D : TD} {m : Nat} {x0 : Int64} {x2 : Int64} {τ : TS} {o_ : (Int64 × TS)} (hf : f_t_qFloor x0 x2 τ = some o_) : xMet (wT D m) l yX6_qFloor (ws_ yX6_qFloor cX6_qFloor 6 (some .long)) 0 0 0 0 [.long x0, .long x2] τ (some (.long o_.1), o_.2) :=
  xMet_of (by decide) (Nat.le_of_ble_eq_true rfl) KT_moved (fun _ _ => trivial) (fun K _ _ _ => ok_f_t_qFloor hf (fun _ h => by rw [h]))
theorem hd_f_t_qFloor : yX6_qFloor.cls ≠ "java/lang/invoke/MethodHandle" ∧ yX6_qFloor.cls ≠ "java/lang/invoke/VarHandle" ∧ (parseMethodDescriptor yX6_qFloor.desc).map (fun d => d.parameters.length) = some 2 := by decide +kernel
theorem call_f_t_qFloor {D : TD} {m : Nat} {K : xK} {M : xM} {Q : State → Prop} {x0 : Int64} {x2 : Int64} {τ : TS} {pc : Nat} {loc : List (Nat × Value)} {st : List Value} {r : Int64} {τ1 : TS} (hf : f_t_qFloor x0 x2 τ = some (r, τ1)) (ho : M.2.2.1 = RX6) (hfr : 1 ≤ M.2.2.2.1) (hlo : 25 ≤ M.2.2.2.2.1) (hcat : (st.map fun v => v.category).sum ≤ 8) (d : decode M.1 pc = .ok (.invokestatic 763, 3)) (k : xV (wT D m) K M Q τ1 (pc + 3) loc (.long r :: st)) : xV (wT D m) K M Q τ pc loc (.long x2 :: .long x0 :: st) :=
  xr_callS (As := [.long x0, .long x2]) (rest := st) (met_f_t_qFloor K.2.1 hf) (lw_S q2422 q2423 q186 q2424) hd_f_t_qFloor ho hfr hlo rfl rfl hcat d k
abbrev mX6_qJoins : xM := (cX6_qJoins, 6, RX6, 1, 60, none, "qJoins")
def Jt_qJoins_270 (s0 : Int64) (τ : TS) : Option TS :=
  (f_t_qPuts s0 τ).bind fun τ1 =>
  some (τ1)
theorem ok_Jt_qJoins_270 {D : TD} {m : Nat} {K : xK} {Z : Option Value × TS} {s0 : Int64} {τ : TS} {o_ : TS} (hf : Jt_qJoins_270 s0 τ = some o_) (kr : ∀ r_ : TS, o_ = r_ → Z = (none, r_)) : xV (wT D m) K mX6_qJoins (xQ (wT D m) K Z) τ 270 [] [.long s0, .ref m] := by
  unfold Jt_qJoins_270 at hf
  obtain ⟨τ1, hτ1, hf⟩ := xo_bind hf
  refine call_f_t_qPuts (pc := 270) hτ1 rfl (Nat.le_of_ble_eq_true rfl) (Nat.le_of_ble_eq_true rfl) (Nat.le_of_ble_eq_true rfl) dX6_qJoins_270 ?_
  rw [kr _ (Option.some.inj hf).symm]
  exact xr_vret (pc := 273) dX6_qJoins_273 rfl
def Jt_qJoins_238 (s0 : Int64) (τ : TS) : Option TS :=
  (f_t_qPuts s0 τ).bind fun τ3 =>
  some (τ3)
theorem ok_Jt_qJoins_238 {D : TD} {m : Nat} {K : xK} {Z : Option Value × TS} {s0 : Int64} {τ : TS} {o_ : TS} (hf : Jt_qJoins_238 s0 τ = some o_) (kr : ∀ r_ : TS, o_ = r_ → Z = (none, r_)) : xV (wT D m) K mX6_qJoins (xQ (wT D m) K Z) τ 238 [] [.long s0, .ref m] := by
  unfold Jt_qJoins_238 at hf
  obtain ⟨τ3, hτ3, hf⟩ := xo_bind hf
  refine call_f_t_qPuts (pc := 238) hτ3 rfl (Nat.le_of_ble_eq_true rfl) (Nat.le_of_ble_eq_true rfl) (Nat.le_of_ble_eq_true rfl) dX6_qJoins_238 ?_
  refine xr_goto (pc := 241) 273 dX6_qJoins_241 (by decide) ?_
  rw [kr _ (Option.some.inj hf).symm]
  exact xr_vret (pc := 273) dX6_qJoins_273 rfl
def Jt_qJoins_219 (s0 : Int64) (τ : TS) : Option TS :=
  (f_t_qPuts s0 τ).bind fun τ4 =>
  some (τ4)
theorem ok_Jt_qJoins_219 {D : TD} {m : Nat} {K : xK} {Z : Option Value × TS} {s0 : Int64} {τ : TS} {o_ : TS} (hf : Jt_qJoins_219 s0 τ = some o_) (kr : ∀ r_ : TS, o_ = r_ → Z = (none, r_)) : xV (wT D m) K mX6_qJoins (xQ (wT D m) K Z) τ 219 [] [.long s0, .ref m] := by
  unfold Jt_qJoins_219 at hf
  obtain ⟨τ4, hτ4, hf⟩ := xo_bind hf
  refine call_f_t_qPuts (pc := 219) hτ4 rfl (Nat.le_of_ble_eq_true rfl) (Nat.le_of_ble_eq_true rfl) (Nat.le_of_ble_eq_true rfl) dX6_qJoins_219 ?_
  refine xr_goto (pc := 222) 273 dX6_qJoins_222 (by decide) ?_
  rw [kr _ (Option.some.inj hf).symm]
  exact xr_vret (pc := 273) dX6_qJoins_273 rfl
def Jt_qJoins_200 (s0 : Int64) (τ : TS) : Option TS :=
  (f_t_qPuts s0 τ).bind fun τ5 =>
  some (τ5)
theorem ok_Jt_qJoins_200 {D : TD} {m : Nat} {K : xK} {Z : Option Value × TS} {s0 : Int64} {τ : TS} {o_ : TS} (hf : Jt_qJoins_200 s0 τ = some o_) (kr : ∀ r_ : TS, o_ = r_ → Z = (none, r_)) : xV (wT D m) K mX6_qJoins (xQ (wT D m) K Z) τ 200 [] [.long s0, .ref m] := by
  unfold Jt_qJoins_200 at hf
  obtain ⟨τ5, hτ5, hf⟩ := xo_bind hf
  refine call_f_t_qPuts (pc := 200) hτ5 rfl (Nat.le_of_ble_eq_true rfl) (Nat.le_of_ble_eq_true rfl) (Nat.le_of_ble_eq_true rfl) dX6_qJoins_200 ?_
  refine xr_goto (pc := 203) 273 dX6_qJoins_203 (by decide) ?_
  rw [kr _ (Option.some.inj hf).symm]
  exact xr_vret (pc := 273) dX6_qJoins_273 rfl
def Jt_qJoins_181 (s0 : Int64) (τ : TS) : Option TS :=
  (f_t_qPuts s0 τ).bind fun τ6 =>
  some (τ6)
theorem ok_Jt_qJoins_181 {D : TD} {m : Nat} {K : xK} {Z : Option Value × TS} {s0 : Int64} {τ : TS} {o_ : TS} (hf : Jt_qJoins_181 s0 τ = some o_) (kr : ∀ r_ : TS, o_ = r_ → Z = (none, r_)) : xV (wT D m) K mX6_qJoins (xQ (wT D m) K Z) τ 181 [] [.long s0, .ref m] := by
  unfold Jt_qJoins_181 at hf
  obtain ⟨τ6, hτ6, hf⟩ := xo_bind hf
  refine call_f_t_qPuts (pc := 181) hτ6 rfl (Nat.le_of_ble_eq_true rfl) (Nat.le_of_ble_eq_true rfl) (Nat.le_of_ble_eq_true rfl) dX6_qJoins_181 ?_
  refine xr_goto (pc := 184) 273 dX6_qJoins_184 (by decide) ?_
  rw [kr _ (Option.some.inj hf).symm]
  exact xr_vret (pc := 273) dX6_qJoins_273 rfl
def Jt_qJoins_161 (s0 : Int64) (τ : TS) : Option TS :=
  (f_t_qPuts s0 τ).bind fun τ7 =>
  some (τ7)
theorem ok_Jt_qJoins_161 {D : TD} {m : Nat} {K : xK} {Z : Option Value × TS} {s0 : Int64} {τ : TS} {o_ : TS} (hf : Jt_qJoins_161 s0 τ = some o_) (kr : ∀ r_ : TS, o_ = r_ → Z = (none, r_)) : xV (wT D m) K mX6_qJoins (xQ (wT D m) K Z) τ 161 [] [.long s0, .ref m] := by
  unfold Jt_qJoins_161 at hf
  obtain ⟨τ7, hτ7, hf⟩ := xo_bind hf
  refine call_f_t_qPuts (pc := 161) hτ7 rfl (Nat.le_of_ble_eq_true rfl) (Nat.le_of_ble_eq_true rfl) (Nat.le_of_ble_eq_true rfl) dX6_qJoins_161 ?_
  refine xr_goto (pc := 164) 273 dX6_qJoins_164 (by decide) ?_
  rw [kr _ (Option.some.inj hf).symm]
  exact xr_vret (pc := 273) dX6_qJoins_273 rfl
def f_t_qJoins (x1 : Int32) (τ : TS) : Option TS :=
  if xin ((tI τ 127) - 1) 1700 = true then
  if xin ((tI τ 127) - 2) 1700 = true then
  if x1 = 1 then
  xbd (f_t_qClip ((tM τ 126 ((tI τ 127) - 2).toNatClampNeg) + (tM τ 126 ((tI τ 127) - 1).toNatClampNeg)) (sI τ 127 ((tI τ 127) - 2))) fun r14 τ14 =>
  (f_t_qPuts r14 τ14).bind fun τ15 =>
  some (τ15)
  else
  if x1 = 2 then
  xbd (f_t_qClip ((tM τ 126 ((tI τ 127) - 2).toNatClampNeg) - (tM τ 126 ((tI τ 127) - 1).toNatClampNeg)) (sI τ 127 ((tI τ 127) - 2))) fun r12 τ12 =>
  (f_t_qPuts r12 τ12).bind fun τ13 =>
  some (τ13)
  else
  if x1 = 3 then
  xbd (f_t_qClip ((tM τ 126 ((tI τ 127) - 2).toNatClampNeg) * (tM τ 126 ((tI τ 127) - 1).toNatClampNeg)) (sI τ 127 ((tI τ 127) - 2))) fun r10 τ10 =>
  (f_t_qPuts r10 τ10).bind fun τ11 =>
  some (τ11)
  else
  if x1 = 4 then
  xbd (f_t_qFloor (tM τ 126 ((tI τ 127) - 2).toNatClampNeg) (tM τ 126 ((tI τ 127) - 1).toNatClampNeg) (sI τ 127 ((tI τ 127) - 2))) fun r8 τ8 =>
  (f_t_qPuts r8 τ8).bind fun τ9 =>
  some (τ9)
  else
  if x1 = 5 then
  if 0 ≤ (lg_cmp (tM τ 126 ((tI τ 127) - 2).toNatClampNeg) (tM τ 126 ((tI τ 127) - 1).toNatClampNeg)) then
  Jt_qJoins_161 (tM τ 126 ((tI τ 127) - 1).toNatClampNeg) (sI τ 127 ((tI τ 127) - 2))
  else
  Jt_qJoins_161 (tM τ 126 ((tI τ 127) - 2).toNatClampNeg) (sI τ 127 ((tI τ 127) - 2))
  else
  if x1 = 6 then
  if (lg_cmp (tM τ 126 ((tI τ 127) - 2).toNatClampNeg) (tM τ 126 ((tI τ 127) - 1).toNatClampNeg)) ≤ 0 then
  Jt_qJoins_181 (tM τ 126 ((tI τ 127) - 1).toNatClampNeg) (sI τ 127 ((tI τ 127) - 2))
  else
  Jt_qJoins_181 (tM τ 126 ((tI τ 127) - 2).toNatClampNeg) (sI τ 127 ((tI τ 127) - 2))
  else
  if x1 = 7 then
  if 0 ≤ (lg_cmp (tM τ 126 ((tI τ 127) - 2).toNatClampNeg) (tM τ 126 ((tI τ 127) - 1).toNatClampNeg)) then
  Jt_qJoins_200 0 (sI τ 127 ((tI τ 127) - 2))
  else
  Jt_qJoins_200 1 (sI τ 127 ((tI τ 127) - 2))
  else
  if x1 = 8 then
  if (lg_cmp (tM τ 126 ((tI τ 127) - 2).toNatClampNeg) (tM τ 126 ((tI τ 127) - 1).toNatClampNeg)) ≤ 0 then
  Jt_qJoins_219 0 (sI τ 127 ((tI τ 127) - 2))
  else
  Jt_qJoins_219 1 (sI τ 127 ((tI τ 127) - 2))
  else
  if x1 = 9 then
  if (lg_cmp (tM τ 126 ((tI τ 127) - 2).toNatClampNeg) (tM τ 126 ((tI τ 127) - 1).toNatClampNeg)) = 0 then
  Jt_qJoins_238 1 (sI τ 127 ((tI τ 127) - 2))
  else
  Jt_qJoins_238 0 (sI τ 127 ((tI τ 127) - 2))
  else
  if x1 = 10 then
  (f_t_qPuts ((tM τ 126 ((tI τ 127) - 2).toNatClampNeg) * (tM τ 126 ((tI τ 127) - 1).toNatClampNeg)) (sI τ 127 ((tI τ 127) - 2))).bind fun τ2 =>
  some (τ2)
  else
  if (lg_cmp ((tM τ 126 ((tI τ 127) - 2).toNatClampNeg) + (tM τ 126 ((tI τ 127) - 1).toNatClampNeg)) 0) ≤ 0 then
  Jt_qJoins_270 0 (sI τ 127 ((tI τ 127) - 2))
  else
  Jt_qJoins_270 1 (sI τ 127 ((tI τ 127) - 2))
  else none
  else none
theorem ok_f_t_qJoins {D : TD} {m : Nat} {K : xK} {Z : Option Value × TS} {x1 : Int32} {τ : TS} {o_ : TS} (hf : f_t_qJoins x1 τ = some o_) (kr : ∀ r_ : TS, o_ = r_ → Z = (none, r_)) : xV (wT D m) K mX6_qJoins (xQ (wT D m) K Z) τ 0 [(0, .ref m), (1, .int x1)] [] := by
  unfold f_t_qJoins at hf
  refine xr_aload_n (pc := 0) 0 dX6_qJoins_0 rfl rfl ?_
  refine xt_getA (pc := 1) 126 (by decide) q1872 rfl rfl rfl dX6_qJoins_1 ?_
  refine xr_aload_n (pc := 4) 0 dX6_qJoins_4 rfl rfl ?_
  refine xt_getI (pc := 5) 127 (by decide) q1873 rfl rfl rfl dX6_qJoins_5 ?_
  refine xr_iconst (pc := 8) dX6_qJoins_8 xci_1 ?_
  refine xr_isub (pc := 9) dX6_qJoins_9 ?_
  obtain ⟨hi_, hf⟩ := xo_if hf
  refine xt_lald (pc := 10) 126 rfl rfl hi_ dX6_qJoins_10 ?_
  refine xr_lstore_n (pc := 11) (loc' := [(2, .long (tM τ 126 ((tI τ 127) - 1).toNatClampNeg)), (0, .ref m), (1, .int x1)]) dX6_qJoins_11 rfl (by decide) rfl ?_
  refine xr_aload_n (pc := 12) 1 dX6_qJoins_12 rfl rfl ?_
  refine xt_getA (pc := 13) 126 (by decide) q1872 rfl rfl rfl dX6_qJoins_13 ?_
  refine xr_aload_n (pc := 16) 1 dX6_qJoins_16 rfl rfl ?_
  refine xt_getI (pc := 17) 127 (by decide) q1873 rfl rfl rfl dX6_qJoins_17 ?_
  refine xr_iconst (pc := 20) dX6_qJoins_20 xci_2 ?_
  refine xr_isub (pc := 21) dX6_qJoins_21 ?_
  obtain ⟨hi_, hf⟩ := xo_if hf
  refine xt_lald (pc := 22) 126 rfl rfl hi_ dX6_qJoins_22 ?_
  refine xr_lstore (pc := 23) (loc' := [(4, .long (tM τ 126 ((tI τ 127) - 2).toNatClampNeg)), (2, .long (tM τ 126 ((tI τ 127) - 1).toNatClampNeg)), (0, .ref m), (1, .int x1)]) dX6_qJoins_23 (by decide) rfl ?_
  refine xr_aload_n (pc := 25) 2 dX6_qJoins_25 rfl rfl ?_
  refine xr_dup (pc := 26) dX6_qJoins_26 rfl ?_
  refine xt_getI (pc := 27) 127 (by decide) q1873 rfl rfl rfl dX6_qJoins_27 ?_
  refine xr_iconst (pc := 30) dX6_qJoins_30 xci_2 ?_
  refine xr_isub (pc := 31) dX6_qJoins_31 ?_
  refine xt_putI (pc := 32) 127 (by decide) q1873 rfl rfl rfl (by decide +kernel) rfl dX6_qJoins_32 ?_
  refine xr_iload_n (pc := 35) 3 dX6_qJoins_35 rfl rfl ?_
  by_cases c0_ : x1 = 1
  · have hf := xo_pos c0_ hf
    refine xr_tsw_in (pc := 36) (v := 1) (off := 56) 92 dX6_qJoins_36 c0_ (by decide) (by decide +kernel) (by decide) ?_
    refine xr_aload_n (pc := 92) 2 dX6_qJoins_92 rfl rfl ?_
    refine xr_lload (pc := 93) 0 dX6_qJoins_93 rfl ?_
    refine xr_lload_n (pc := 95) 1 dX6_qJoins_95 rfl rfl ?_
    refine xr_ladd (pc := 96) dX6_qJoins_96 ?_
    obtain ⟨r14, τ14, hτ14, hf⟩ := xo_bd hf
    refine call_f_t_qClip (pc := 97) hτ14 rfl (Nat.le_of_ble_eq_true rfl) (Nat.le_of_ble_eq_true rfl) (Nat.le_of_ble_eq_true rfl) dX6_qJoins_97 ?_
    obtain ⟨τ15, hτ15, hf⟩ := xo_bind hf
    refine call_f_t_qPuts (pc := 100) hτ15 rfl (Nat.le_of_ble_eq_true rfl) (Nat.le_of_ble_eq_true rfl) (Nat.le_of_ble_eq_true rfl) dX6_qJoins_100 ?_
    refine xr_goto (pc := 103) 273 dX6_qJoins_103 (by decide) ?_
    rw [kr _ (Option.some.inj hf).symm]
    exact xr_vret (pc := 273) dX6_qJoins_273 rfl
  have hf := xo_neg c0_ hf
  by_cases c1_ : x1 = 2
  · have hf := xo_pos c1_ hf
    refine xr_tsw_in (pc := 36) (v := 2) (off := 70) 106 dX6_qJoins_36 c1_ (by decide) (by decide +kernel) (by decide) ?_
    refine xr_aload_n (pc := 106) 2 dX6_qJoins_106 rfl rfl ?_
    refine xr_lload (pc := 107) 0 dX6_qJoins_107 rfl ?_
    refine xr_lload_n (pc := 109) 1 dX6_qJoins_109 rfl rfl ?_
    refine xr_lsub (pc := 110) dX6_qJoins_110 ?_
    obtain ⟨r12, τ12, hτ12, hf⟩ := xo_bd hf
    refine call_f_t_qClip (pc := 111) hτ12 rfl (Nat.le_of_ble_eq_true rfl) (Nat.le_of_ble_eq_true rfl) (Nat.le_of_ble_eq_true rfl) dX6_qJoins_111 ?_
    obtain ⟨τ13, hτ13, hf⟩ := xo_bind hf
    refine call_f_t_qPuts (pc := 114) hτ13 rfl (Nat.le_of_ble_eq_true rfl) (Nat.le_of_ble_eq_true rfl) (Nat.le_of_ble_eq_true rfl) dX6_qJoins_114 ?_
    refine xr_goto (pc := 117) 273 dX6_qJoins_117 (by decide) ?_
    rw [kr _ (Option.some.inj hf).symm]
    exact xr_vret (pc := 273) dX6_qJoins_273 rfl
  have hf := xo_neg c1_ hf
  by_cases c2_ : x1 = 3
  · have hf := xo_pos c2_ hf
    refine xr_tsw_in (pc := 36) (v := 3) (off := 84) 120 dX6_qJoins_36 c2_ (by decide) (by decide +kernel) (by decide) ?_
    refine xr_aload_n (pc := 120) 2 dX6_qJoins_120 rfl rfl ?_
    refine xr_lload (pc := 121) 0 dX6_qJoins_121 rfl ?_
    refine xr_lload_n (pc := 123) 1 dX6_qJoins_123 rfl rfl ?_
    refine xr_lmul (pc := 124) dX6_qJoins_124 ?_
    obtain ⟨r10, τ10, hτ10, hf⟩ := xo_bd hf
    refine call_f_t_qClip (pc := 125) hτ10 rfl (Nat.le_of_ble_eq_true rfl) (Nat.le_of_ble_eq_true rfl) (Nat.le_of_ble_eq_true rfl) dX6_qJoins_125 ?_
    obtain ⟨τ11, hτ11, hf⟩ := xo_bind hf
    refine call_f_t_qPuts (pc := 128) hτ11 rfl (Nat.le_of_ble_eq_true rfl) (Nat.le_of_ble_eq_true rfl) (Nat.le_of_ble_eq_true rfl) dX6_qJoins_128 ?_
    refine xr_goto (pc := 131) 273 dX6_qJoins_131 (by decide) ?_
    rw [kr _ (Option.some.inj hf).symm]
    exact xr_vret (pc := 273) dX6_qJoins_273 rfl
  have hf := xo_neg c2_ hf
  by_cases c3_ : x1 = 4
  · have hf := xo_pos c3_ hf
    refine xr_tsw_in (pc := 36) (v := 4) (off := 98) 134 dX6_qJoins_36 c3_ (by decide) (by decide +kernel) (by decide) ?_
    refine xr_aload_n (pc := 134) 2 dX6_qJoins_134 rfl rfl ?_
    refine xr_lload (pc := 135) 0 dX6_qJoins_135 rfl ?_
    refine xr_lload_n (pc := 137) 1 dX6_qJoins_137 rfl rfl ?_
    obtain ⟨r8, τ8, hτ8, hf⟩ := xo_bd hf
    refine call_f_t_qFloor (pc := 138) hτ8 rfl (Nat.le_of_ble_eq_true rfl) (Nat.le_of_ble_eq_true rfl) (Nat.le_of_ble_eq_true rfl) dX6_qJoins_138 ?_
    obtain ⟨τ9, hτ9, hf⟩ := xo_bind hf
    refine call_f_t_qPuts (pc := 141) hτ9 rfl (Nat.le_of_ble_eq_true rfl) (Nat.le_of_ble_eq_true rfl) (Nat.le_of_ble_eq_true rfl) dX6_qJoins_141 ?_
    refine xr_goto (pc := 144) 273 dX6_qJoins_144 (by decide) ?_
    rw [kr _ (Option.some.inj hf).symm]
    exact xr_vret (pc := 273) dX6_qJoins_273 rfl
  have hf := xo_neg c3_ hf
  by_cases c4_ : x1 = 5
  · have hf := xo_pos c4_ hf
    refine xr_tsw_in (pc := 36) (v := 5) (off := 111) 147 dX6_qJoins_36 c4_ (by decide) (by decide +kernel) (by decide) ?_
    refine xr_aload_n (pc := 147) 2 dX6_qJoins_147 rfl rfl ?_
    refine xr_lload (pc := 148) 0 dX6_qJoins_148 rfl ?_
    refine xr_lload_n (pc := 150) 1 dX6_qJoins_150 rfl rfl ?_
    refine xr_lcmp (pc := 151) dX6_qJoins_151 ?_
    refine xr_if_ge (pc := 152) 160 dX6_qJoins_152 (by decide) (fun c_ => ?_) (fun c_ => ?_)
    · have hf := xo_pos c_ hf
      refine xr_lload_n (pc := 160) 1 dX6_qJoins_160 rfl rfl ?_
      refine xV_sub [] rfl ?_
      exact ok_Jt_qJoins_161 hf kr
    · have hf := xo_neg c_ hf
      refine xr_lload (pc := 155) 0 dX6_qJoins_155 rfl ?_
      refine xr_goto (pc := 157) 161 dX6_qJoins_157 (by decide) ?_
      refine xV_sub [] rfl ?_
      exact ok_Jt_qJoins_161 hf kr
  have hf := xo_neg c4_ hf
  by_cases c5_ : x1 = 6
  · have hf := xo_pos c5_ hf
    refine xr_tsw_in (pc := 36) (v := 6) (off := 131) 167 dX6_qJoins_36 c5_ (by decide) (by decide +kernel) (by decide) ?_
    refine xr_aload_n (pc := 167) 2 dX6_qJoins_167 rfl rfl ?_
    refine xr_lload (pc := 168) 0 dX6_qJoins_168 rfl ?_
    refine xr_lload_n (pc := 170) 1 dX6_qJoins_170 rfl rfl ?_
    refine xr_lcmp (pc := 171) dX6_qJoins_171 ?_
    refine xr_if_le (pc := 172) 180 dX6_qJoins_172 (by decide) (fun c_ => ?_) (fun c_ => ?_)
    · have hf := xo_pos c_ hf
      refine xr_lload_n (pc := 180) 1 dX6_qJoins_180 rfl rfl ?_
      refine xV_sub [] rfl ?_
      exact ok_Jt_qJoins_181 hf kr
    · have hf := xo_neg c_ hf
      refine xr_lload (pc := 175) 0 dX6_qJoins_175 rfl ?_
      refine xr_goto (pc := 177) 181 dX6_qJoins_177 (by decide) ?_
      refine xV_sub [] rfl ?_
      exact ok_Jt_qJoins_181 hf kr
  have hf := xo_neg c5_ hf
  by_cases c6_ : x1 = 7
  · have hf := xo_pos c6_ hf
    refine xr_tsw_in (pc := 36) (v := 7) (off := 151) 187 dX6_qJoins_36 c6_ (by decide) (by decide +kernel) (by decide) ?_
    refine xr_aload_n (pc := 187) 2 dX6_qJoins_187 rfl rfl ?_
    refine xr_lload (pc := 188) 0 dX6_qJoins_188 rfl ?_
    refine xr_lload_n (pc := 190) 1 dX6_qJoins_190 rfl rfl ?_
    refine xr_lcmp (pc := 191) dX6_qJoins_191 ?_
    refine xr_if_ge (pc := 192) 199 dX6_qJoins_192 (by decide) (fun c_ => ?_) (fun c_ => ?_)
    · have hf := xo_pos c_ hf
      refine xr_lconst (pc := 199) dX6_qJoins_199 (by decide : _ = (0 : Int64)) ?_
      refine xV_sub [] rfl ?_
      exact ok_Jt_qJoins_200 hf kr
    · have hf := xo_neg c_ hf
      refine xr_lconst (pc := 195) dX6_qJoins_195 (by decide : _ = (1 : Int64)) ?_
      refine xr_goto (pc := 196) 200 dX6_qJoins_196 (by decide) ?_
      refine xV_sub [] rfl ?_
      exact ok_Jt_qJoins_200 hf kr
  have hf := xo_neg c6_ hf
  by_cases c7_ : x1 = 8
  · have hf := xo_pos c7_ hf
    refine xr_tsw_in (pc := 36) (v := 8) (off := 170) 206 dX6_qJoins_36 c7_ (by decide) (by decide +kernel) (by decide) ?_
    refine xr_aload_n (pc := 206) 2 dX6_qJoins_206 rfl rfl ?_
    refine xr_lload (pc := 207) 0 dX6_qJoins_207 rfl ?_
    refine xr_lload_n (pc := 209) 1 dX6_qJoins_209 rfl rfl ?_
    refine xr_lcmp (pc := 210) dX6_qJoins_210 ?_
    refine xr_if_le (pc := 211) 218 dX6_qJoins_211 (by decide) (fun c_ => ?_) (fun c_ => ?_)
    · have hf := xo_pos c_ hf
      refine xr_lconst (pc := 218) dX6_qJoins_218 (by decide : _ = (0 : Int64)) ?_
      refine xV_sub [] rfl ?_
      exact ok_Jt_qJoins_219 hf kr
    · have hf := xo_neg c_ hf
      refine xr_lconst (pc := 214) dX6_qJoins_214 (by decide : _ = (1 : Int64)) ?_
      refine xr_goto (pc := 215) 219 dX6_qJoins_215 (by decide) ?_
      refine xV_sub [] rfl ?_
      exact ok_Jt_qJoins_219 hf kr
  have hf := xo_neg c7_ hf
  by_cases c8_ : x1 = 9
  · have hf := xo_pos c8_ hf
    refine xr_tsw_in (pc := 36) (v := 9) (off := 189) 225 dX6_qJoins_36 c8_ (by decide) (by decide +kernel) (by decide) ?_
    refine xr_aload_n (pc := 225) 2 dX6_qJoins_225 rfl rfl ?_
    refine xr_lload (pc := 226) 0 dX6_qJoins_226 rfl ?_
    refine xr_lload_n (pc := 228) 1 dX6_qJoins_228 rfl rfl ?_
    refine xr_lcmp (pc := 229) dX6_qJoins_229 ?_
    refine xr_if_ne (pc := 230) 237 dX6_qJoins_230 (by decide) (fun c_ => ?_) (fun c_ => ?_)
    · have hf := xo_pos c_ hf
      refine xr_lconst (pc := 233) dX6_qJoins_233 (by decide : _ = (1 : Int64)) ?_
      refine xr_goto (pc := 234) 238 dX6_qJoins_234 (by decide) ?_
      refine xV_sub [] rfl ?_
      exact ok_Jt_qJoins_238 hf kr
    · have hf := xo_neg c_ hf
      refine xr_lconst (pc := 237) dX6_qJoins_237 (by decide : _ = (0 : Int64)) ?_
      refine xV_sub [] rfl ?_
      exact ok_Jt_qJoins_238 hf kr
  have hf := xo_neg c8_ hf
  by_cases c9_ : x1 = 10
  · have hf := xo_pos c9_ hf
    refine xr_tsw_in (pc := 36) (v := 10) (off := 208) 244 dX6_qJoins_36 c9_ (by decide) (by decide +kernel) (by decide) ?_
    refine xr_aload_n (pc := 244) 2 dX6_qJoins_244 rfl rfl ?_
    refine xr_lload (pc := 245) 0 dX6_qJoins_245 rfl ?_
    refine xr_lload_n (pc := 247) 1 dX6_qJoins_247 rfl rfl ?_
    refine xr_lmul (pc := 248) dX6_qJoins_248 ?_
    obtain ⟨τ2, hτ2, hf⟩ := xo_bind hf
    refine call_f_t_qPuts (pc := 249) hτ2 rfl (Nat.le_of_ble_eq_true rfl) (Nat.le_of_ble_eq_true rfl) (Nat.le_of_ble_eq_true rfl) dX6_qJoins_249 ?_
    refine xr_goto (pc := 252) 273 dX6_qJoins_252 (by decide) ?_
    rw [kr _ (Option.some.inj hf).symm]
    exact xr_vret (pc := 273) dX6_qJoins_273 rfl
  have hf := xo_neg c9_ hf
  refine xr_tsw_out (pc := 36) 255 dX6_qJoins_36 (xsw_out 1 10 [1, 2, 3, 4, 5, 6, 7, 8, 9, 10] (by decide +kernel) (List.forall_mem_cons.mpr ⟨c0_, List.forall_mem_cons.mpr ⟨c1_, List.forall_mem_cons.mpr ⟨c2_, List.forall_mem_cons.mpr ⟨c3_, List.forall_mem_cons.mpr ⟨c4_, List.forall_mem_cons.mpr ⟨c5_, List.forall_mem_cons.mpr ⟨c6_, List.forall_mem_cons.mpr ⟨c7_, List.forall_mem_cons.mpr ⟨c8_, List.forall_mem_cons.mpr ⟨c9_, List.forall_mem_nil _⟩⟩⟩⟩⟩⟩⟩⟩⟩⟩)) (by decide) ?_
  refine xr_aload_n (pc := 255) 2 dX6_qJoins_255 rfl rfl ?_
  refine xr_lload (pc := 256) 0 dX6_qJoins_256 rfl ?_
  refine xr_lload_n (pc := 258) 1 dX6_qJoins_258 rfl rfl ?_
  refine xr_ladd (pc := 259) dX6_qJoins_259 ?_
  refine xr_lconst (pc := 260) dX6_qJoins_260 (by decide : _ = (0 : Int64)) ?_
  refine xr_lcmp (pc := 261) dX6_qJoins_261 ?_
  refine xr_if_le (pc := 262) 269 dX6_qJoins_262 (by decide) (fun c_ => ?_) (fun c_ => ?_)
  · have hf := xo_pos c_ hf
    refine xr_lconst (pc := 269) dX6_qJoins_269 (by decide : _ = (0 : Int64)) ?_
    refine xV_sub [] rfl ?_
    exact ok_Jt_qJoins_270 hf kr
  · have hf := xo_neg c_ hf
    refine xr_lconst (pc := 265) dX6_qJoins_265 (by decide : _ = (1 : Int64)) ?_
    refine xr_goto (pc := 266) 270 dX6_qJoins_266 (by decide) ?_
    refine xV_sub [] rfl ?_
    exact ok_Jt_qJoins_270 hf kr
theorem met_f_t_qJoins (l : Launch) {D : TD} {m : Nat} {x1 : Int32} {τ : TS} {o_ : TS} (hf : f_t_qJoins x1 τ = some o_) : xMet (wT D m) l yX6_qJoins (ws_ yX6_qJoins cX6_qJoins 6 none) 1 60 0 0 [.ref m, .int x1] τ (none, o_) :=
  xMet_of (by decide) (Nat.le_of_ble_eq_true rfl) KT_moved (fun _ _ => trivial) (fun K _ _ _ => ok_f_t_qJoins hf (fun _ h => by rw [h]))
theorem hd_f_t_qJoins : yX6_qJoins.cls = RX6 ∧ yX6_qJoins.cls ≠ "java/lang/invoke/MethodHandle" ∧ yX6_qJoins.cls ≠ "java/lang/invoke/VarHandle" ∧ (parseMethodDescriptor yX6_qJoins.desc).map (fun d => d.parameters.length) = some 1 := by decide +kernel
theorem call_f_t_qJoins {D : TD} {m : Nat} {K : xK} {M : xM} {Q : State → Prop} {x1 : Int32} {τ : TS} {pc : Nat} {loc : List (Nat × Value)} {st : List Value} {τ1 : TS} (hf : f_t_qJoins x1 τ = some τ1) (ho : M.2.2.1 = RX6) (hfr : 2 ≤ M.2.2.2.1) (hlo : 85 ≤ M.2.2.2.2.1) (hcat : (st.map fun v => v.category).sum ≤ 8) (d : decode M.1 pc = .ok (.invokevirtual 510, 3)) (k : xV (wT D m) K M Q τ1 (pc + 3) loc st) : xV (wT D m) K M Q τ pc loc (.int x1 :: .ref m :: st) :=
  xr_callV (As := [.int x1]) (rest := st) (met_f_t_qJoins K.2.1 hf) (lw_V q2413 q2415 qs125 q186 q2416) hd_f_t_qJoins ho hfr hlo rfl (fun H hR hK => t_recv H hR hK) rfl hcat d k
