set_option maxRecDepth 100000
abbrev mX6_feed : xM := (cX6_feed, 8, RX6, 0, 0, (some .int), "feed")
def Jt_feed_81 (x1 : Int32) (x2 : Int32) (x3 : Int32) (x4 : Int32) (x5 : Int32) (x6 : Int32) (s0 : Int32) (τ : TS) : Option ((Int32 × TS) ⊕ ((TS))) :=
  if xin (tI τ 1) 1600 = true then
  some (.inl (x6 + 1, sI (sA τ 0 (tI τ 1).toNatClampNeg (((s0 : Int32) >>> ((8 * (3 - (x6 - x6 / 4 * 4))) &&& 31)) &&& 255)) 1 ((tI (sA τ 0 (tI τ 1).toNatClampNeg (((s0 : Int32) >>> ((8 * (3 - (x6 - x6 / 4 * 4))) &&& 31)) &&& 255)) 1) + 1)))
  else none
theorem ok_Jt_feed_81 {D : TD} {m : Nat} {K : xK} {Z : Option Value × TS} {x1 : Int32} {x2 : Int32} {x3 : Int32} {x4 : Int32} {x5 : Int32} {x6 : Int32} {s0 : Int32} {τ : TS} {o_ : ((Int32 × TS) ⊕ ((TS)))} (hf : Jt_feed_81 x1 x2 x3 x4 x5 x6 s0 τ = some o_) (kc : ∀ s_ : Int32 × TS, o_ = .inl s_ → xV (wT D m) K mX6_feed (xQ (wT D m) K Z) s_.2 28 [(0, .ref m), (1, .int x1), (2, .int x2), (3, .int x3), (4, .int x4), (5, .int x5), (6, .int s_.1)] []) (ke0 : ∀ e_ : TS, o_ = .inr e_ → xV (wT D m) K mX6_feed (xQ (wT D m) K Z) e_ 124 [(0, .ref m)] []) : xV (wT D m) K mX6_feed (xQ (wT D m) K Z) τ 81 [(0, .ref m), (1, .int x1), (2, .int x2), (3, .int x3), (4, .int x4), (5, .int x5), (6, .int x6)] [.int s0] := by
  unfold Jt_feed_81 at hf
  refine xr_istore (pc := 81) (loc' := [(7, .int s0), (0, .ref m), (1, .int x1), (2, .int x2), (3, .int x3), (4, .int x4), (5, .int x5), (6, .int x6)]) dX6_feed_81 (by decide) rfl ?_
  refine xr_aload_n (pc := 83) 1 dX6_feed_83 rfl rfl ?_
  refine xt_getA (pc := 84) 0 (by decide) q1746 rfl rfl rfl dX6_feed_84 ?_
  refine xr_aload_n (pc := 87) 1 dX6_feed_87 rfl rfl ?_
  refine xt_getI (pc := 88) 1 (by decide) q1747 rfl rfl rfl dX6_feed_88 ?_
  refine xr_iload (pc := 91) 0 dX6_feed_91 rfl ?_
  refine xr_bipush (pc := 93) dX6_feed_93 xcb_8 ?_
  refine xr_iconst (pc := 95) dX6_feed_95 xci_3 ?_
  refine xr_iload (pc := 96) 7 dX6_feed_96 rfl ?_
  refine xr_iconst (pc := 98) dX6_feed_98 xci_4 ?_
  refine xr_irem (pc := 99) dX6_feed_99 (by decide) ?_
  refine xr_isub (pc := 100) dX6_feed_100 ?_
  refine xr_imul (pc := 101) dX6_feed_101 ?_
  refine xr_ishr (pc := 102) dX6_feed_102 ?_
  refine xr_sipush (pc := 103) dX6_feed_103 xcs_255 ?_
  refine xr_iand (pc := 106) dX6_feed_106 ?_
  obtain ⟨hi_, hf⟩ := xo_if hf
  refine xt_iast (pc := 107) 0 rfl rfl hi_ dX6_feed_107 ?_
  refine xr_aload_n (pc := 108) 1 dX6_feed_108 rfl rfl ?_
  refine xr_dup (pc := 109) dX6_feed_109 rfl ?_
  refine xt_getI (pc := 110) 1 (by decide) q1747 rfl rfl rfl dX6_feed_110 ?_
  refine xr_iconst (pc := 113) dX6_feed_113 xci_1 ?_
  refine xr_iadd (pc := 114) dX6_feed_114 ?_
  refine xt_putI (pc := 115) 1 (by decide) q1747 rfl rfl rfl (by decide +kernel) rfl dX6_feed_115 ?_
  refine xr_iinc (pc := 118) (loc' := [(6, .int (x6 + 1)), (7, .int s0), (0, .ref m), (1, .int x1), (2, .int x2), (3, .int x3), (4, .int x4), (5, .int x5)]) 7 dX6_feed_118 rfl xci_1 (by decide) rfl ?_
  refine xr_goto (pc := 121) 28 dX6_feed_121 (by decide) ?_
  refine xV_sub [2, 3, 4, 5, 6, 7, 0] rfl ?_
  exact kc _ (Option.some.inj hf).symm
def Bt_feed_28 (x1 : Int32) (x2 : Int32) (x3 : Int32) (x4 : Int32) (x5 : Int32) (x6 : Int32) (τ : TS) : Option ((Int32 × TS) ⊕ ((TS))) :=
  if 20 ≤ x6 then
  some (.inr τ)
  else
  if 4 ≤ x6 then
  if 8 ≤ x6 then
  if 12 ≤ x6 then
  if 16 ≤ x6 then
  Jt_feed_81 x1 x2 x3 x4 x5 x6 x5 τ
  else
  Jt_feed_81 x1 x2 x3 x4 x5 x6 x4 τ
  else
  Jt_feed_81 x1 x2 x3 x4 x5 x6 x3 τ
  else
  Jt_feed_81 x1 x2 x3 x4 x5 x6 x2 τ
  else
  Jt_feed_81 x1 x2 x3 x4 x5 x6 x1 τ
theorem ok_Bt_feed_28 {D : TD} {m : Nat} {K : xK} {Z : Option Value × TS} {x1 : Int32} {x2 : Int32} {x3 : Int32} {x4 : Int32} {x5 : Int32} {x6 : Int32} {τ : TS} {o_ : ((Int32 × TS) ⊕ ((TS)))} (hf : Bt_feed_28 x1 x2 x3 x4 x5 x6 τ = some o_) (kc : ∀ s_ : Int32 × TS, o_ = .inl s_ → xV (wT D m) K mX6_feed (xQ (wT D m) K Z) s_.2 28 [(0, .ref m), (1, .int x1), (2, .int x2), (3, .int x3), (4, .int x4), (5, .int x5), (6, .int s_.1)] []) (ke0 : ∀ e_ : TS, o_ = .inr e_ → xV (wT D m) K mX6_feed (xQ (wT D m) K Z) e_ 124 [(0, .ref m)] []) : xV (wT D m) K mX6_feed (xQ (wT D m) K Z) τ 28 [(0, .ref m), (1, .int x1), (2, .int x2), (3, .int x3), (4, .int x4), (5, .int x5), (6, .int x6)] [] := by
  unfold Bt_feed_28 at hf
  refine xr_iload (pc := 28) 6 dX6_feed_28 rfl ?_
  refine xr_bipush (pc := 30) dX6_feed_30 xcb_20 ?_
  refine xr_icmp_ge (pc := 32) 124 dX6_feed_32 (by decide) (fun c_ => ?_) (fun c_ => ?_)
  · have hf := xo_pos c_ hf
    refine xV_sub [0] rfl ?_
    exact ke0 _ (Option.some.inj hf).symm
  · have hf := xo_neg c_ hf
    refine xr_iload (pc := 35) 6 dX6_feed_35 rfl ?_
    refine xr_iconst (pc := 37) dX6_feed_37 xci_4 ?_
    refine xr_icmp_ge (pc := 38) 45 dX6_feed_38 (by decide) (fun c_ => ?_) (fun c_ => ?_)
    · have hf := xo_pos c_ hf
      refine xr_iload (pc := 45) 6 dX6_feed_45 rfl ?_
      refine xr_bipush (pc := 47) dX6_feed_47 xcb_8 ?_
      refine xr_icmp_ge (pc := 49) 56 dX6_feed_49 (by decide) (fun c_ => ?_) (fun c_ => ?_)
      · have hf := xo_pos c_ hf
        refine xr_iload (pc := 56) 6 dX6_feed_56 rfl ?_
        refine xr_bipush (pc := 58) dX6_feed_58 xcb_12 ?_
        refine xr_icmp_ge (pc := 60) 67 dX6_feed_60 (by decide) (fun c_ => ?_) (fun c_ => ?_)
        · have hf := xo_pos c_ hf
          refine xr_iload (pc := 67) 6 dX6_feed_67 rfl ?_
          refine xr_bipush (pc := 69) dX6_feed_69 xcb_16 ?_
          refine xr_icmp_ge (pc := 71) 79 dX6_feed_71 (by decide) (fun c_ => ?_) (fun c_ => ?_)
          · have hf := xo_pos c_ hf
            refine xr_iload (pc := 79) 5 dX6_feed_79 rfl ?_
            exact ok_Jt_feed_81 hf kc ke0
          · have hf := xo_neg c_ hf
            refine xr_iload (pc := 74) 4 dX6_feed_74 rfl ?_
            refine xr_goto (pc := 76) 81 dX6_feed_76 (by decide) ?_
            exact ok_Jt_feed_81 hf kc ke0
        · have hf := xo_neg c_ hf
          refine xr_iload_n (pc := 63) 3 dX6_feed_63 rfl rfl ?_
          refine xr_goto (pc := 64) 81 dX6_feed_64 (by decide) ?_
          exact ok_Jt_feed_81 hf kc ke0
      · have hf := xo_neg c_ hf
        refine xr_iload_n (pc := 52) 2 dX6_feed_52 rfl rfl ?_
        refine xr_goto (pc := 53) 81 dX6_feed_53 (by decide) ?_
        exact ok_Jt_feed_81 hf kc ke0
    · have hf := xo_neg c_ hf
      refine xr_iload_n (pc := 41) 1 dX6_feed_41 rfl rfl ?_
      refine xr_goto (pc := 42) 81 dX6_feed_42 (by decide) ?_
      exact ok_Jt_feed_81 hf kc ke0
def f_t_feed (x1 : Int32) (x2 : Int32) (x3 : Int32) (x4 : Int32) (x5 : Int32) (τ : TS) : Option (Int32 × TS) :=
  if ((tI τ 1) + 20) ≤ 1600 then
  (itr (fun s_ : Int32 × TS => Bt_feed_28 x1 x2 x3 x4 x5 s_.1 s_.2) 4096 (0, τ)).bind fun b1 =>
  some ((tI b1 1, b1))
  else
  if xin 0 6 = true then
  if xin 0 6 = true then
  some (((-1), sA τ 9 (0 : Int32).toNatClampNeg ((tA τ 9 (0 : Int32).toNatClampNeg) + 1)))
  else none
  else none
theorem ok_f_t_feed {D : TD} {m : Nat} {K : xK} {Z : Option Value × TS} {x1 : Int32} {x2 : Int32} {x3 : Int32} {x4 : Int32} {x5 : Int32} {τ : TS} {o_ : (Int32 × TS)} (hf : f_t_feed x1 x2 x3 x4 x5 τ = some o_) (kr : ∀ r_ : (Int32 × TS), o_ = r_ → Z = (some (.int r_.1), r_.2)) : xV (wT D m) K mX6_feed (xQ (wT D m) K Z) τ 0 [(0, .ref m), (1, .int x1), (2, .int x2), (3, .int x3), (4, .int x4), (5, .int x5)] [] := by
  unfold f_t_feed at hf
  refine xr_aload_n (pc := 0) 0 dX6_feed_0 rfl rfl ?_
  refine xt_getI (pc := 1) 1 (by decide) q1747 rfl rfl rfl dX6_feed_1 ?_
  refine xr_bipush (pc := 4) dX6_feed_4 xcb_20 ?_
  refine xr_iadd (pc := 6) dX6_feed_6 ?_
  refine xr_sipush (pc := 7) dX6_feed_7 xcs_1600 ?_
  refine xr_icmp_le (pc := 10) 25 dX6_feed_10 (by decide) (fun c_ => ?_) (fun c_ => ?_)
  · have hf := xo_pos c_ hf
    refine xr_iconst (pc := 25) dX6_feed_25 xci_0 ?_
    refine xr_istore (pc := 26) (loc' := [(6, .int 0), (0, .ref m), (1, .int x1), (2, .int x2), (3, .int x3), (4, .int x4), (5, .int x5)]) dX6_feed_26 (by decide) rfl ?_
    refine xV_sub [1, 2, 3, 4, 5, 6, 0] rfl ?_
    obtain ⟨b1, hb1, hf⟩ := xo_bind hf
    refine itr_rule (P := fun s_ : Int32 × TS => xV (wT D m) K mX6_feed (xQ (wT D m) K Z) s_.2 28 [(0, .ref m), (1, .int x1), (2, .int x2), (3, .int x3), (4, .int x4), (5, .int x5), (6, .int s_.1)] []) (fun s_ o_ hB_ hc_ he_ => ok_Bt_feed_28 hB_ hc_ (fun e_ h_ => ?_)) 4096 _ hb1
    · have e9_ := he_ _ h_
      rw [e9_]
      refine xr_aload_n (pc := 124) 0 dX6_feed_124 rfl rfl ?_
      refine xt_getI (pc := 125) 1 (by decide) q1747 rfl rfl rfl dX6_feed_125 ?_
      rw [kr _ (Option.some.inj hf).symm]
      exact xr_iret (pc := 128) dX6_feed_128 rfl
  · have hf := xo_neg c_ hf
    refine xr_aload_n (pc := 13) 0 dX6_feed_13 rfl rfl ?_
    refine xt_getA (pc := 14) 9 (by decide) q1755 rfl rfl rfl dX6_feed_14 ?_
    refine xr_iconst (pc := 17) dX6_feed_17 xci_0 ?_
    refine xr_dup2_11 (pc := 18) dX6_feed_18 rfl rfl ?_
    obtain ⟨hi_, hf⟩ := xo_if hf
    refine xt_iald (pc := 19) 9 rfl rfl hi_ dX6_feed_19 ?_
    refine xr_iconst (pc := 20) dX6_feed_20 xci_1 ?_
    refine xr_iadd (pc := 21) dX6_feed_21 ?_
    obtain ⟨hi_, hf⟩ := xo_if hf
    refine xt_iast (pc := 22) 9 rfl rfl hi_ dX6_feed_22 ?_
    refine xr_iconst (pc := 23) dX6_feed_23 xci_m1 ?_
    rw [kr _ (Option.some.inj hf).symm]
    exact xr_iret (pc := 24) dX6_feed_24 rfl
theorem met_f_t_feed (l : Launch) {D : TD} {m : Nat} {x1 : Int32} {x2 : Int32} {x3 : Int32} {x4 : Int32} {x5 : Int32} {τ : TS} {o_ : (Int32 × TS)} (hf : f_t_feed x1 x2 x3 x4 x5 τ = some o_) : xMet (wT D m) l yX6_feed (ws_ yX6_feed cX6_feed 8 (some .int)) 0 0 0 0 [.ref m, .int x1, .int x2, .int x3, .int x4, .int x5] τ (some (.int o_.1), o_.2) :=
  xMet_of (by decide) (Nat.le_of_ble_eq_true rfl) KT_moved (fun _ _ => trivial) (fun K _ _ _ => ok_f_t_feed hf (fun _ h => by rw [h]))
abbrev mX6_end : xM := (cX6_end, 2, RX6, 0, 0, (some .boolean), "end")
def Jt_end_12 (τ : TS) : Option (Int32 × TS) :=
  if xin 0 6 = true then
  if xin 0 6 = true then
  some ((0, sA τ 9 (0 : Int32).toNatClampNeg ((tA τ 9 (0 : Int32).toNatClampNeg) + 1)))
  else none
  else none
theorem ok_Jt_end_12 {D : TD} {m : Nat} {K : xK} {Z : Option Value × TS} {τ : TS} {o_ : (Int32 × TS)} (hf : Jt_end_12 τ = some o_) (kr : ∀ r_ : (Int32 × TS), o_ = r_ → Z = (some (.int r_.1), r_.2)) : xV (wT D m) K mX6_end (xQ (wT D m) K Z) τ 12 [(0, .ref m)] [] := by
  unfold Jt_end_12 at hf
  refine xr_aload_n (pc := 12) 0 dX6_end_12 rfl rfl ?_
  refine xt_getA (pc := 13) 9 (by decide) q1755 rfl rfl rfl dX6_end_13 ?_
  refine xr_iconst (pc := 16) dX6_end_16 xci_0 ?_
  refine xr_dup2_11 (pc := 17) dX6_end_17 rfl rfl ?_
  obtain ⟨hi_, hf⟩ := xo_if hf
  refine xt_iald (pc := 18) 9 rfl rfl hi_ dX6_end_18 ?_
  refine xr_iconst (pc := 19) dX6_end_19 xci_1 ?_
  refine xr_iadd (pc := 20) dX6_end_20 ?_
  obtain ⟨hi_, hf⟩ := xo_if hf
  refine xt_iast (pc := 21) 9 rfl rfl hi_ dX6_end_21 ?_
  refine xr_iconst (pc := 22) dX6_end_22 xci_0 ?_
  rw [kr _ (Option.some.inj hf).symm]
  exact xr_zret (pc := 23) dX6_end_23 rfl xz_0
def f_t_end (x1 : Int32) (τ : TS) : Option (Int32 × TS) :=
  if x1 < 0 then
  Jt_end_12 τ
  else
  if x1 ≤ (tI τ 1) then
  some ((1, sI τ 1 x1))
  else
  Jt_end_12 τ
theorem ok_f_t_end {D : TD} {m : Nat} {K : xK} {Z : Option Value × TS} {x1 : Int32} {τ : TS} {o_ : (Int32 × TS)} (hf : f_t_end x1 τ = some o_) (kr : ∀ r_ : (Int32 × TS), o_ = r_ → Z = (some (.int r_.1), r_.2)) : xV (wT D m) K mX6_end (xQ (wT D m) K Z) τ 0 [(0, .ref m), (1, .int x1)] [] := by
  unfold f_t_end at hf
  refine xr_iload_n (pc := 0) 1 dX6_end_0 rfl rfl ?_
  refine xr_if_lt (pc := 1) 12 dX6_end_1 (by decide) (fun c_ => ?_) (fun c_ => ?_)
  · have hf := xo_pos c_ hf
    refine xV_sub [0] rfl ?_
    exact ok_Jt_end_12 hf kr
  · have hf := xo_neg c_ hf
    refine xr_iload_n (pc := 4) 1 dX6_end_4 rfl rfl ?_
    refine xr_aload_n (pc := 5) 0 dX6_end_5 rfl rfl ?_
    refine xt_getI (pc := 6) 1 (by decide) q1747 rfl rfl rfl dX6_end_6 ?_
    refine xr_icmp_le (pc := 9) 24 dX6_end_9 (by decide) (fun c_ => ?_) (fun c_ => ?_)
    · have hf := xo_pos c_ hf
      refine xr_aload_n (pc := 24) 0 dX6_end_24 rfl rfl ?_
      refine xr_iload_n (pc := 25) 1 dX6_end_25 rfl rfl ?_
      refine xt_putI (pc := 26) 1 (by decide) q1747 rfl rfl rfl (by decide +kernel) rfl dX6_end_26 ?_
      refine xr_iconst (pc := 29) dX6_end_29 xci_1 ?_
      rw [kr _ (Option.some.inj hf).symm]
      exact xr_zret (pc := 30) dX6_end_30 rfl xz_1
    · have hf := xo_neg c_ hf
      refine xV_sub [0] rfl ?_
      exact ok_Jt_end_12 hf kr
theorem met_f_t_end (l : Launch) {D : TD} {m : Nat} {x1 : Int32} {τ : TS} {o_ : (Int32 × TS)} (hf : f_t_end x1 τ = some o_) : xMet (wT D m) l yX6_end (ws_ yX6_end cX6_end 2 (some .boolean)) 0 0 0 0 [.ref m, .int x1] τ (some (.int o_.1), o_.2) :=
  xMet_of (by decide) (Nat.le_of_ble_eq_true rfl) KT_moved (fun _ _ => trivial) (fun K _ _ _ => ok_f_t_end hf (fun _ h => by rw [h]))
abbrev mX6_look : xM := (cX6_look, 1, RX6, 0, 0, (some .int), "look")
def Jt_look_39 (τ : TS) : Option ((TS) ⊕ ((TS))) :=
  some (.inl (sI τ 2 ((tI τ 2) + 1)))
theorem ok_Jt_look_39 {D : TD} {m : Nat} {K : xK} {Z : Option Value × TS} {τ : TS} {o_ : ((TS) ⊕ ((TS)))} (hf : Jt_look_39 τ = some o_) (kc : ∀ s_ : TS, o_ = .inl s_ → xV (wT D m) K mX6_look (xQ (wT D m) K Z) s_ 0 [(0, .ref m)] []) (ke0 : ∀ e_ : TS, o_ = .inr e_ → xV (wT D m) K mX6_look (xQ (wT D m) K Z) e_ 52 [(0, .ref m)] []) : xV (wT D m) K mX6_look (xQ (wT D m) K Z) τ 39 [(0, .ref m)] [] := by
  unfold Jt_look_39 at hf
  refine xr_aload_n (pc := 39) 0 dX6_look_39 rfl rfl ?_
  refine xr_dup (pc := 40) dX6_look_40 rfl ?_
  refine xt_getI (pc := 41) 2 (by decide) q1748 rfl rfl rfl dX6_look_41 ?_
  refine xr_iconst (pc := 44) dX6_look_44 xci_1 ?_
  refine xr_iadd (pc := 45) dX6_look_45 ?_
  refine xt_putI (pc := 46) 2 (by decide) q1748 rfl rfl rfl (by decide +kernel) rfl dX6_look_46 ?_
  refine xr_goto (pc := 49) 0 dX6_look_49 (by decide) ?_
  exact kc _ (Option.some.inj hf).symm
def Bt_look_0 (τ : TS) : Option ((TS) ⊕ ((TS))) :=
  if (tI τ 3) ≤ (tI τ 2) then
  some (.inr τ)
  else
  if xin (tI τ 2) 1600 = true then
  if (tA τ 0 (tI τ 2).toNatClampNeg) = 10 then
  Jt_look_39 τ
  else
  if xin (tI τ 2) 1600 = true then
  if (tA τ 0 (tI τ 2).toNatClampNeg) = 32 then
  Jt_look_39 τ
  else
  some (.inr τ)
  else none
  else none
theorem ok_Bt_look_0 {D : TD} {m : Nat} {K : xK} {Z : Option Value × TS} {τ : TS} {o_ : ((TS) ⊕ ((TS)))} (hf : Bt_look_0 τ = some o_) (kc : ∀ s_ : TS, o_ = .inl s_ → xV (wT D m) K mX6_look (xQ (wT D m) K Z) s_ 0 [(0, .ref m)] []) (ke0 : ∀ e_ : TS, o_ = .inr e_ → xV (wT D m) K mX6_look (xQ (wT D m) K Z) e_ 52 [(0, .ref m)] []) : xV (wT D m) K mX6_look (xQ (wT D m) K Z) τ 0 [(0, .ref m)] [] := by
  unfold Bt_look_0 at hf
  refine xr_aload_n (pc := 0) 0 dX6_look_0 rfl rfl ?_
  refine xt_getI (pc := 1) 2 (by decide) q1748 rfl rfl rfl dX6_look_1 ?_
  refine xr_aload_n (pc := 4) 0 dX6_look_4 rfl rfl ?_
  refine xt_getI (pc := 5) 3 (by decide) q1749 rfl rfl rfl dX6_look_5 ?_
  refine xr_icmp_ge (pc := 8) 52 dX6_look_8 (by decide) (fun c_ => ?_) (fun c_ => ?_)
  · have hf := xo_pos c_ hf
    exact ke0 _ (Option.some.inj hf).symm
  · have hf := xo_neg c_ hf
    refine xr_aload_n (pc := 11) 0 dX6_look_11 rfl rfl ?_
    refine xt_getA (pc := 12) 0 (by decide) q1746 rfl rfl rfl dX6_look_12 ?_
    refine xr_aload_n (pc := 15) 0 dX6_look_15 rfl rfl ?_
    refine xt_getI (pc := 16) 2 (by decide) q1748 rfl rfl rfl dX6_look_16 ?_
    obtain ⟨hi_, hf⟩ := xo_if hf
    refine xt_iald (pc := 19) 0 rfl rfl hi_ dX6_look_19 ?_
    refine xr_bipush (pc := 20) dX6_look_20 xcb_10 ?_
    refine xr_icmp_eq (pc := 22) 39 dX6_look_22 (by decide) (fun c_ => ?_) (fun c_ => ?_)
    · have hf := xo_pos c_ hf
      exact ok_Jt_look_39 hf kc ke0
    · have hf := xo_neg c_ hf
      refine xr_aload_n (pc := 25) 0 dX6_look_25 rfl rfl ?_
      refine xt_getA (pc := 26) 0 (by decide) q1746 rfl rfl rfl dX6_look_26 ?_
      refine xr_aload_n (pc := 29) 0 dX6_look_29 rfl rfl ?_
      refine xt_getI (pc := 30) 2 (by decide) q1748 rfl rfl rfl dX6_look_30 ?_
      obtain ⟨hi_, hf⟩ := xo_if hf
      refine xt_iald (pc := 33) 0 rfl rfl hi_ dX6_look_33 ?_
      refine xr_bipush (pc := 34) dX6_look_34 xcb_32 ?_
      refine xr_icmp_ne (pc := 36) 52 dX6_look_36 (by decide) (fun c_ => ?_) (fun c_ => ?_)
      · have hf := xo_pos c_ hf
        exact ok_Jt_look_39 hf kc ke0
      · have hf := xo_neg c_ hf
        exact ke0 _ (Option.some.inj hf).symm
def Jt_look_52 (τ : TS) : Option (Int32 × TS) :=
  if (tI τ 3) ≤ (tI τ 2) then
  some (((-1), τ))
  else
  if xin (tI τ 2) 1600 = true then
  some ((tA τ 0 (tI τ 2).toNatClampNeg, τ))
  else none
theorem ok_Jt_look_52 {D : TD} {m : Nat} {K : xK} {Z : Option Value × TS} {τ : TS} {o_ : (Int32 × TS)} (hf : Jt_look_52 τ = some o_) (kr : ∀ r_ : (Int32 × TS), o_ = r_ → Z = (some (.int r_.1), r_.2)) : xV (wT D m) K mX6_look (xQ (wT D m) K Z) τ 52 [(0, .ref m)] [] := by
  unfold Jt_look_52 at hf
  refine xr_aload_n (pc := 52) 0 dX6_look_52 rfl rfl ?_
  refine xt_getI (pc := 53) 2 (by decide) q1748 rfl rfl rfl dX6_look_53 ?_
  refine xr_aload_n (pc := 56) 0 dX6_look_56 rfl rfl ?_
  refine xt_getI (pc := 57) 3 (by decide) q1749 rfl rfl rfl dX6_look_57 ?_
  refine xr_icmp_ge (pc := 60) 75 dX6_look_60 (by decide) (fun c_ => ?_) (fun c_ => ?_)
  · have hf := xo_pos c_ hf
    refine xr_iconst (pc := 75) dX6_look_75 xci_m1 ?_
    rw [kr _ (Option.some.inj hf).symm]
    exact xr_iret (pc := 76) dX6_look_76 rfl
  · have hf := xo_neg c_ hf
    refine xr_aload_n (pc := 63) 0 dX6_look_63 rfl rfl ?_
    refine xt_getA (pc := 64) 0 (by decide) q1746 rfl rfl rfl dX6_look_64 ?_
    refine xr_aload_n (pc := 67) 0 dX6_look_67 rfl rfl ?_
    refine xt_getI (pc := 68) 2 (by decide) q1748 rfl rfl rfl dX6_look_68 ?_
    obtain ⟨hi_, hf⟩ := xo_if hf
    refine xt_iald (pc := 71) 0 rfl rfl hi_ dX6_look_71 ?_
    refine xr_goto (pc := 72) 76 dX6_look_72 (by decide) ?_
    rw [kr _ (Option.some.inj hf).symm]
    exact xr_iret (pc := 76) dX6_look_76 rfl
def f_t_look (τ : TS) : Option (Int32 × TS) :=
  (itr (fun s_ : TS => Bt_look_0 s_) 4096 τ).bind fun b1 =>
  Jt_look_52 b1
theorem ok_f_t_look {D : TD} {m : Nat} {K : xK} {Z : Option Value × TS} {τ : TS} {o_ : (Int32 × TS)} (hf : f_t_look τ = some o_) (kr : ∀ r_ : (Int32 × TS), o_ = r_ → Z = (some (.int r_.1), r_.2)) : xV (wT D m) K mX6_look (xQ (wT D m) K Z) τ 0 [(0, .ref m)] [] := by
  unfold f_t_look at hf
  obtain ⟨b1, hb1, hf⟩ := xo_bind hf
  refine itr_rule (P := fun s_ : TS => xV (wT D m) K mX6_look (xQ (wT D m) K Z) s_ 0 [(0, .ref m)] []) (fun s_ o_ hB_ hc_ he_ => ok_Bt_look_0 hB_ hc_ (fun e_ h_ => ?_)) 4096 _ hb1
  · have e9_ := he_ _ h_
    rw [e9_]
    exact ok_Jt_look_52 hf kr
theorem met_f_t_look (l : Launch) {D : TD} {m : Nat} {τ : TS} {o_ : (Int32 × TS)} (hf : f_t_look τ = some o_) : xMet (wT D m) l yX6_look (ws_ yX6_look cX6_look 1 (some .int)) 0 0 0 0 [.ref m] τ (some (.int o_.1), o_.2) :=
  xMet_of (by decide) (Nat.le_of_ble_eq_true rfl) KT_moved (fun _ _ => trivial) (fun K _ _ _ => ok_f_t_look hf (fun _ h => by rw [h]))
theorem hd_f_t_look : yX6_look.cls = RX6 ∧ yX6_look.cls ≠ "java/lang/invoke/MethodHandle" ∧ yX6_look.cls ≠ "java/lang/invoke/VarHandle" ∧ (parseMethodDescriptor yX6_look.desc).map (fun d => d.parameters.length) = some 0 := by decide +kernel
theorem call_f_t_look {D : TD} {m : Nat} {K : xK} {M : xM} {Q : State → Prop} {τ : TS} {pc : Nat} {loc : List (Nat × Value)} {st : List Value} {r : Int32} {τ1 : TS} (hf : f_t_look τ = some (r, τ1)) (ho : M.2.2.1 = RX6) (hfr : 1 ≤ M.2.2.2.1) (hlo : 20 ≤ M.2.2.2.2.1) (hcat : (st.map fun v => v.category).sum ≤ 8) (d : decode M.1 pc = .ok (.invokevirtual 312, 3)) (k : xV (wT D m) K M Q τ1 (pc + 3) loc (.int r :: st)) : xV (wT D m) K M Q τ pc loc (.ref m :: st) :=
  xr_callV (As := []) (rest := st) (met_f_t_look K.2.1 hf) (lw_V q2171 q2173 qs70 q186 q2174) hd_f_t_look ho hfr hlo rfl (fun H hR hK => t_recv H hR hK) rfl hcat d k
abbrev mX6_isLetter : xM := (cX6_isLetter, 1, RX6, 0, 0, (some .boolean), "isLetter")
def Jt_isLetter_16 (τ : TS) : Option (Int32 × TS) :=
  some ((0, τ))
theorem ok_Jt_isLetter_16 {D : TD} {m : Nat} {K : xK} {Z : Option Value × TS} {τ : TS} {o_ : (Int32 × TS)} (hf : Jt_isLetter_16 τ = some o_) (kr : ∀ r_ : (Int32 × TS), o_ = r_ → Z = (some (.int r_.1), r_.2)) : xV (wT D m) K mX6_isLetter (xQ (wT D m) K Z) τ 16 [] [] := by
  unfold Jt_isLetter_16 at hf
  refine xr_iconst (pc := 16) dX6_isLetter_16 xci_0 ?_
  rw [kr _ (Option.some.inj hf).symm]
  exact xr_zret (pc := 17) dX6_isLetter_17 rfl xz_0
def f_t_isLetter (x0 : Int32) (τ : TS) : Option (Int32 × TS) :=
  if x0 < 97 then
  Jt_isLetter_16 τ
  else
  if 122 < x0 then
  Jt_isLetter_16 τ
  else
  some ((1, τ))
theorem ok_f_t_isLetter {D : TD} {m : Nat} {K : xK} {Z : Option Value × TS} {x0 : Int32} {τ : TS} {o_ : (Int32 × TS)} (hf : f_t_isLetter x0 τ = some o_) (kr : ∀ r_ : (Int32 × TS), o_ = r_ → Z = (some (.int r_.1), r_.2)) : xV (wT D m) K mX6_isLetter (xQ (wT D m) K Z) τ 0 [(0, .int x0)] [] := by
  unfold f_t_isLetter at hf
  refine xr_iload_n (pc := 0) 0 dX6_isLetter_0 rfl rfl ?_
  refine xr_bipush (pc := 1) dX6_isLetter_1 xcb_97 ?_
  refine xr_icmp_lt (pc := 3) 16 dX6_isLetter_3 (by decide) (fun c_ => ?_) (fun c_ => ?_)
  · have hf := xo_pos c_ hf
    refine xV_sub [] rfl ?_
    exact ok_Jt_isLetter_16 hf kr
  · have hf := xo_neg c_ hf
    refine xr_iload_n (pc := 6) 0 dX6_isLetter_6 rfl rfl ?_
    refine xr_bipush (pc := 7) dX6_isLetter_7 xcb_122 ?_
    refine xr_icmp_gt (pc := 9) 16 dX6_isLetter_9 (by decide) (fun c_ => ?_) (fun c_ => ?_)
    · have hf := xo_pos c_ hf
      refine xV_sub [] rfl ?_
      exact ok_Jt_isLetter_16 hf kr
    · have hf := xo_neg c_ hf
      refine xr_iconst (pc := 12) dX6_isLetter_12 xci_1 ?_
      refine xr_goto (pc := 13) 17 dX6_isLetter_13 (by decide) ?_
      rw [kr _ (Option.some.inj hf).symm]
      exact xr_zret (pc := 17) dX6_isLetter_17 rfl xz_1
theorem met_f_t_isLetter (l : Launch) {D : TD} {m : Nat} {x0 : Int32} {τ : TS} {o_ : (Int32 × TS)} (hf : f_t_isLetter x0 τ = some o_) : xMet (wT D m) l yX6_isLetter (ws_ yX6_isLetter cX6_isLetter 1 (some .boolean)) 0 0 0 0 [.int x0] τ (some (.int o_.1), o_.2) :=
  xMet_of (by decide) (Nat.le_of_ble_eq_true rfl) KT_moved (fun _ _ => trivial) (fun K _ _ _ => ok_f_t_isLetter hf (fun _ h => by rw [h]))
theorem hd_f_t_isLetter : yX6_isLetter.cls ≠ "java/lang/invoke/MethodHandle" ∧ yX6_isLetter.cls ≠ "java/lang/invoke/VarHandle" ∧ (parseMethodDescriptor yX6_isLetter.desc).map (fun d => d.parameters.length) = some 1 := by decide +kernel
theorem call_f_t_isLetter {D : TD} {m : Nat} {K : xK} {M : xM} {Q : State → Prop} {x0 : Int32} {τ : TS} {pc : Nat} {loc : List (Nat × Value)} {st : List Value} {r : Int32} {τ1 : TS} (hf : f_t_isLetter x0 τ = some (r, τ1)) (ho : M.2.2.1 = RX6) (hfr : 1 ≤ M.2.2.2.1) (hlo : 20 ≤ M.2.2.2.2.1) (hcat : (st.map fun v => v.category).sum ≤ 8) (d : decode M.1 pc = .ok (.invokestatic 316, 3)) (k : xV (wT D m) K M Q τ1 (pc + 3) loc (.int r :: st)) : xV (wT D m) K M Q τ pc loc (.int x0 :: st) :=
  xr_callS (As := [.int x0]) (rest := st) (met_f_t_isLetter K.2.1 hf) (lw_S q2175 q2176 q186 q2177) hd_f_t_isLetter ho hfr hlo rfl rfl hcat d k
abbrev mX6_isHere : xM := (cX6_isHere, 4, RX6, 1, 60, (some .boolean), "isHere")
def Bt_isHere_35 (x1 : Nat) (x2 : Int32) (τ : TS) : Option ((Int32 × TS) ⊕ ((Int32 × TS))) :=
  if (tI τ 3) ≤ x2 then
  some (.inr (x2, τ))
  else
  if xin x2 1600 = true then
  xbd (f_t_isLetter (tA τ 0 x2.toNatClampNeg) τ) fun r3 τ3 =>
  if r3 = 0 then
  some (.inr (x2, τ3))
  else
  some (.inl (x2 + 1, τ3))
  else none
theorem ok_Bt_isHere_35 {D : TD} {m : Nat} {K : xK} {Z : Option Value × TS} {x1 : Nat} {x2 : Int32} {τ : TS} {o_ : ((Int32 × TS) ⊕ ((Int32 × TS)))} (hf : Bt_isHere_35 x1 x2 τ = some o_) (kc : ∀ s_ : Int32 × TS, o_ = .inl s_ → xV (wT D m) K mX6_isHere (xQ (wT D m) K Z) s_.2 35 [(0, .ref m), (1, .ref (tAd m x1)), (2, .int s_.1)] []) (ke0 : ∀ e_ : Int32 × TS, o_ = .inr e_ → xV (wT D m) K mX6_isHere (xQ (wT D m) K Z) e_.2 61 [(0, .ref m), (1, .ref (tAd m x1)), (2, .int e_.1)] []) : xV (wT D m) K mX6_isHere (xQ (wT D m) K Z) τ 35 [(0, .ref m), (1, .ref (tAd m x1)), (2, .int x2)] [] := by
  unfold Bt_isHere_35 at hf
  refine xr_iload_n (pc := 35) 2 dX6_isHere_35 rfl rfl ?_
  refine xr_aload_n (pc := 36) 0 dX6_isHere_36 rfl rfl ?_
  refine xt_getI (pc := 37) 3 (by decide) q1749 rfl rfl rfl dX6_isHere_37 ?_
  refine xr_icmp_ge (pc := 40) 61 dX6_isHere_40 (by decide) (fun c_ => ?_) (fun c_ => ?_)
  · have hf := xo_pos c_ hf
    exact ke0 _ (Option.some.inj hf).symm
  · have hf := xo_neg c_ hf
    refine xr_aload_n (pc := 43) 0 dX6_isHere_43 rfl rfl ?_
    refine xt_getA (pc := 44) 0 (by decide) q1746 rfl rfl rfl dX6_isHere_44 ?_
    refine xr_iload_n (pc := 47) 2 dX6_isHere_47 rfl rfl ?_
    obtain ⟨hi_, hf⟩ := xo_if hf
    refine xt_iald (pc := 48) 0 rfl rfl hi_ dX6_isHere_48 ?_
    obtain ⟨r3, τ3, hτ3, hf⟩ := xo_bd hf
    refine call_f_t_isLetter (pc := 49) hτ3 rfl (Nat.le_of_ble_eq_true rfl) (Nat.le_of_ble_eq_true rfl) (Nat.le_of_ble_eq_true rfl) dX6_isHere_49 ?_
    refine xr_if_eq (pc := 52) 61 dX6_isHere_52 (by decide) (fun c_ => ?_) (fun c_ => ?_)
    · have hf := xo_pos c_ hf
      exact ke0 _ (Option.some.inj hf).symm
    · have hf := xo_neg c_ hf
      refine xr_iinc (pc := 55) (loc' := [(2, .int (x2 + 1)), (0, .ref m), (1, .ref (tAd m x1))]) 2 dX6_isHere_55 rfl xci_1 (by decide) rfl ?_
      refine xr_goto (pc := 58) 35 dX6_isHere_58 (by decide) ?_
      refine xV_sub [1, 2, 0] rfl ?_
      exact kc _ (Option.some.inj hf).symm
def Bt_isHere_76 (x1 : Nat) (x3 : Int32) (τ : TS) : Option ((Int32 × TS) ⊕ ((TS) ⊕ ((Int32 × TS)))) :=
  if t_ak x1 = 2 then
  if (Int32.ofNat (t_len x1)) ≤ x3 then
  some (.inr (.inl τ))
  else
  if xin ((tI τ 2) + x3) 1600 = true then
  if t_ak x1 = 2 then
  if xin x3 (t_len x1) = true then
  if (tA τ 0 ((tI τ 2) + x3).toNatClampNeg) = (tA τ x1 x3.toNatClampNeg) then
  some (.inl (x3 + 1, τ))
  else
  some (.inr (.inr (0, τ)))
  else none
  else none
  else none
  else none
theorem ok_Bt_isHere_76 {D : TD} {m : Nat} {K : xK} {Z : Option Value × TS} {x1 : Nat} {x3 : Int32} {τ : TS} {o_ : ((Int32 × TS) ⊕ ((TS) ⊕ ((Int32 × TS))))} (hf : Bt_isHere_76 x1 x3 τ = some o_) (kc : ∀ s_ : Int32 × TS, o_ = .inl s_ → xV (wT D m) K mX6_isHere (xQ (wT D m) K Z) s_.2 76 [(0, .ref m), (1, .ref (tAd m x1)), (3, .int s_.1)] []) (ke0 : ∀ e_ : TS, o_ = .inr (.inl e_) → xV (wT D m) K mX6_isHere (xQ (wT D m) K Z) e_ 107 [] []) (kr : ∀ r_ : (Int32 × TS), o_ = .inr (.inr r_) → Z = (some (.int r_.1), r_.2)) : xV (wT D m) K mX6_isHere (xQ (wT D m) K Z) τ 76 [(0, .ref m), (1, .ref (tAd m x1)), (3, .int x3)] [] := by
  unfold Bt_isHere_76 at hf
  refine xr_iload_n (pc := 76) 2 dX6_isHere_76 rfl rfl ?_
  refine xr_aload_n (pc := 77) 1 dX6_isHere_77 rfl rfl ?_
  obtain ⟨hk_, hf⟩ := xo_if hf
  refine xt_clen (pc := 78) x1 rfl rfl hk_ dX6_isHere_78 ?_
  refine xr_icmp_ge (pc := 79) 107 dX6_isHere_79 (by decide) (fun c_ => ?_) (fun c_ => ?_)
  · have hf := xo_pos c_ hf
    refine xV_sub [] rfl ?_
    exact ke0 _ (Option.some.inj hf).symm
  · have hf := xo_neg c_ hf
    refine xr_aload_n (pc := 82) 0 dX6_isHere_82 rfl rfl ?_
    refine xt_getA (pc := 83) 0 (by decide) q1746 rfl rfl rfl dX6_isHere_83 ?_
    refine xr_aload_n (pc := 86) 0 dX6_isHere_86 rfl rfl ?_
    refine xt_getI (pc := 87) 2 (by decide) q1748 rfl rfl rfl dX6_isHere_87 ?_
    refine xr_iload_n (pc := 90) 2 dX6_isHere_90 rfl rfl ?_
    refine xr_iadd (pc := 91) dX6_isHere_91 ?_
    obtain ⟨hi_, hf⟩ := xo_if hf
    refine xt_iald (pc := 92) 0 rfl rfl hi_ dX6_isHere_92 ?_
    refine xr_aload_n (pc := 93) 1 dX6_isHere_93 rfl rfl ?_
    refine xr_iload_n (pc := 94) 2 dX6_isHere_94 rfl rfl ?_
    obtain ⟨hk_, hf⟩ := xo_if hf
    obtain ⟨hi_, hf⟩ := xo_if hf
    refine xt_cald (pc := 95) x1 rfl hk_ hi_ dX6_isHere_95 ?_
    refine xr_icmp_eq (pc := 96) 101 dX6_isHere_96 (by decide) (fun c_ => ?_) (fun c_ => ?_)
    · have hf := xo_pos c_ hf
      refine xr_iinc (pc := 101) (loc' := [(3, .int (x3 + 1)), (0, .ref m), (1, .ref (tAd m x1))]) 2 dX6_isHere_101 rfl xci_1 (by decide) rfl ?_
      refine xr_goto (pc := 104) 76 dX6_isHere_104 (by decide) ?_
      refine xV_sub [1, 2, 0] rfl ?_
      exact kc _ (Option.some.inj hf).symm
    · have hf := xo_neg c_ hf
      refine xr_iconst (pc := 99) dX6_isHere_99 xci_0 ?_
      rw [kr _ (Option.some.inj hf).symm]
      exact xr_zret (pc := 100) dX6_isHere_100 rfl xz_0
def Jt_isHere_61 (x1 : Nat) (x2 : Int32) (τ : TS) : Option (Int32 × TS) :=
  if t_ak x1 = 2 then
  if (x2 - (tI τ 2)) = (Int32.ofNat (t_len x1)) then
  (itr (fun s_ : Int32 × TS => Bt_isHere_76 x1 s_.1 s_.2) 4096 (0, τ)).bind fun b5 =>
  (Sum.elim (fun e6 => some ((1, e6))) (fun r_ => some r_)) b5
  else
  some ((0, τ))
  else none
theorem ok_Jt_isHere_61 {D : TD} {m : Nat} {K : xK} {Z : Option Value × TS} {x1 : Nat} {x2 : Int32} {τ : TS} {o_ : (Int32 × TS)} (hf : Jt_isHere_61 x1 x2 τ = some o_) (kr : ∀ r_ : (Int32 × TS), o_ = r_ → Z = (some (.int r_.1), r_.2)) : xV (wT D m) K mX6_isHere (xQ (wT D m) K Z) τ 61 [(0, .ref m), (1, .ref (tAd m x1)), (2, .int x2)] [] := by
  unfold Jt_isHere_61 at hf
  refine xr_iload_n (pc := 61) 2 dX6_isHere_61 rfl rfl ?_
  refine xr_aload_n (pc := 62) 0 dX6_isHere_62 rfl rfl ?_
  refine xt_getI (pc := 63) 2 (by decide) q1748 rfl rfl rfl dX6_isHere_63 ?_
  refine xr_isub (pc := 66) dX6_isHere_66 ?_
  refine xr_aload_n (pc := 67) 1 dX6_isHere_67 rfl rfl ?_
  obtain ⟨hk_, hf⟩ := xo_if hf
  refine xt_clen (pc := 68) x1 rfl rfl hk_ dX6_isHere_68 ?_
  refine xr_icmp_eq (pc := 69) 74 dX6_isHere_69 (by decide) (fun c_ => ?_) (fun c_ => ?_)
  · have hf := xo_pos c_ hf
    refine xr_iconst (pc := 74) dX6_isHere_74 xci_0 ?_
    refine xr_istore_n (pc := 75) (loc' := [(3, .int 0), (0, .ref m), (1, .ref (tAd m x1)), (2, .int x2)]) dX6_isHere_75 rfl (by decide) rfl ?_
    refine xV_sub [1, 2, 0] rfl ?_
    obtain ⟨b5, hb5, hf⟩ := xo_bind hf
    refine itr_rule (P := fun s_ : Int32 × TS => xV (wT D m) K mX6_isHere (xQ (wT D m) K Z) s_.2 76 [(0, .ref m), (1, .ref (tAd m x1)), (3, .int s_.1)] []) (fun s_ o_ hB_ hc_ he_ => ok_Bt_isHere_76 hB_ hc_ (fun e6 h_ => ?_) (fun r_ h_ => ?_)) 4096 _ hb5
    · have e9_ := he_ _ h_
      subst e9_
      have hf := xo_inl hf
      refine xr_iconst (pc := 107) dX6_isHere_107 xci_1 ?_
      rw [kr _ (Option.some.inj hf).symm]
      exact xr_zret (pc := 108) dX6_isHere_108 rfl xz_1
    · have e9_ := he_ _ h_
      subst e9_
      have hf := xo_inr hf
      exact kr _ (Option.some.inj hf).symm
  · have hf := xo_neg c_ hf
    refine xr_iconst (pc := 72) dX6_isHere_72 xci_0 ?_
    rw [kr _ (Option.some.inj hf).symm]
    exact xr_zret (pc := 73) dX6_isHere_73 rfl xz_0
def f_t_isHere (x1 : Nat) (τ : TS) : Option (Int32 × TS) :=
  if (tI τ 5) = 0 then
  xbd (f_t_look τ) fun r1 τ1 =>
  xbd (f_t_isLetter r1 τ1) fun r2 τ2 =>
  if r2 = 0 then
  some ((0, τ2))
  else
  if (tI τ2 2) = (tI τ2 4) then
  some ((0, τ2))
  else
  (itr (fun s_ : Int32 × TS => Bt_isHere_35 x1 s_.1 s_.2) 4096 (tI τ2 2, τ2)).bind fun b4 =>
  Jt_isHere_61 x1 b4.1 b4.2
  else
  some ((0, τ))
theorem ok_f_t_isHere {D : TD} {m : Nat} {K : xK} {Z : Option Value × TS} {x1 : Nat} {τ : TS} {o_ : (Int32 × TS)} (hf : f_t_isHere x1 τ = some o_) (kr : ∀ r_ : (Int32 × TS), o_ = r_ → Z = (some (.int r_.1), r_.2)) : xV (wT D m) K mX6_isHere (xQ (wT D m) K Z) τ 0 [(0, .ref m), (1, .ref (tAd m x1))] [] := by
  unfold f_t_isHere at hf
  refine xr_aload_n (pc := 0) 0 dX6_isHere_0 rfl rfl ?_
  refine xt_getI (pc := 1) 5 (by decide) q1751 rfl rfl rfl dX6_isHere_1 ?_
  refine xr_if_ne (pc := 4) 28 dX6_isHere_4 (by decide) (fun c_ => ?_) (fun c_ => ?_)
  · have hf := xo_pos c_ hf
    refine xr_aload_n (pc := 7) 0 dX6_isHere_7 rfl rfl ?_
    obtain ⟨r1, τ1, hτ1, hf⟩ := xo_bd hf
    refine call_f_t_look (pc := 8) hτ1 rfl (Nat.le_of_ble_eq_true rfl) (Nat.le_of_ble_eq_true rfl) (Nat.le_of_ble_eq_true rfl) dX6_isHere_8 ?_
    obtain ⟨r2, τ2, hτ2, hf⟩ := xo_bd hf
    refine call_f_t_isLetter (pc := 11) hτ2 rfl (Nat.le_of_ble_eq_true rfl) (Nat.le_of_ble_eq_true rfl) (Nat.le_of_ble_eq_true rfl) dX6_isHere_11 ?_
    refine xr_if_eq (pc := 14) 28 dX6_isHere_14 (by decide) (fun c_ => ?_) (fun c_ => ?_)
    · have hf := xo_pos c_ hf
      refine xr_iconst (pc := 28) dX6_isHere_28 xci_0 ?_
      rw [kr _ (Option.some.inj hf).symm]
      exact xr_zret (pc := 29) dX6_isHere_29 rfl xz_0
    · have hf := xo_neg c_ hf
      refine xr_aload_n (pc := 17) 0 dX6_isHere_17 rfl rfl ?_
      refine xt_getI (pc := 18) 2 (by decide) q1748 rfl rfl rfl dX6_isHere_18 ?_
      refine xr_aload_n (pc := 21) 0 dX6_isHere_21 rfl rfl ?_
      refine xt_getI (pc := 22) 4 (by decide) q1750 rfl rfl rfl dX6_isHere_22 ?_
      refine xr_icmp_ne (pc := 25) 30 dX6_isHere_25 (by decide) (fun c_ => ?_) (fun c_ => ?_)
      · have hf := xo_pos c_ hf
        refine xr_iconst (pc := 28) dX6_isHere_28 xci_0 ?_
        rw [kr _ (Option.some.inj hf).symm]
        exact xr_zret (pc := 29) dX6_isHere_29 rfl xz_0
      · have hf := xo_neg c_ hf
        refine xr_aload_n (pc := 30) 0 dX6_isHere_30 rfl rfl ?_
        refine xt_getI (pc := 31) 2 (by decide) q1748 rfl rfl rfl dX6_isHere_31 ?_
        refine xr_istore_n (pc := 34) (loc' := [(2, .int (tI τ2 2)), (0, .ref m), (1, .ref (tAd m x1))]) dX6_isHere_34 rfl (by decide) rfl ?_
        refine xV_sub [1, 2, 0] rfl ?_
        obtain ⟨b4, hb4, hf⟩ := xo_bind hf
        refine itr_rule (P := fun s_ : Int32 × TS => xV (wT D m) K mX6_isHere (xQ (wT D m) K Z) s_.2 35 [(0, .ref m), (1, .ref (tAd m x1)), (2, .int s_.1)] []) (fun s_ o_ hB_ hc_ he_ => ok_Bt_isHere_35 hB_ hc_ (fun e_ h_ => ?_)) 4096 _ hb4
        · have e9_ := he_ _ h_
          rw [e9_]
          exact ok_Jt_isHere_61 hf kr
  · have hf := xo_neg c_ hf
    refine xr_iconst (pc := 28) dX6_isHere_28 xci_0 ?_
    rw [kr _ (Option.some.inj hf).symm]
    exact xr_zret (pc := 29) dX6_isHere_29 rfl xz_0
theorem met_f_t_isHere (l : Launch) {D : TD} {m : Nat} {x1 : Nat} {τ : TS} {o_ : (Int32 × TS)} (hf : f_t_isHere x1 τ = some o_) : xMet (wT D m) l yX6_isHere (ws_ yX6_isHere cX6_isHere 4 (some .boolean)) 1 60 0 0 [.ref m, .ref (tAd m x1)] τ (some (.int o_.1), o_.2) :=
  xMet_of (by decide) (Nat.le_of_ble_eq_true rfl) KT_moved (fun _ _ => trivial) (fun K _ _ _ => ok_f_t_isHere hf (fun _ h => by rw [h]))
theorem hd_f_t_isHere : yX6_isHere.cls = RX6 ∧ yX6_isHere.cls ≠ "java/lang/invoke/MethodHandle" ∧ yX6_isHere.cls ≠ "java/lang/invoke/VarHandle" ∧ (parseMethodDescriptor yX6_isHere.desc).map (fun d => d.parameters.length) = some 1 := by decide +kernel
theorem call_f_t_isHere {D : TD} {m : Nat} {K : xK} {M : xM} {Q : State → Prop} {x1 : Nat} {τ : TS} {pc : Nat} {loc : List (Nat × Value)} {st : List Value} {r : Int32} {τ1 : TS} (hf : f_t_isHere x1 τ = some (r, τ1)) (ho : M.2.2.1 = RX6) (hfr : 2 ≤ M.2.2.2.1) (hlo : 83 ≤ M.2.2.2.2.1) (hcat : (st.map fun v => v.category).sum ≤ 8) (d : decode M.1 pc = .ok (.invokevirtual 323, 3)) (k : xV (wT D m) K M Q τ1 (pc + 3) loc (.int r :: st)) : xV (wT D m) K M Q τ pc loc (.ref (tAd m x1) :: .ref m :: st) :=
  xr_callV (As := [.ref (tAd m x1)]) (rest := st) (met_f_t_isHere K.2.1 hf) (lw_V q2167 q2169 qs69 q186 q2170) hd_f_t_isHere ho hfr hlo rfl (fun H hR hK => t_recv H hR hK) rfl hcat d k
abbrev mX6_takes : xM := (cX6_takes, 2, RX6, 2, 120, (some .boolean), "takes")
def f_t_takes (x1 : Nat) (τ : TS) : Option (Int32 × TS) :=
  xbd (f_t_isHere x1 τ) fun r1 τ1 =>
  if r1 = 0 then
  some ((0, τ1))
  else
  if t_ak x1 = 2 then
  some ((1, sI (sI τ1 2 ((tI τ1 2) + (Int32.ofNat (t_len x1)))) 4 (tI (sI τ1 2 ((tI τ1 2) + (Int32.ofNat (t_len x1)))) 2)))
  else none
theorem ok_f_t_takes {D : TD} {m : Nat} {K : xK} {Z : Option Value × TS} {x1 : Nat} {τ : TS} {o_ : (Int32 × TS)} (hf : f_t_takes x1 τ = some o_) (kr : ∀ r_ : (Int32 × TS), o_ = r_ → Z = (some (.int r_.1), r_.2)) : xV (wT D m) K mX6_takes (xQ (wT D m) K Z) τ 0 [(0, .ref m), (1, .ref (tAd m x1))] [] := by
  unfold f_t_takes at hf
  refine xr_aload_n (pc := 0) 0 dX6_takes_0 rfl rfl ?_
  refine xr_aload_n (pc := 1) 1 dX6_takes_1 rfl rfl ?_
  obtain ⟨r1, τ1, hτ1, hf⟩ := xo_bd hf
  refine call_f_t_isHere (pc := 2) hτ1 rfl (Nat.le_of_ble_eq_true rfl) (Nat.le_of_ble_eq_true rfl) (Nat.le_of_ble_eq_true rfl) dX6_takes_2 ?_
  refine xr_if_ne (pc := 5) 10 dX6_takes_5 (by decide) (fun c_ => ?_) (fun c_ => ?_)
  · have hf := xo_pos c_ hf
    refine xr_iconst (pc := 8) dX6_takes_8 xci_0 ?_
    rw [kr _ (Option.some.inj hf).symm]
    exact xr_zret (pc := 9) dX6_takes_9 rfl xz_0
  · have hf := xo_neg c_ hf
    refine xr_aload_n (pc := 10) 0 dX6_takes_10 rfl rfl ?_
    refine xr_dup (pc := 11) dX6_takes_11 rfl ?_
    refine xt_getI (pc := 12) 2 (by decide) q1748 rfl rfl rfl dX6_takes_12 ?_
    refine xr_aload_n (pc := 15) 1 dX6_takes_15 rfl rfl ?_
    obtain ⟨hk_, hf⟩ := xo_if hf
    refine xt_clen (pc := 16) x1 rfl rfl hk_ dX6_takes_16 ?_
    refine xr_iadd (pc := 17) dX6_takes_17 ?_
    refine xt_putI (pc := 18) 2 (by decide) q1748 rfl rfl rfl (by decide +kernel) rfl dX6_takes_18 ?_
    refine xr_aload_n (pc := 21) 0 dX6_takes_21 rfl rfl ?_
    refine xr_aload_n (pc := 22) 0 dX6_takes_22 rfl rfl ?_
    refine xt_getI (pc := 23) 2 (by decide) q1748 rfl rfl rfl dX6_takes_23 ?_
    refine xt_putI (pc := 26) 4 (by decide) q1750 rfl rfl rfl (by decide +kernel) rfl dX6_takes_26 ?_
    refine xr_iconst (pc := 29) dX6_takes_29 xci_1 ?_
    rw [kr _ (Option.some.inj hf).symm]
    exact xr_zret (pc := 30) dX6_takes_30 rfl xz_1
theorem met_f_t_takes (l : Launch) {D : TD} {m : Nat} {x1 : Nat} {τ : TS} {o_ : (Int32 × TS)} (hf : f_t_takes x1 τ = some o_) : xMet (wT D m) l yX6_takes (ws_ yX6_takes cX6_takes 2 (some .boolean)) 2 120 0 0 [.ref m, .ref (tAd m x1)] τ (some (.int o_.1), o_.2) :=
  xMet_of (by decide) (Nat.le_of_ble_eq_true rfl) KT_moved (fun _ _ => trivial) (fun K _ _ _ => ok_f_t_takes hf (fun _ h => by rw [h]))
theorem hd_f_t_takes : yX6_takes.cls = RX6 ∧ yX6_takes.cls ≠ "java/lang/invoke/MethodHandle" ∧ yX6_takes.cls ≠ "java/lang/invoke/VarHandle" ∧ (parseMethodDescriptor yX6_takes.desc).map (fun d => d.parameters.length) = some 1 := by decide +kernel
theorem call_f_t_takes {D : TD} {m : Nat} {K : xK} {M : xM} {Q : State → Prop} {x1 : Nat} {τ : TS} {pc : Nat} {loc : List (Nat × Value)} {st : List Value} {r : Int32} {τ1 : TS} (hf : f_t_takes x1 τ = some (r, τ1)) (ho : M.2.2.1 = RX6) (hfr : 3 ≤ M.2.2.2.1) (hlo : 141 ≤ M.2.2.2.2.1) (hcat : (st.map fun v => v.category).sum ≤ 8) (d : decode M.1 pc = .ok (.invokevirtual 327, 3)) (k : xV (wT D m) K M Q τ1 (pc + 3) loc (.int r :: st)) : xV (wT D m) K M Q τ pc loc (.ref (tAd m x1) :: .ref m :: st) :=
  xr_callV (As := [.ref (tAd m x1)]) (rest := st) (met_f_t_takes K.2.1 hf) (lw_V q2163 q2165 qs68 q186 q2166) hd_f_t_takes ho hfr hlo rfl (fun H hR hK => t_recv H hR hK) rfl hcat d k
abbrev mX6_fail : xM := (cX6_fail, 3, RX6, 0, 0, none, "fail")
def f_t_fail (x1 : Int32) (x2 : Int32) (τ : TS) : Option TS :=
  if (tI τ 5) = 0 then
  some (sI (sI τ 5 x1) 6 x2)
  else
  some (τ)
theorem ok_f_t_fail {D : TD} {m : Nat} {K : xK} {Z : Option Value × TS} {x1 : Int32} {x2 : Int32} {τ : TS} {o_ : TS} (hf : f_t_fail x1 x2 τ = some o_) (kr : ∀ r_ : TS, o_ = r_ → Z = (none, r_)) : xV (wT D m) K mX6_fail (xQ (wT D m) K Z) τ 0 [(0, .ref m), (1, .int x1), (2, .int x2)] [] := by
  unfold f_t_fail at hf
  refine xr_aload_n (pc := 0) 0 dX6_fail_0 rfl rfl ?_
  refine xt_getI (pc := 1) 5 (by decide) q1751 rfl rfl rfl dX6_fail_1 ?_
  refine xr_if_eq (pc := 4) 8 dX6_fail_4 (by decide) (fun c_ => ?_) (fun c_ => ?_)
  · have hf := xo_pos c_ hf
    refine xr_aload_n (pc := 8) 0 dX6_fail_8 rfl rfl ?_
    refine xr_iload_n (pc := 9) 1 dX6_fail_9 rfl rfl ?_
    refine xt_putI (pc := 10) 5 (by decide) q1751 rfl rfl rfl (by decide +kernel) rfl dX6_fail_10 ?_
    refine xr_aload_n (pc := 13) 0 dX6_fail_13 rfl rfl ?_
    refine xr_iload_n (pc := 14) 2 dX6_fail_14 rfl rfl ?_
    refine xt_putI (pc := 15) 6 (by decide) q1752 rfl rfl rfl (by decide +kernel) rfl dX6_fail_15 ?_
    rw [kr _ (Option.some.inj hf).symm]
    exact xr_vret (pc := 18) dX6_fail_18 rfl
  · have hf := xo_neg c_ hf
    rw [kr _ (Option.some.inj hf).symm]
    exact xr_vret (pc := 7) dX6_fail_7 rfl
theorem met_f_t_fail (l : Launch) {D : TD} {m : Nat} {x1 : Int32} {x2 : Int32} {τ : TS} {o_ : TS} (hf : f_t_fail x1 x2 τ = some o_) : xMet (wT D m) l yX6_fail (ws_ yX6_fail cX6_fail 3 none) 0 0 0 0 [.ref m, .int x1, .int x2] τ (none, o_) :=
  xMet_of (by decide) (Nat.le_of_ble_eq_true rfl) KT_moved (fun _ _ => trivial) (fun K _ _ _ => ok_f_t_fail hf (fun _ h => by rw [h]))
theorem hd_f_t_fail : yX6_fail.cls = RX6 ∧ yX6_fail.cls ≠ "java/lang/invoke/MethodHandle" ∧ yX6_fail.cls ≠ "java/lang/invoke/VarHandle" ∧ (parseMethodDescriptor yX6_fail.desc).map (fun d => d.parameters.length) = some 2 := by decide +kernel
theorem call_f_t_fail {D : TD} {m : Nat} {K : xK} {M : xM} {Q : State → Prop} {x1 : Int32} {x2 : Int32} {τ : TS} {pc : Nat} {loc : List (Nat × Value)} {st : List Value} {τ1 : TS} (hf : f_t_fail x1 x2 τ = some τ1) (ho : M.2.2.1 = RX6) (hfr : 1 ≤ M.2.2.2.1) (hlo : 22 ≤ M.2.2.2.2.1) (hcat : (st.map fun v => v.category).sum ≤ 8) (d : decode M.1 pc = .ok (.invokevirtual 330, 3)) (k : xV (wT D m) K M Q τ1 (pc + 3) loc st) : xV (wT D m) K M Q τ pc loc (.int x2 :: .int x1 :: .ref m :: st) :=
  xr_callV (As := [.int x1, .int x2]) (rest := st) (met_f_t_fail K.2.1 hf) (lw_V q2178 q2180 qs71 q186 q2181) hd_f_t_fail ho hfr hlo rfl (fun H hR hK => t_recv H hR hK) rfl hcat d k
abbrev mX6_asks : xM := (cX6_asks, 2, RX6, 3, 180, none, "asks")
def f_t_asks (x1 : Nat) (τ : TS) : Option TS :=
  if (tI τ 5) = 0 then
  xbd (f_t_takes x1 τ) fun r1 τ1 =>
  if r1 = 0 then
  (f_t_fail 1 (tI τ1 2) τ1).bind fun τ2 =>
  some (τ2)
  else
  some (τ1)
  else
  some (τ)
theorem ok_f_t_asks {D : TD} {m : Nat} {K : xK} {Z : Option Value × TS} {x1 : Nat} {τ : TS} {o_ : TS} (hf : f_t_asks x1 τ = some o_) (kr : ∀ r_ : TS, o_ = r_ → Z = (none, r_)) : xV (wT D m) K mX6_asks (xQ (wT D m) K Z) τ 0 [(0, .ref m), (1, .ref (tAd m x1))] [] := by
  unfold f_t_asks at hf
  refine xr_aload_n (pc := 0) 0 dX6_asks_0 rfl rfl ?_
  refine xt_getI (pc := 1) 5 (by decide) q1751 rfl rfl rfl dX6_asks_1 ?_
  refine xr_if_ne (pc := 4) 24 dX6_asks_4 (by decide) (fun c_ => ?_) (fun c_ => ?_)
  · have hf := xo_pos c_ hf
    refine xr_aload_n (pc := 7) 0 dX6_asks_7 rfl rfl ?_
    refine xr_aload_n (pc := 8) 1 dX6_asks_8 rfl rfl ?_
    obtain ⟨r1, τ1, hτ1, hf⟩ := xo_bd hf
    refine call_f_t_takes (pc := 9) hτ1 rfl (Nat.le_of_ble_eq_true rfl) (Nat.le_of_ble_eq_true rfl) (Nat.le_of_ble_eq_true rfl) dX6_asks_9 ?_
    refine xr_if_ne (pc := 12) 24 dX6_asks_12 (by decide) (fun c_ => ?_) (fun c_ => ?_)
    · have hf := xo_pos c_ hf
      refine xr_aload_n (pc := 15) 0 dX6_asks_15 rfl rfl ?_
      refine xr_iconst (pc := 16) dX6_asks_16 xci_1 ?_
      refine xr_aload_n (pc := 17) 0 dX6_asks_17 rfl rfl ?_
      refine xt_getI (pc := 18) 2 (by decide) q1748 rfl rfl rfl dX6_asks_18 ?_
      obtain ⟨τ2, hτ2, hf⟩ := xo_bind hf
      refine call_f_t_fail (pc := 21) hτ2 rfl (Nat.le_of_ble_eq_true rfl) (Nat.le_of_ble_eq_true rfl) (Nat.le_of_ble_eq_true rfl) dX6_asks_21 ?_
      rw [kr _ (Option.some.inj hf).symm]
      exact xr_vret (pc := 24) dX6_asks_24 rfl
    · have hf := xo_neg c_ hf
      rw [kr _ (Option.some.inj hf).symm]
      exact xr_vret (pc := 24) dX6_asks_24 rfl
  · have hf := xo_neg c_ hf
    rw [kr _ (Option.some.inj hf).symm]
    exact xr_vret (pc := 24) dX6_asks_24 rfl
theorem met_f_t_asks (l : Launch) {D : TD} {m : Nat} {x1 : Nat} {τ : TS} {o_ : TS} (hf : f_t_asks x1 τ = some o_) : xMet (wT D m) l yX6_asks (ws_ yX6_asks cX6_asks 2 none) 3 180 0 0 [.ref m, .ref (tAd m x1)] τ (none, o_) :=
  xMet_of (by decide) (Nat.le_of_ble_eq_true rfl) KT_moved (fun _ _ => trivial) (fun K _ _ _ => ok_f_t_asks hf (fun _ h => by rw [h]))
theorem hd_f_t_asks : yX6_asks.cls = RX6 ∧ yX6_asks.cls ≠ "java/lang/invoke/MethodHandle" ∧ yX6_asks.cls ≠ "java/lang/invoke/VarHandle" ∧ (parseMethodDescriptor yX6_asks.desc).map (fun d => d.parameters.length) = some 1 := by decide +kernel
theorem call_f_t_asks {D : TD} {m : Nat} {K : xK} {M : xM} {Q : State → Prop} {x1 : Nat} {τ : TS} {pc : Nat} {loc : List (Nat × Value)} {st : List Value} {τ1 : TS} (hf : f_t_asks x1 τ = some τ1) (ho : M.2.2.1 = RX6) (hfr : 4 ≤ M.2.2.2.1) (hlo : 201 ≤ M.2.2.2.2.1) (hcat : (st.map fun v => v.category).sum ≤ 8) (d : decode M.1 pc = .ok (.invokevirtual 361, 3)) (k : xV (wT D m) K M Q τ1 (pc + 3) loc st) : xV (wT D m) K M Q τ pc loc (.ref (tAd m x1) :: .ref m :: st) :=
  xr_callV (As := [.ref (tAd m x1)]) (rest := st) (met_f_t_asks K.2.1 hf) (lw_V q2159 q2161 qs67 q186 q2162) hd_f_t_asks ho hfr hlo rfl (fun H hR hK => t_recv H hR hK) rfl hcat d k
abbrev mX6_isDigit : xM := (cX6_isDigit, 1, RX6, 0, 0, (some .boolean), "isDigit")
def Jt_isDigit_16 (τ : TS) : Option (Int32 × TS) :=
  some ((0, τ))
theorem ok_Jt_isDigit_16 {D : TD} {m : Nat} {K : xK} {Z : Option Value × TS} {τ : TS} {o_ : (Int32 × TS)} (hf : Jt_isDigit_16 τ = some o_) (kr : ∀ r_ : (Int32 × TS), o_ = r_ → Z = (some (.int r_.1), r_.2)) : xV (wT D m) K mX6_isDigit (xQ (wT D m) K Z) τ 16 [] [] := by
  unfold Jt_isDigit_16 at hf
  refine xr_iconst (pc := 16) dX6_isDigit_16 xci_0 ?_
  rw [kr _ (Option.some.inj hf).symm]
  exact xr_zret (pc := 17) dX6_isDigit_17 rfl xz_0
def f_t_isDigit (x0 : Int32) (τ : TS) : Option (Int32 × TS) :=
  if x0 < 48 then
  Jt_isDigit_16 τ
  else
  if 57 < x0 then
  Jt_isDigit_16 τ
  else
  some ((1, τ))
theorem ok_f_t_isDigit {D : TD} {m : Nat} {K : xK} {Z : Option Value × TS} {x0 : Int32} {τ : TS} {o_ : (Int32 × TS)} (hf : f_t_isDigit x0 τ = some o_) (kr : ∀ r_ : (Int32 × TS), o_ = r_ → Z = (some (.int r_.1), r_.2)) : xV (wT D m) K mX6_isDigit (xQ (wT D m) K Z) τ 0 [(0, .int x0)] [] := by
  unfold f_t_isDigit at hf
  refine xr_iload_n (pc := 0) 0 dX6_isDigit_0 rfl rfl ?_
  refine xr_bipush (pc := 1) dX6_isDigit_1 xcb_48 ?_
  refine xr_icmp_lt (pc := 3) 16 dX6_isDigit_3 (by decide) (fun c_ => ?_) (fun c_ => ?_)
  · have hf := xo_pos c_ hf
    refine xV_sub [] rfl ?_
    exact ok_Jt_isDigit_16 hf kr
  · have hf := xo_neg c_ hf
    refine xr_iload_n (pc := 6) 0 dX6_isDigit_6 rfl rfl ?_
    refine xr_bipush (pc := 7) dX6_isDigit_7 xcb_57 ?_
    refine xr_icmp_gt (pc := 9) 16 dX6_isDigit_9 (by decide) (fun c_ => ?_) (fun c_ => ?_)
    · have hf := xo_pos c_ hf
      refine xV_sub [] rfl ?_
      exact ok_Jt_isDigit_16 hf kr
    · have hf := xo_neg c_ hf
      refine xr_iconst (pc := 12) dX6_isDigit_12 xci_1 ?_
      refine xr_goto (pc := 13) 17 dX6_isDigit_13 (by decide) ?_
      rw [kr _ (Option.some.inj hf).symm]
      exact xr_zret (pc := 17) dX6_isDigit_17 rfl xz_1
theorem met_f_t_isDigit (l : Launch) {D : TD} {m : Nat} {x0 : Int32} {τ : TS} {o_ : (Int32 × TS)} (hf : f_t_isDigit x0 τ = some o_) : xMet (wT D m) l yX6_isDigit (ws_ yX6_isDigit cX6_isDigit 1 (some .boolean)) 0 0 0 0 [.int x0] τ (some (.int o_.1), o_.2) :=
  xMet_of (by decide) (Nat.le_of_ble_eq_true rfl) KT_moved (fun _ _ => trivial) (fun K _ _ _ => ok_f_t_isDigit hf (fun _ h => by rw [h]))
theorem hd_f_t_isDigit : yX6_isDigit.cls ≠ "java/lang/invoke/MethodHandle" ∧ yX6_isDigit.cls ≠ "java/lang/invoke/VarHandle" ∧ (parseMethodDescriptor yX6_isDigit.desc).map (fun d => d.parameters.length) = some 1 := by decide +kernel
theorem call_f_t_isDigit {D : TD} {m : Nat} {K : xK} {M : xM} {Q : State → Prop} {x0 : Int32} {τ : TS} {pc : Nat} {loc : List (Nat × Value)} {st : List Value} {r : Int32} {τ1 : TS} (hf : f_t_isDigit x0 τ = some (r, τ1)) (ho : M.2.2.1 = RX6) (hfr : 1 ≤ M.2.2.2.1) (hlo : 20 ≤ M.2.2.2.2.1) (hcat : (st.map fun v => v.category).sum ≤ 8) (d : decode M.1 pc = .ok (.invokestatic 337, 3)) (k : xV (wT D m) K M Q τ1 (pc + 3) loc (.int r :: st)) : xV (wT D m) K M Q τ pc loc (.int x0 :: st) :=
  xr_callS (As := [.int x0]) (rest := st) (met_f_t_isDigit K.2.1 hf) (lw_S q2186 q2187 q186 q2188) hd_f_t_isDigit ho hfr hlo rfl rfl hcat d k
abbrev mX6_isIn : xM := (cX6_isIn, 6, RX6, 0, 0, (some .boolean), "isIn")
def Jt_isIn_17 (τ : TS) : Option (Int32 × TS) :=
  some ((0, τ))
theorem ok_Jt_isIn_17 {D : TD} {m : Nat} {K : xK} {Z : Option Value × TS} {τ : TS} {o_ : (Int32 × TS)} (hf : Jt_isIn_17 τ = some o_) (kr : ∀ r_ : (Int32 × TS), o_ = r_ → Z = (some (.int r_.1), r_.2)) : xV (wT D m) K mX6_isIn (xQ (wT D m) K Z) τ 17 [] [] := by
  unfold Jt_isIn_17 at hf
  refine xr_iconst (pc := 17) dX6_isIn_17 xci_0 ?_
  rw [kr _ (Option.some.inj hf).symm]
  exact xr_zret (pc := 18) dX6_isIn_18 rfl xz_0
def f_t_isIn (x0 : Int64) (x2 : Int64) (x4 : Int64) (τ : TS) : Option (Int32 × TS) :=
  if (lg_cmp x0 x2) < 0 then
  Jt_isIn_17 τ
  else
  if 0 < (lg_cmp x0 x4) then
  Jt_isIn_17 τ
  else
  some ((1, τ))
theorem ok_f_t_isIn {D : TD} {m : Nat} {K : xK} {Z : Option Value × TS} {x0 : Int64} {x2 : Int64} {x4 : Int64} {τ : TS} {o_ : (Int32 × TS)} (hf : f_t_isIn x0 x2 x4 τ = some o_) (kr : ∀ r_ : (Int32 × TS), o_ = r_ → Z = (some (.int r_.1), r_.2)) : xV (wT D m) K mX6_isIn (xQ (wT D m) K Z) τ 0 [(0, .long x0), (2, .long x2), (4, .long x4)] [] := by
  unfold f_t_isIn at hf
  refine xr_lload_n (pc := 0) 0 dX6_isIn_0 rfl rfl ?_
  refine xr_lload_n (pc := 1) 1 dX6_isIn_1 rfl rfl ?_
  refine xr_lcmp (pc := 2) dX6_isIn_2 ?_
  refine xr_if_lt (pc := 3) 17 dX6_isIn_3 (by decide) (fun c_ => ?_) (fun c_ => ?_)
  · have hf := xo_pos c_ hf
    refine xV_sub [] rfl ?_
    exact ok_Jt_isIn_17 hf kr
  · have hf := xo_neg c_ hf
    refine xr_lload_n (pc := 6) 0 dX6_isIn_6 rfl rfl ?_
    refine xr_lload (pc := 7) 2 dX6_isIn_7 rfl ?_
    refine xr_lcmp (pc := 9) dX6_isIn_9 ?_
    refine xr_if_gt (pc := 10) 17 dX6_isIn_10 (by decide) (fun c_ => ?_) (fun c_ => ?_)
    · have hf := xo_pos c_ hf
      refine xV_sub [] rfl ?_
      exact ok_Jt_isIn_17 hf kr
    · have hf := xo_neg c_ hf
      refine xr_iconst (pc := 13) dX6_isIn_13 xci_1 ?_
      refine xr_goto (pc := 14) 18 dX6_isIn_14 (by decide) ?_
      rw [kr _ (Option.some.inj hf).symm]
      exact xr_zret (pc := 18) dX6_isIn_18 rfl xz_1
theorem met_f_t_isIn (l : Launch) {D : TD} {m : Nat} {x0 : Int64} {x2 : Int64} {x4 : Int64} {τ : TS} {o_ : (Int32 × TS)} (hf : f_t_isIn x0 x2 x4 τ = some o_) : xMet (wT D m) l yX6_isIn (ws_ yX6_isIn cX6_isIn 6 (some .boolean)) 0 0 0 0 [.long x0, .long x2, .long x4] τ (some (.int o_.1), o_.2) :=
  xMet_of (by decide) (Nat.le_of_ble_eq_true rfl) KT_moved (fun _ _ => trivial) (fun K _ _ _ => ok_f_t_isIn hf (fun _ h => by rw [h]))
theorem hd_f_t_isIn : yX6_isIn.cls ≠ "java/lang/invoke/MethodHandle" ∧ yX6_isIn.cls ≠ "java/lang/invoke/VarHandle" ∧ (parseMethodDescriptor yX6_isIn.desc).map (fun d => d.parameters.length) = some 3 := by decide +kernel
theorem call_f_t_isIn {D : TD} {m : Nat} {K : xK} {M : xM} {Q : State → Prop} {x0 : Int64} {x2 : Int64} {x4 : Int64} {τ : TS} {pc : Nat} {loc : List (Nat × Value)} {st : List Value} {r : Int32} {τ1 : TS} (hf : f_t_isIn x0 x2 x4 τ = some (r, τ1)) (ho : M.2.2.1 = RX6) (hfr : 1 ≤ M.2.2.2.1) (hlo : 25 ≤ M.2.2.2.2.1) (hcat : (st.map fun v => v.category).sum ≤ 8) (d : decode M.1 pc = .ok (.invokestatic 343, 3)) (k : xV (wT D m) K M Q τ1 (pc + 3) loc (.int r :: st)) : xV (wT D m) K M Q τ pc loc (.long x4 :: .long x2 :: .long x0 :: st) :=
  xr_callS (As := [.long x0, .long x2, .long x4]) (rest := st) (met_f_t_isIn K.2.1 hf) (lw_S q2189 q2190 q186 q2191) hd_f_t_isIn ho hfr hlo rfl rfl hcat d k
abbrev mX6_number : xM := (cX6_number, 5, RX6, 1, 60, (some .int), "number")
def Jt_number_30 (τ : TS) : Option (Int32 × TS) :=
  (f_t_fail 1 (tI τ 2) τ).bind fun τ3 =>
  some ((0, τ3))
theorem ok_Jt_number_30 {D : TD} {m : Nat} {K : xK} {Z : Option Value × TS} {τ : TS} {o_ : (Int32 × TS)} (hf : Jt_number_30 τ = some o_) (kr : ∀ r_ : (Int32 × TS), o_ = r_ → Z = (some (.int r_.1), r_.2)) : xV (wT D m) K mX6_number (xQ (wT D m) K Z) τ 30 [(0, .ref m)] [] := by
  unfold Jt_number_30 at hf
  refine xr_aload_n (pc := 30) 0 dX6_number_30 rfl rfl ?_
  refine xr_iconst (pc := 31) dX6_number_31 xci_1 ?_
  refine xr_aload_n (pc := 32) 0 dX6_number_32 rfl rfl ?_
  refine xt_getI (pc := 33) 2 (by decide) q1748 rfl rfl rfl dX6_number_33 ?_
  obtain ⟨τ3, hτ3, hf⟩ := xo_bind hf
  refine call_f_t_fail (pc := 36) hτ3 rfl (Nat.le_of_ble_eq_true rfl) (Nat.le_of_ble_eq_true rfl) (Nat.le_of_ble_eq_true rfl) dX6_number_36 ?_
  refine xr_iconst (pc := 39) dX6_number_39 xci_0 ?_
  rw [kr _ (Option.some.inj hf).symm]
  exact xr_iret (pc := 40) dX6_number_40 rfl
def Bt_number_49 (x1 : Int32) (x2 : Int32) (x3 : Int32) (x4 : Int32) (τ : TS) : Option ((Int32 × TS) ⊕ ((Int32 × TS) ⊕ (TS))) :=
  if (tI τ 3) ≤ (tI τ 2) then
  some (.inr (.inl (x4, τ)))
  else
  if xin (tI τ 2) 1600 = true then
  xbd (f_t_isDigit (tA τ 0 (tI τ 2).toNatClampNeg) τ) fun r4 τ4 =>
  if r4 = 0 then
  some (.inr (.inl (x4, τ4)))
  else
  if ((tI τ4 2) - x3) = 4 then
  some (.inr (.inr τ4))
  else
  if xin (tI τ4 2) 1600 = true then
  some (.inl (((10 * x4) + (tA τ4 0 (tI τ4 2).toNatClampNeg)) - 48, sI τ4 2 ((tI τ4 2) + 1)))
  else none
  else none
theorem ok_Bt_number_49 {D : TD} {m : Nat} {K : xK} {Z : Option Value × TS} {x1 : Int32} {x2 : Int32} {x3 : Int32} {x4 : Int32} {τ : TS} {o_ : ((Int32 × TS) ⊕ ((Int32 × TS) ⊕ (TS)))} (hf : Bt_number_49 x1 x2 x3 x4 τ = some o_) (kc : ∀ s_ : Int32 × TS, o_ = .inl s_ → xV (wT D m) K mX6_number (xQ (wT D m) K Z) s_.2 49 [(0, .ref m), (1, .int x1), (2, .int x2), (3, .int x3), (4, .int s_.1)] []) (ke0 : ∀ e_ : Int32 × TS, o_ = .inr (.inl e_) → xV (wT D m) K mX6_number (xQ (wT D m) K Z) e_.2 129 [(0, .ref m), (1, .int x1), (2, .int x2), (3, .int x3), (4, .int e_.1)] []) (ke1 : ∀ e_ : TS, o_ = .inr (.inr e_) → xV (wT D m) K mX6_number (xQ (wT D m) K Z) e_ 85 [(0, .ref m)] []) : xV (wT D m) K mX6_number (xQ (wT D m) K Z) τ 49 [(0, .ref m), (1, .int x1), (2, .int x2), (3, .int x3), (4, .int x4)] [] := by
  unfold Bt_number_49 at hf
  refine xr_aload_n (pc := 49) 0 dX6_number_49 rfl rfl ?_
  refine xt_getI (pc := 50) 2 (by decide) q1748 rfl rfl rfl dX6_number_50 ?_
  refine xr_aload_n (pc := 53) 0 dX6_number_53 rfl rfl ?_
  refine xt_getI (pc := 54) 3 (by decide) q1749 rfl rfl rfl dX6_number_54 ?_
  refine xr_icmp_ge (pc := 57) 129 dX6_number_57 (by decide) (fun c_ => ?_) (fun c_ => ?_)
  · have hf := xo_pos c_ hf
    exact ke0 _ (Option.some.inj hf).symm
  · have hf := xo_neg c_ hf
    refine xr_aload_n (pc := 60) 0 dX6_number_60 rfl rfl ?_
    refine xt_getA (pc := 61) 0 (by decide) q1746 rfl rfl rfl dX6_number_61 ?_
    refine xr_aload_n (pc := 64) 0 dX6_number_64 rfl rfl ?_
    refine xt_getI (pc := 65) 2 (by decide) q1748 rfl rfl rfl dX6_number_65 ?_
    obtain ⟨hi_, hf⟩ := xo_if hf
    refine xt_iald (pc := 68) 0 rfl rfl hi_ dX6_number_68 ?_
    obtain ⟨r4, τ4, hτ4, hf⟩ := xo_bd hf
    refine call_f_t_isDigit (pc := 69) hτ4 rfl (Nat.le_of_ble_eq_true rfl) (Nat.le_of_ble_eq_true rfl) (Nat.le_of_ble_eq_true rfl) dX6_number_69 ?_
    refine xr_if_eq (pc := 72) 129 dX6_number_72 (by decide) (fun c_ => ?_) (fun c_ => ?_)
    · have hf := xo_pos c_ hf
      exact ke0 _ (Option.some.inj hf).symm
    · have hf := xo_neg c_ hf
      refine xr_aload_n (pc := 75) 0 dX6_number_75 rfl rfl ?_
      refine xt_getI (pc := 76) 2 (by decide) q1748 rfl rfl rfl dX6_number_76 ?_
      refine xr_iload_n (pc := 79) 3 dX6_number_79 rfl rfl ?_
      refine xr_isub (pc := 80) dX6_number_80 ?_
      refine xr_iconst (pc := 81) dX6_number_81 xci_4 ?_
      refine xr_icmp_ne (pc := 82) 96 dX6_number_82 (by decide) (fun c_ => ?_) (fun c_ => ?_)
      · have hf := xo_pos c_ hf
        refine xV_sub [0] rfl ?_
        exact ke1 _ (Option.some.inj hf).symm
      · have hf := xo_neg c_ hf
        refine xr_bipush (pc := 96) dX6_number_96 xcb_10 ?_
        refine xr_iload (pc := 98) 4 dX6_number_98 rfl ?_
        refine xr_imul (pc := 100) dX6_number_100 ?_
        refine xr_aload_n (pc := 101) 0 dX6_number_101 rfl rfl ?_
        refine xt_getA (pc := 102) 0 (by decide) q1746 rfl rfl rfl dX6_number_102 ?_
        refine xr_aload_n (pc := 105) 0 dX6_number_105 rfl rfl ?_
        refine xt_getI (pc := 106) 2 (by decide) q1748 rfl rfl rfl dX6_number_106 ?_
        obtain ⟨hi_, hf⟩ := xo_if hf
        refine xt_iald (pc := 109) 0 rfl rfl hi_ dX6_number_109 ?_
        refine xr_iadd (pc := 110) dX6_number_110 ?_
        refine xr_bipush (pc := 111) dX6_number_111 xcb_48 ?_
        refine xr_isub (pc := 113) dX6_number_113 ?_
        refine xr_istore (pc := 114) (loc' := [(4, .int (((10 * x4) + (tA τ4 0 (tI τ4 2).toNatClampNeg)) - 48)), (0, .ref m), (1, .int x1), (2, .int x2), (3, .int x3)]) dX6_number_114 (by decide) rfl ?_
        refine xr_aload_n (pc := 116) 1 dX6_number_116 rfl rfl ?_
        refine xr_dup (pc := 117) dX6_number_117 rfl ?_
        refine xt_getI (pc := 118) 2 (by decide) q1748 rfl rfl rfl dX6_number_118 ?_
        refine xr_iconst (pc := 121) dX6_number_121 xci_1 ?_
        refine xr_iadd (pc := 122) dX6_number_122 ?_
        refine xt_putI (pc := 123) 2 (by decide) q1748 rfl rfl rfl (by decide +kernel) rfl dX6_number_123 ?_
        refine xr_goto (pc := 126) 49 dX6_number_126 (by decide) ?_
        refine xV_sub [1, 2, 3, 4, 0] rfl ?_
        exact kc _ (Option.some.inj hf).symm
def Jt_number_129 (x1 : Int32) (x2 : Int32) (x3 : Int32) (x4 : Int32) (τ : TS) : Option (Int32 × TS) :=
  xbd (f_t_isIn x4.toInt64 x1.toInt64 x2.toInt64 (sI (sI τ 4 (tI τ 2)) 10 x3)) fun r8 τ8 =>
  if r8 = 0 then
  (f_t_fail 2 x3 τ8).bind fun τ9 =>
  some ((x4, τ9))
  else
  some ((x4, τ8))
theorem ok_Jt_number_129 {D : TD} {m : Nat} {K : xK} {Z : Option Value × TS} {x1 : Int32} {x2 : Int32} {x3 : Int32} {x4 : Int32} {τ : TS} {o_ : (Int32 × TS)} (hf : Jt_number_129 x1 x2 x3 x4 τ = some o_) (kr : ∀ r_ : (Int32 × TS), o_ = r_ → Z = (some (.int r_.1), r_.2)) : xV (wT D m) K mX6_number (xQ (wT D m) K Z) τ 129 [(0, .ref m), (1, .int x1), (2, .int x2), (3, .int x3), (4, .int x4)] [] := by
  unfold Jt_number_129 at hf
  refine xr_aload_n (pc := 129) 0 dX6_number_129 rfl rfl ?_
  refine xr_aload_n (pc := 130) 0 dX6_number_130 rfl rfl ?_
  refine xt_getI (pc := 131) 2 (by decide) q1748 rfl rfl rfl dX6_number_131 ?_
  refine xt_putI (pc := 134) 4 (by decide) q1750 rfl rfl rfl (by decide +kernel) rfl dX6_number_134 ?_
  refine xr_aload_n (pc := 137) 0 dX6_number_137 rfl rfl ?_
  refine xr_iload_n (pc := 138) 3 dX6_number_138 rfl rfl ?_
  refine xt_putI (pc := 139) 10 (by decide) q1756 rfl rfl rfl (by decide +kernel) rfl dX6_number_139 ?_
  refine xr_iload (pc := 142) 4 dX6_number_142 rfl ?_
  refine xr_i2l (pc := 144) dX6_number_144 ?_
  refine xr_iload_n (pc := 145) 1 dX6_number_145 rfl rfl ?_
  refine xr_i2l (pc := 146) dX6_number_146 ?_
  refine xr_iload_n (pc := 147) 2 dX6_number_147 rfl rfl ?_
  refine xr_i2l (pc := 148) dX6_number_148 ?_
  obtain ⟨r8, τ8, hτ8, hf⟩ := xo_bd hf
  refine call_f_t_isIn (pc := 149) hτ8 rfl (Nat.le_of_ble_eq_true rfl) (Nat.le_of_ble_eq_true rfl) (Nat.le_of_ble_eq_true rfl) dX6_number_149 ?_
  refine xr_if_ne (pc := 152) 161 dX6_number_152 (by decide) (fun c_ => ?_) (fun c_ => ?_)
  · have hf := xo_pos c_ hf
    refine xr_aload_n (pc := 155) 0 dX6_number_155 rfl rfl ?_
    refine xr_iconst (pc := 156) dX6_number_156 xci_2 ?_
    refine xr_iload_n (pc := 157) 3 dX6_number_157 rfl rfl ?_
    obtain ⟨τ9, hτ9, hf⟩ := xo_bind hf
    refine call_f_t_fail (pc := 158) hτ9 rfl (Nat.le_of_ble_eq_true rfl) (Nat.le_of_ble_eq_true rfl) (Nat.le_of_ble_eq_true rfl) dX6_number_158 ?_
    refine xr_iload (pc := 161) 4 dX6_number_161 rfl ?_
    rw [kr _ (Option.some.inj hf).symm]
    exact xr_iret (pc := 163) dX6_number_163 rfl
  · have hf := xo_neg c_ hf
    refine xr_iload (pc := 161) 4 dX6_number_161 rfl ?_
    rw [kr _ (Option.some.inj hf).symm]
    exact xr_iret (pc := 163) dX6_number_163 rfl
def f_t_number (x1 : Int32) (x2 : Int32) (τ : TS) : Option (Int32 × TS) :=
  if (tI τ 5) = 0 then
  xbd (f_t_look τ) fun r1 τ1 =>
  xbd (f_t_isDigit r1 τ1) fun r2 τ2 =>
  if r2 = 0 then
  Jt_number_30 τ2
  else
  if (tI τ2 2) = (tI τ2 4) then
  Jt_number_30 τ2
  else
  (itr (fun s_ : Int32 × TS => Bt_number_49 x1 x2 (tI τ2 2) s_.1 s_.2) 4096 (0, τ2)).bind fun b5 =>
  (Sum.elim (fun e6 => Jt_number_129 x1 x2 (tI τ2 2) e6.1 e6.2) (fun e7 => (f_t_fail 1 (tI e7 2) e7).bind fun τ10 =>
  some ((0, τ10)))) b5
  else
  some ((0, τ))
theorem ok_f_t_number {D : TD} {m : Nat} {K : xK} {Z : Option Value × TS} {x1 : Int32} {x2 : Int32} {τ : TS} {o_ : (Int32 × TS)} (hf : f_t_number x1 x2 τ = some o_) (kr : ∀ r_ : (Int32 × TS), o_ = r_ → Z = (some (.int r_.1), r_.2)) : xV (wT D m) K mX6_number (xQ (wT D m) K Z) τ 0 [(0, .ref m), (1, .int x1), (2, .int x2)] [] := by
  unfold f_t_number at hf
  refine xr_aload_n (pc := 0) 0 dX6_number_0 rfl rfl ?_
  refine xt_getI (pc := 1) 5 (by decide) q1751 rfl rfl rfl dX6_number_1 ?_
  refine xr_if_eq (pc := 4) 9 dX6_number_4 (by decide) (fun c_ => ?_) (fun c_ => ?_)
  · have hf := xo_pos c_ hf
    refine xr_aload_n (pc := 9) 0 dX6_number_9 rfl rfl ?_
    obtain ⟨r1, τ1, hτ1, hf⟩ := xo_bd hf
    refine call_f_t_look (pc := 10) hτ1 rfl (Nat.le_of_ble_eq_true rfl) (Nat.le_of_ble_eq_true rfl) (Nat.le_of_ble_eq_true rfl) dX6_number_10 ?_
    obtain ⟨r2, τ2, hτ2, hf⟩ := xo_bd hf
    refine call_f_t_isDigit (pc := 13) hτ2 rfl (Nat.le_of_ble_eq_true rfl) (Nat.le_of_ble_eq_true rfl) (Nat.le_of_ble_eq_true rfl) dX6_number_13 ?_
    refine xr_if_eq (pc := 16) 30 dX6_number_16 (by decide) (fun c_ => ?_) (fun c_ => ?_)
    · have hf := xo_pos c_ hf
      refine xV_sub [0] rfl ?_
      exact ok_Jt_number_30 hf kr
    · have hf := xo_neg c_ hf
      refine xr_aload_n (pc := 19) 0 dX6_number_19 rfl rfl ?_
      refine xt_getI (pc := 20) 2 (by decide) q1748 rfl rfl rfl dX6_number_20 ?_
      refine xr_aload_n (pc := 23) 0 dX6_number_23 rfl rfl ?_
      refine xt_getI (pc := 24) 4 (by decide) q1750 rfl rfl rfl dX6_number_24 ?_
      refine xr_icmp_ne (pc := 27) 41 dX6_number_27 (by decide) (fun c_ => ?_) (fun c_ => ?_)
      · have hf := xo_pos c_ hf
        refine xV_sub [0] rfl ?_
        exact ok_Jt_number_30 hf kr
      · have hf := xo_neg c_ hf
        refine xr_aload_n (pc := 41) 0 dX6_number_41 rfl rfl ?_
        refine xt_getI (pc := 42) 2 (by decide) q1748 rfl rfl rfl dX6_number_42 ?_
        refine xr_istore_n (pc := 45) (loc' := [(3, .int (tI τ2 2)), (0, .ref m), (1, .int x1), (2, .int x2)]) dX6_number_45 rfl (by decide) rfl ?_
        refine xr_iconst (pc := 46) dX6_number_46 xci_0 ?_
        refine xr_istore (pc := 47) (loc' := [(4, .int 0), (3, .int (tI τ2 2)), (0, .ref m), (1, .int x1), (2, .int x2)]) dX6_number_47 (by decide) rfl ?_
        refine xV_sub [2, 3, 4, 1, 0] rfl ?_
        obtain ⟨b5, hb5, hf⟩ := xo_bind hf
        refine itr_rule (P := fun s_ : Int32 × TS => xV (wT D m) K mX6_number (xQ (wT D m) K Z) s_.2 49 [(0, .ref m), (1, .int x1), (2, .int x2), (3, .int (tI τ2 2)), (4, .int s_.1)] []) (fun s_ o_ hB_ hc_ he_ => ok_Bt_number_49 hB_ hc_ (fun e6 h_ => ?_) (fun e7 h_ => ?_)) 4096 _ hb5
        · have e9_ := he_ _ h_
          subst e9_
          have hf := xo_inl hf
          exact ok_Jt_number_129 hf kr
        · have e9_ := he_ _ h_
          subst e9_
          have hf := xo_inr hf
          refine xr_aload_n (pc := 85) 0 dX6_number_85 rfl rfl ?_
          refine xr_iconst (pc := 86) dX6_number_86 xci_1 ?_
          refine xr_aload_n (pc := 87) 0 dX6_number_87 rfl rfl ?_
          refine xt_getI (pc := 88) 2 (by decide) q1748 rfl rfl rfl dX6_number_88 ?_
          obtain ⟨τ10, hτ10, hf⟩ := xo_bind hf
          refine call_f_t_fail (pc := 91) hτ10 rfl (Nat.le_of_ble_eq_true rfl) (Nat.le_of_ble_eq_true rfl) (Nat.le_of_ble_eq_true rfl) dX6_number_91 ?_
          refine xr_iconst (pc := 94) dX6_number_94 xci_0 ?_
          rw [kr _ (Option.some.inj hf).symm]
          exact xr_iret (pc := 95) dX6_number_95 rfl
  · have hf := xo_neg c_ hf
    refine xr_iconst (pc := 7) dX6_number_7 xci_0 ?_
    rw [kr _ (Option.some.inj hf).symm]
    exact xr_iret (pc := 8) dX6_number_8 rfl
theorem met_f_t_number (l : Launch) {D : TD} {m : Nat} {x1 : Int32} {x2 : Int32} {τ : TS} {o_ : (Int32 × TS)} (hf : f_t_number x1 x2 τ = some o_) : xMet (wT D m) l yX6_number (ws_ yX6_number cX6_number 5 (some .int)) 1 60 0 0 [.ref m, .int x1, .int x2] τ (some (.int o_.1), o_.2) :=
  xMet_of (by decide) (Nat.le_of_ble_eq_true rfl) KT_moved (fun _ _ => trivial) (fun K _ _ _ => ok_f_t_number hf (fun _ h => by rw [h]))
theorem hd_f_t_number : yX6_number.cls = RX6 ∧ yX6_number.cls ≠ "java/lang/invoke/MethodHandle" ∧ yX6_number.cls ≠ "java/lang/invoke/VarHandle" ∧ (parseMethodDescriptor yX6_number.desc).map (fun d => d.parameters.length) = some 2 := by decide +kernel
theorem call_f_t_number {D : TD} {m : Nat} {K : xK} {M : xM} {Q : State → Prop} {x1 : Int32} {x2 : Int32} {τ : TS} {pc : Nat} {loc : List (Nat × Value)} {st : List Value} {r : Int32} {τ1 : TS} (hf : f_t_number x1 x2 τ = some (r, τ1)) (ho : M.2.2.1 = RX6) (hfr : 2 ≤ M.2.2.2.1) (hlo : 84 ≤ M.2.2.2.2.1) (hcat : (st.map fun v => v.category).sum ≤ 8) (d : decode M.1 pc = .ok (.invokevirtual 365, 3)) (k : xV (wT D m) K M Q τ1 (pc + 3) loc (.int r :: st)) : xV (wT D m) K M Q τ pc loc (.int x2 :: .int x1 :: .ref m :: st) :=
  xr_callV (As := [.int x1, .int x2]) (rest := st) (met_f_t_number K.2.1 hf) (lw_V q2182 q2184 qs72 q186 q2185) hd_f_t_number ho hfr hlo rfl (fun H hR hK => t_recv H hR hK) rfl hcat d k
abbrev mX6_takesSign : xM := (cX6_takesSign, 2, RX6, 1, 60, (some .boolean), "takesSign")
def f_t_takesSign (x1 : Int32) (τ : TS) : Option (Int32 × TS) :=
  if (tI τ 5) = 0 then
  xbd (f_t_look τ) fun r1 τ1 =>
  if r1 = x1 then
  some ((1, sI τ1 2 ((tI τ1 2) + 1)))
  else
  some ((0, τ1))
  else
  some ((0, τ))
theorem ok_f_t_takesSign {D : TD} {m : Nat} {K : xK} {Z : Option Value × TS} {x1 : Int32} {τ : TS} {o_ : (Int32 × TS)} (hf : f_t_takesSign x1 τ = some o_) (kr : ∀ r_ : (Int32 × TS), o_ = r_ → Z = (some (.int r_.1), r_.2)) : xV (wT D m) K mX6_takesSign (xQ (wT D m) K Z) τ 0 [(0, .ref m), (1, .int x1)] [] := by
  unfold f_t_takesSign at hf
  refine xr_aload_n (pc := 0) 0 dX6_takesSign_0 rfl rfl ?_
  refine xt_getI (pc := 1) 5 (by decide) q1751 rfl rfl rfl dX6_takesSign_1 ?_
  refine xr_if_ne (pc := 4) 15 dX6_takesSign_4 (by decide) (fun c_ => ?_) (fun c_ => ?_)
  · have hf := xo_pos c_ hf
    refine xr_aload_n (pc := 7) 0 dX6_takesSign_7 rfl rfl ?_
    obtain ⟨r1, τ1, hτ1, hf⟩ := xo_bd hf
    refine call_f_t_look (pc := 8) hτ1 rfl (Nat.le_of_ble_eq_true rfl) (Nat.le_of_ble_eq_true rfl) (Nat.le_of_ble_eq_true rfl) dX6_takesSign_8 ?_
    refine xr_iload_n (pc := 11) 1 dX6_takesSign_11 rfl rfl ?_
    refine xr_icmp_eq (pc := 12) 17 dX6_takesSign_12 (by decide) (fun c_ => ?_) (fun c_ => ?_)
    · have hf := xo_pos c_ hf
      refine xr_aload_n (pc := 17) 0 dX6_takesSign_17 rfl rfl ?_
      refine xr_dup (pc := 18) dX6_takesSign_18 rfl ?_
      refine xt_getI (pc := 19) 2 (by decide) q1748 rfl rfl rfl dX6_takesSign_19 ?_
      refine xr_iconst (pc := 22) dX6_takesSign_22 xci_1 ?_
      refine xr_iadd (pc := 23) dX6_takesSign_23 ?_
      refine xt_putI (pc := 24) 2 (by decide) q1748 rfl rfl rfl (by decide +kernel) rfl dX6_takesSign_24 ?_
      refine xr_iconst (pc := 27) dX6_takesSign_27 xci_1 ?_
      rw [kr _ (Option.some.inj hf).symm]
      exact xr_zret (pc := 28) dX6_takesSign_28 rfl xz_1
    · have hf := xo_neg c_ hf
      refine xr_iconst (pc := 15) dX6_takesSign_15 xci_0 ?_
      rw [kr _ (Option.some.inj hf).symm]
      exact xr_zret (pc := 16) dX6_takesSign_16 rfl xz_0
  · have hf := xo_neg c_ hf
    refine xr_iconst (pc := 15) dX6_takesSign_15 xci_0 ?_
    rw [kr _ (Option.some.inj hf).symm]
    exact xr_zret (pc := 16) dX6_takesSign_16 rfl xz_0
theorem met_f_t_takesSign (l : Launch) {D : TD} {m : Nat} {x1 : Int32} {τ : TS} {o_ : (Int32 × TS)} (hf : f_t_takesSign x1 τ = some o_) : xMet (wT D m) l yX6_takesSign (ws_ yX6_takesSign cX6_takesSign 2 (some .boolean)) 1 60 0 0 [.ref m, .int x1] τ (some (.int o_.1), o_.2) :=
  xMet_of (by decide) (Nat.le_of_ble_eq_true rfl) KT_moved (fun _ _ => trivial) (fun K _ _ _ => ok_f_t_takesSign hf (fun _ h => by rw [h]))
theorem hd_f_t_takesSign : yX6_takesSign.cls = RX6 ∧ yX6_takesSign.cls ≠ "java/lang/invoke/MethodHandle" ∧ yX6_takesSign.cls ≠ "java/lang/invoke/VarHandle" ∧ (parseMethodDescriptor yX6_takesSign.desc).map (fun d => d.parameters.length) = some 1 := by decide +kernel
theorem call_f_t_takesSign {D : TD} {m : Nat} {K : xK} {M : xM} {Q : State → Prop} {x1 : Int32} {τ : TS} {pc : Nat} {loc : List (Nat × Value)} {st : List Value} {r : Int32} {τ1 : TS} (hf : f_t_takesSign x1 τ = some (r, τ1)) (ho : M.2.2.1 = RX6) (hfr : 2 ≤ M.2.2.2.1) (hlo : 81 ≤ M.2.2.2.2.1) (hcat : (st.map fun v => v.category).sum ≤ 8) (d : decode M.1 pc = .ok (.invokevirtual 334, 3)) (k : xV (wT D m) K M Q τ1 (pc + 3) loc (.int r :: st)) : xV (wT D m) K M Q τ pc loc (.int x1 :: .ref m :: st) :=
  xr_callV (As := [.int x1]) (rest := st) (met_f_t_takesSign K.2.1 hf) (lw_V q2196 q2198 qs74 q186 q2199) hd_f_t_takesSign ho hfr hlo rfl (fun H hR hK => t_recv H hR hK) rfl hcat d k
abbrev mX6_asksSign : xM := (cX6_asksSign, 2, RX6, 2, 120, none, "asksSign")
def f_t_asksSign (x1 : Int32) (τ : TS) : Option TS :=
  if (tI τ 5) = 0 then
  xbd (f_t_takesSign x1 τ) fun r1 τ1 =>
  if r1 = 0 then
  (f_t_fail 1 (tI τ1 2) τ1).bind fun τ2 =>
  some (τ2)
  else
  some (τ1)
  else
  some (τ)
theorem ok_f_t_asksSign {D : TD} {m : Nat} {K : xK} {Z : Option Value × TS} {x1 : Int32} {τ : TS} {o_ : TS} (hf : f_t_asksSign x1 τ = some o_) (kr : ∀ r_ : TS, o_ = r_ → Z = (none, r_)) : xV (wT D m) K mX6_asksSign (xQ (wT D m) K Z) τ 0 [(0, .ref m), (1, .int x1)] [] := by
  unfold f_t_asksSign at hf
  refine xr_aload_n (pc := 0) 0 dX6_asksSign_0 rfl rfl ?_
  refine xt_getI (pc := 1) 5 (by decide) q1751 rfl rfl rfl dX6_asksSign_1 ?_
  refine xr_if_ne (pc := 4) 24 dX6_asksSign_4 (by decide) (fun c_ => ?_) (fun c_ => ?_)
  · have hf := xo_pos c_ hf
    refine xr_aload_n (pc := 7) 0 dX6_asksSign_7 rfl rfl ?_
    refine xr_iload_n (pc := 8) 1 dX6_asksSign_8 rfl rfl ?_
    obtain ⟨r1, τ1, hτ1, hf⟩ := xo_bd hf
    refine call_f_t_takesSign (pc := 9) hτ1 rfl (Nat.le_of_ble_eq_true rfl) (Nat.le_of_ble_eq_true rfl) (Nat.le_of_ble_eq_true rfl) dX6_asksSign_9 ?_
    refine xr_if_ne (pc := 12) 24 dX6_asksSign_12 (by decide) (fun c_ => ?_) (fun c_ => ?_)
    · have hf := xo_pos c_ hf
      refine xr_aload_n (pc := 15) 0 dX6_asksSign_15 rfl rfl ?_
      refine xr_iconst (pc := 16) dX6_asksSign_16 xci_1 ?_
      refine xr_aload_n (pc := 17) 0 dX6_asksSign_17 rfl rfl ?_
      refine xt_getI (pc := 18) 2 (by decide) q1748 rfl rfl rfl dX6_asksSign_18 ?_
      obtain ⟨τ2, hτ2, hf⟩ := xo_bind hf
      refine call_f_t_fail (pc := 21) hτ2 rfl (Nat.le_of_ble_eq_true rfl) (Nat.le_of_ble_eq_true rfl) (Nat.le_of_ble_eq_true rfl) dX6_asksSign_21 ?_
      rw [kr _ (Option.some.inj hf).symm]
      exact xr_vret (pc := 24) dX6_asksSign_24 rfl
    · have hf := xo_neg c_ hf
      rw [kr _ (Option.some.inj hf).symm]
      exact xr_vret (pc := 24) dX6_asksSign_24 rfl
  · have hf := xo_neg c_ hf
    rw [kr _ (Option.some.inj hf).symm]
    exact xr_vret (pc := 24) dX6_asksSign_24 rfl
theorem met_f_t_asksSign (l : Launch) {D : TD} {m : Nat} {x1 : Int32} {τ : TS} {o_ : TS} (hf : f_t_asksSign x1 τ = some o_) : xMet (wT D m) l yX6_asksSign (ws_ yX6_asksSign cX6_asksSign 2 none) 2 120 0 0 [.ref m, .int x1] τ (none, o_) :=
  xMet_of (by decide) (Nat.le_of_ble_eq_true rfl) KT_moved (fun _ _ => trivial) (fun K _ _ _ => ok_f_t_asksSign hf (fun _ h => by rw [h]))
theorem hd_f_t_asksSign : yX6_asksSign.cls = RX6 ∧ yX6_asksSign.cls ≠ "java/lang/invoke/MethodHandle" ∧ yX6_asksSign.cls ≠ "java/lang/invoke/VarHandle" ∧ (parseMethodDescriptor yX6_asksSign.desc).map (fun d => d.parameters.length) = some 1 := by decide +kernel
theorem call_f_t_asksSign {D : TD} {m : Nat} {K : xK} {M : xM} {Q : State → Prop} {x1 : Int32} {τ : TS} {pc : Nat} {loc : List (Nat × Value)} {st : List Value} {τ1 : TS} (hf : f_t_asksSign x1 τ = some τ1) (ho : M.2.2.1 = RX6) (hfr : 3 ≤ M.2.2.2.1) (hlo : 141 ≤ M.2.2.2.2.1) (hcat : (st.map fun v => v.category).sum ≤ 8) (d : decode M.1 pc = .ok (.invokevirtual 369, 3)) (k : xV (wT D m) K M Q τ1 (pc + 3) loc st) : xV (wT D m) K M Q τ pc loc (.int x1 :: .ref m :: st) :=
  xr_callV (As := [.int x1]) (rest := st) (met_f_t_asksSign K.2.1 hf) (lw_V q2192 q2194 qs73 q186 q2195) hd_f_t_asksSign ho hfr hlo rfl (fun H hR hK => t_recv H hR hK) rfl hcat d k
abbrev mX6_valleyTold : xM := (cX6_valleyTold, 1, RX6, 4, 240, none, "valleyTold")
def f_t_valleyTold (τ : TS) : Option TS :=
  (f_t_asks 11 τ).bind fun τ1 =>
  xbd (f_t_number 3 10 τ1) fun r2 τ2 =>
  if xin 0 6 = true then
  (f_t_asks 12 (sA τ2 45 (0 : Int32).toNatClampNeg r2)).bind fun τ3 =>
  xbd (f_t_number 2 8 τ3) fun r4 τ4 =>
  if xin 1 6 = true then
  (f_t_asks 13 (sA τ4 45 (1 : Int32).toNatClampNeg r4)).bind fun τ5 =>
  xbd (f_t_number 1 7 τ5) fun r6 τ6 =>
  if xin 2 6 = true then
  (f_t_asksSign 59 (sA τ6 45 (2 : Int32).toNatClampNeg r6)).bind fun τ7 =>
  some (τ7)
  else none
  else none
  else none
theorem ok_f_t_valleyTold {D : TD} {m : Nat} {K : xK} {Z : Option Value × TS} {τ : TS} {o_ : TS} (hf : f_t_valleyTold τ = some o_) (kr : ∀ r_ : TS, o_ = r_ → Z = (none, r_)) : xV (wT D m) K mX6_valleyTold (xQ (wT D m) K Z) τ 0 [(0, .ref m)] [] := by
  unfold f_t_valleyTold at hf
  refine xr_aload_n (pc := 0) 0 dX6_valleyTold_0 rfl rfl ?_
  refine xr_aload_n (pc := 1) 0 dX6_valleyTold_1 rfl rfl ?_
  refine xt_getA (pc := 2) 11 (by decide) q1757 rfl rfl rfl dX6_valleyTold_2 ?_
  obtain ⟨τ1, hτ1, hf⟩ := xo_bind hf
  refine call_f_t_asks (pc := 5) hτ1 rfl (Nat.le_of_ble_eq_true rfl) (Nat.le_of_ble_eq_true rfl) (Nat.le_of_ble_eq_true rfl) dX6_valleyTold_5 ?_
  refine xr_aload_n (pc := 8) 0 dX6_valleyTold_8 rfl rfl ?_
  refine xt_getA (pc := 9) 45 (by decide) q1791 rfl rfl rfl dX6_valleyTold_9 ?_
  refine xr_iconst (pc := 12) dX6_valleyTold_12 xci_0 ?_
  refine xr_aload_n (pc := 13) 0 dX6_valleyTold_13 rfl rfl ?_
  refine xr_iconst (pc := 14) dX6_valleyTold_14 xci_3 ?_
  refine xr_bipush (pc := 15) dX6_valleyTold_15 xcb_10 ?_
  obtain ⟨r2, τ2, hτ2, hf⟩ := xo_bd hf
  refine call_f_t_number (pc := 17) hτ2 rfl (Nat.le_of_ble_eq_true rfl) (Nat.le_of_ble_eq_true rfl) (Nat.le_of_ble_eq_true rfl) dX6_valleyTold_17 ?_
  obtain ⟨hi_, hf⟩ := xo_if hf
  refine xt_iast (pc := 20) 45 rfl rfl hi_ dX6_valleyTold_20 ?_
  refine xr_aload_n (pc := 21) 0 dX6_valleyTold_21 rfl rfl ?_
  refine xr_aload_n (pc := 22) 0 dX6_valleyTold_22 rfl rfl ?_
  refine xt_getA (pc := 23) 12 (by decide) q1758 rfl rfl rfl dX6_valleyTold_23 ?_
  obtain ⟨τ3, hτ3, hf⟩ := xo_bind hf
  refine call_f_t_asks (pc := 26) hτ3 rfl (Nat.le_of_ble_eq_true rfl) (Nat.le_of_ble_eq_true rfl) (Nat.le_of_ble_eq_true rfl) dX6_valleyTold_26 ?_
  refine xr_aload_n (pc := 29) 0 dX6_valleyTold_29 rfl rfl ?_
  refine xt_getA (pc := 30) 45 (by decide) q1791 rfl rfl rfl dX6_valleyTold_30 ?_
  refine xr_iconst (pc := 33) dX6_valleyTold_33 xci_1 ?_
  refine xr_aload_n (pc := 34) 0 dX6_valleyTold_34 rfl rfl ?_
  refine xr_iconst (pc := 35) dX6_valleyTold_35 xci_2 ?_
  refine xr_bipush (pc := 36) dX6_valleyTold_36 xcb_8 ?_
  obtain ⟨r4, τ4, hτ4, hf⟩ := xo_bd hf
  refine call_f_t_number (pc := 38) hτ4 rfl (Nat.le_of_ble_eq_true rfl) (Nat.le_of_ble_eq_true rfl) (Nat.le_of_ble_eq_true rfl) dX6_valleyTold_38 ?_
  obtain ⟨hi_, hf⟩ := xo_if hf
  refine xt_iast (pc := 41) 45 rfl rfl hi_ dX6_valleyTold_41 ?_
  refine xr_aload_n (pc := 42) 0 dX6_valleyTold_42 rfl rfl ?_
  refine xr_aload_n (pc := 43) 0 dX6_valleyTold_43 rfl rfl ?_
  refine xt_getA (pc := 44) 13 (by decide) q1759 rfl rfl rfl dX6_valleyTold_44 ?_
  obtain ⟨τ5, hτ5, hf⟩ := xo_bind hf
  refine call_f_t_asks (pc := 47) hτ5 rfl (Nat.le_of_ble_eq_true rfl) (Nat.le_of_ble_eq_true rfl) (Nat.le_of_ble_eq_true rfl) dX6_valleyTold_47 ?_
  refine xr_aload_n (pc := 50) 0 dX6_valleyTold_50 rfl rfl ?_
  refine xt_getA (pc := 51) 45 (by decide) q1791 rfl rfl rfl dX6_valleyTold_51 ?_
  refine xr_iconst (pc := 54) dX6_valleyTold_54 xci_2 ?_
  refine xr_aload_n (pc := 55) 0 dX6_valleyTold_55 rfl rfl ?_
  refine xr_iconst (pc := 56) dX6_valleyTold_56 xci_1 ?_
  refine xr_bipush (pc := 57) dX6_valleyTold_57 xcb_7 ?_
  obtain ⟨r6, τ6, hτ6, hf⟩ := xo_bd hf
  refine call_f_t_number (pc := 59) hτ6 rfl (Nat.le_of_ble_eq_true rfl) (Nat.le_of_ble_eq_true rfl) (Nat.le_of_ble_eq_true rfl) dX6_valleyTold_59 ?_
  obtain ⟨hi_, hf⟩ := xo_if hf
  refine xt_iast (pc := 62) 45 rfl rfl hi_ dX6_valleyTold_62 ?_
  refine xr_aload_n (pc := 63) 0 dX6_valleyTold_63 rfl rfl ?_
  refine xr_bipush (pc := 64) dX6_valleyTold_64 xcb_59 ?_
  obtain ⟨τ7, hτ7, hf⟩ := xo_bind hf
  refine call_f_t_asksSign (pc := 66) hτ7 rfl (Nat.le_of_ble_eq_true rfl) (Nat.le_of_ble_eq_true rfl) (Nat.le_of_ble_eq_true rfl) dX6_valleyTold_66 ?_
  rw [kr _ (Option.some.inj hf).symm]
  exact xr_vret (pc := 69) dX6_valleyTold_69 rfl
theorem met_f_t_valleyTold (l : Launch) {D : TD} {m : Nat} {τ : TS} {o_ : TS} (hf : f_t_valleyTold τ = some o_) : xMet (wT D m) l yX6_valleyTold (ws_ yX6_valleyTold cX6_valleyTold 1 none) 4 240 0 0 [.ref m] τ (none, o_) :=
  xMet_of (by decide) (Nat.le_of_ble_eq_true rfl) KT_moved (fun _ _ => trivial) (fun K _ _ _ => ok_f_t_valleyTold hf (fun _ h => by rw [h]))
theorem hd_f_t_valleyTold : yX6_valleyTold.cls = RX6 ∧ yX6_valleyTold.cls ≠ "java/lang/invoke/MethodHandle" ∧ yX6_valleyTold.cls ≠ "java/lang/invoke/VarHandle" ∧ (parseMethodDescriptor yX6_valleyTold.desc).map (fun d => d.parameters.length) = some 0 := by decide +kernel
theorem call_f_t_valleyTold {D : TD} {m : Nat} {K : xK} {M : xM} {Q : State → Prop} {τ : TS} {pc : Nat} {loc : List (Nat × Value)} {st : List Value} {τ1 : TS} (hf : f_t_valleyTold τ = some τ1) (ho : M.2.2.1 = RX6) (hfr : 5 ≤ M.2.2.2.1) (hlo : 260 ≤ M.2.2.2.2.1) (hcat : (st.map fun v => v.category).sum ≤ 8) (d : decode M.1 pc = .ok (.invokevirtual 428, 3)) (k : xV (wT D m) K M Q τ1 (pc + 3) loc st) : xV (wT D m) K M Q τ pc loc (.ref m :: st) :=
  xr_callV (As := []) (rest := st) (met_f_t_valleyTold K.2.1 hf) (lw_V q2155 q2157 qs66 q186 q2158) hd_f_t_valleyTold ho hfr hlo rfl (fun H hR hK => t_recv H hR hK) rfl hcat d k
abbrev mX6_columnTold : xM := (cX6_columnTold, 1, RX6, 2, 120, (some .int), "columnTold")
def f_t_columnTold (τ : TS) : Option (Int32 × TS) :=
  if xin 0 6 = true then
  xbd (f_t_number 0 ((tA τ 45 (0 : Int32).toNatClampNeg) - 1) τ) fun r1 τ1 =>
  some ((r1, τ1))
  else none
theorem ok_f_t_columnTold {D : TD} {m : Nat} {K : xK} {Z : Option Value × TS} {τ : TS} {o_ : (Int32 × TS)} (hf : f_t_columnTold τ = some o_) (kr : ∀ r_ : (Int32 × TS), o_ = r_ → Z = (some (.int r_.1), r_.2)) : xV (wT D m) K mX6_columnTold (xQ (wT D m) K Z) τ 0 [(0, .ref m)] [] := by
  unfold f_t_columnTold at hf
  refine xr_aload_n (pc := 0) 0 dX6_columnTold_0 rfl rfl ?_
  refine xr_iconst (pc := 1) dX6_columnTold_1 xci_0 ?_
  refine xr_aload_n (pc := 2) 0 dX6_columnTold_2 rfl rfl ?_
  refine xt_getA (pc := 3) 45 (by decide) q1791 rfl rfl rfl dX6_columnTold_3 ?_
  refine xr_iconst (pc := 6) dX6_columnTold_6 xci_0 ?_
  obtain ⟨hi_, hf⟩ := xo_if hf
  refine xt_iald (pc := 7) 45 rfl rfl hi_ dX6_columnTold_7 ?_
  refine xr_iconst (pc := 8) dX6_columnTold_8 xci_1 ?_
  refine xr_isub (pc := 9) dX6_columnTold_9 ?_
  obtain ⟨r1, τ1, hτ1, hf⟩ := xo_bd hf
  refine call_f_t_number (pc := 10) hτ1 rfl (Nat.le_of_ble_eq_true rfl) (Nat.le_of_ble_eq_true rfl) (Nat.le_of_ble_eq_true rfl) dX6_columnTold_10 ?_
  rw [kr _ (Option.some.inj hf).symm]
  exact xr_iret (pc := 13) dX6_columnTold_13 rfl
theorem met_f_t_columnTold (l : Launch) {D : TD} {m : Nat} {τ : TS} {o_ : (Int32 × TS)} (hf : f_t_columnTold τ = some o_) : xMet (wT D m) l yX6_columnTold (ws_ yX6_columnTold cX6_columnTold 1 (some .int)) 2 120 0 0 [.ref m] τ (some (.int o_.1), o_.2) :=
  xMet_of (by decide) (Nat.le_of_ble_eq_true rfl) KT_moved (fun _ _ => trivial) (fun K _ _ _ => ok_f_t_columnTold hf (fun _ h => by rw [h]))
theorem hd_f_t_columnTold : yX6_columnTold.cls = RX6 ∧ yX6_columnTold.cls ≠ "java/lang/invoke/MethodHandle" ∧ yX6_columnTold.cls ≠ "java/lang/invoke/VarHandle" ∧ (parseMethodDescriptor yX6_columnTold.desc).map (fun d => d.parameters.length) = some 0 := by decide +kernel
theorem call_f_t_columnTold {D : TD} {m : Nat} {K : xK} {M : xM} {Q : State → Prop} {τ : TS} {pc : Nat} {loc : List (Nat × Value)} {st : List Value} {r : Int32} {τ1 : TS} (hf : f_t_columnTold τ = some (r, τ1)) (ho : M.2.2.1 = RX6) (hfr : 3 ≤ M.2.2.2.1) (hlo : 140 ≤ M.2.2.2.2.1) (hcat : (st.map fun v => v.category).sum ≤ 8) (d : decode M.1 pc = .ok (.invokevirtual 373, 3)) (k : xV (wT D m) K M Q τ1 (pc + 3) loc (.int r :: st)) : xV (wT D m) K M Q τ pc loc (.ref m :: st) :=
  xr_callV (As := []) (rest := st) (met_f_t_columnTold K.2.1 hf) (lw_V q2208 q2210 qs77 q186 q2211) hd_f_t_columnTold ho hfr hlo rfl (fun H hR hK => t_recv H hR hK) rfl hcat d k
abbrev mX6_rowTold : xM := (cX6_rowTold, 1, RX6, 2, 120, (some .int), "rowTold")
def f_t_rowTold (τ : TS) : Option (Int32 × TS) :=
  if xin 1 6 = true then
  xbd (f_t_number 0 ((tA τ 45 (1 : Int32).toNatClampNeg) - 1) τ) fun r1 τ1 =>
  some ((r1, τ1))
  else none
theorem ok_f_t_rowTold {D : TD} {m : Nat} {K : xK} {Z : Option Value × TS} {τ : TS} {o_ : (Int32 × TS)} (hf : f_t_rowTold τ = some o_) (kr : ∀ r_ : (Int32 × TS), o_ = r_ → Z = (some (.int r_.1), r_.2)) : xV (wT D m) K mX6_rowTold (xQ (wT D m) K Z) τ 0 [(0, .ref m)] [] := by
  unfold f_t_rowTold at hf
  refine xr_aload_n (pc := 0) 0 dX6_rowTold_0 rfl rfl ?_
  refine xr_iconst (pc := 1) dX6_rowTold_1 xci_0 ?_
  refine xr_aload_n (pc := 2) 0 dX6_rowTold_2 rfl rfl ?_
  refine xt_getA (pc := 3) 45 (by decide) q1791 rfl rfl rfl dX6_rowTold_3 ?_
  refine xr_iconst (pc := 6) dX6_rowTold_6 xci_1 ?_
  obtain ⟨hi_, hf⟩ := xo_if hf
  refine xt_iald (pc := 7) 45 rfl rfl hi_ dX6_rowTold_7 ?_
  refine xr_iconst (pc := 8) dX6_rowTold_8 xci_1 ?_
  refine xr_isub (pc := 9) dX6_rowTold_9 ?_
  obtain ⟨r1, τ1, hτ1, hf⟩ := xo_bd hf
  refine call_f_t_number (pc := 10) hτ1 rfl (Nat.le_of_ble_eq_true rfl) (Nat.le_of_ble_eq_true rfl) (Nat.le_of_ble_eq_true rfl) dX6_rowTold_10 ?_
  rw [kr _ (Option.some.inj hf).symm]
  exact xr_iret (pc := 13) dX6_rowTold_13 rfl
theorem met_f_t_rowTold (l : Launch) {D : TD} {m : Nat} {τ : TS} {o_ : (Int32 × TS)} (hf : f_t_rowTold τ = some o_) : xMet (wT D m) l yX6_rowTold (ws_ yX6_rowTold cX6_rowTold 1 (some .int)) 2 120 0 0 [.ref m] τ (some (.int o_.1), o_.2) :=
  xMet_of (by decide) (Nat.le_of_ble_eq_true rfl) KT_moved (fun _ _ => trivial) (fun K _ _ _ => ok_f_t_rowTold hf (fun _ h => by rw [h]))
theorem hd_f_t_rowTold : yX6_rowTold.cls = RX6 ∧ yX6_rowTold.cls ≠ "java/lang/invoke/MethodHandle" ∧ yX6_rowTold.cls ≠ "java/lang/invoke/VarHandle" ∧ (parseMethodDescriptor yX6_rowTold.desc).map (fun d => d.parameters.length) = some 0 := by decide +kernel
theorem call_f_t_rowTold {D : TD} {m : Nat} {K : xK} {M : xM} {Q : State → Prop} {τ : TS} {pc : Nat} {loc : List (Nat × Value)} {st : List Value} {r : Int32} {τ1 : TS} (hf : f_t_rowTold τ = some (r, τ1)) (ho : M.2.2.1 = RX6) (hfr : 3 ≤ M.2.2.2.1) (hlo : 140 ≤ M.2.2.2.2.1) (hcat : (st.map fun v => v.category).sum ≤ 8) (d : decode M.1 pc = .ok (.invokevirtual 376, 3)) (k : xV (wT D m) K M Q τ1 (pc + 3) loc (.int r :: st)) : xV (wT D m) K M Q τ pc loc (.ref m :: st) :=
  xr_callV (As := []) (rest := st) (met_f_t_rowTold K.2.1 hf) (lw_V q2212 q2214 qs78 q186 q2215) hd_f_t_rowTold ho hfr hlo rfl (fun H hR hK => t_recv H hR hK) rfl hcat d k
abbrev mX6_runsTold : xM := (cX6_runsTold, 3, RX6, 3, 180, none, "runsTold")
def f_t_runsTold (τ : TS) : Option TS :=
  xbd (f_t_columnTold τ) fun r1 τ1 =>
  xbd (f_t_rowTold τ1) fun r2 τ2 =>
  if (tI τ2 5) = 0 then
  if xin r1 10 = true then
  some (sA τ2 51 r1.toNatClampNeg r2)
  else none
  else
  some (τ2)
theorem ok_f_t_runsTold {D : TD} {m : Nat} {K : xK} {Z : Option Value × TS} {τ : TS} {o_ : TS} (hf : f_t_runsTold τ = some o_) (kr : ∀ r_ : TS, o_ = r_ → Z = (none, r_)) : xV (wT D m) K mX6_runsTold (xQ (wT D m) K Z) τ 0 [(0, .ref m)] [] := by
  unfold f_t_runsTold at hf
  refine xr_aload_n (pc := 0) 0 dX6_runsTold_0 rfl rfl ?_
  obtain ⟨r1, τ1, hτ1, hf⟩ := xo_bd hf
  refine call_f_t_columnTold (pc := 1) hτ1 rfl (Nat.le_of_ble_eq_true rfl) (Nat.le_of_ble_eq_true rfl) (Nat.le_of_ble_eq_true rfl) dX6_runsTold_1 ?_
  refine xr_istore_n (pc := 4) (loc' := [(1, .int r1), (0, .ref m)]) dX6_runsTold_4 rfl (by decide) rfl ?_
  refine xr_aload_n (pc := 5) 1 dX6_runsTold_5 rfl rfl ?_
  obtain ⟨r2, τ2, hτ2, hf⟩ := xo_bd hf
  refine call_f_t_rowTold (pc := 6) hτ2 rfl (Nat.le_of_ble_eq_true rfl) (Nat.le_of_ble_eq_true rfl) (Nat.le_of_ble_eq_true rfl) dX6_runsTold_6 ?_
  refine xr_istore_n (pc := 9) (loc' := [(2, .int r2), (1, .int r1), (0, .ref m)]) dX6_runsTold_9 rfl (by decide) rfl ?_
  refine xr_aload_n (pc := 10) 2 dX6_runsTold_10 rfl rfl ?_
  refine xt_getI (pc := 11) 5 (by decide) q1751 rfl rfl rfl dX6_runsTold_11 ?_
  refine xr_if_ne (pc := 14) 24 dX6_runsTold_14 (by decide) (fun c_ => ?_) (fun c_ => ?_)
  · have hf := xo_pos c_ hf
    refine xr_aload_n (pc := 17) 2 dX6_runsTold_17 rfl rfl ?_
    refine xt_getA (pc := 18) 51 (by decide) q1797 rfl rfl rfl dX6_runsTold_18 ?_
    refine xr_iload_n (pc := 21) 1 dX6_runsTold_21 rfl rfl ?_
    refine xr_iload_n (pc := 22) 0 dX6_runsTold_22 rfl rfl ?_
    obtain ⟨hi_, hf⟩ := xo_if hf
    refine xt_iast (pc := 23) 51 rfl rfl hi_ dX6_runsTold_23 ?_
    rw [kr _ (Option.some.inj hf).symm]
    exact xr_vret (pc := 24) dX6_runsTold_24 rfl
  · have hf := xo_neg c_ hf
    rw [kr _ (Option.some.inj hf).symm]
    exact xr_vret (pc := 24) dX6_runsTold_24 rfl
theorem met_f_t_runsTold (l : Launch) {D : TD} {m : Nat} {τ : TS} {o_ : TS} (hf : f_t_runsTold τ = some o_) : xMet (wT D m) l yX6_runsTold (ws_ yX6_runsTold cX6_runsTold 3 none) 3 180 0 0 [.ref m] τ (none, o_) :=
  xMet_of (by decide) (Nat.le_of_ble_eq_true rfl) KT_moved (fun _ _ => trivial) (fun K _ _ _ => ok_f_t_runsTold hf (fun _ h => by rw [h]))
theorem hd_f_t_runsTold : yX6_runsTold.cls = RX6 ∧ yX6_runsTold.cls ≠ "java/lang/invoke/MethodHandle" ∧ yX6_runsTold.cls ≠ "java/lang/invoke/VarHandle" ∧ (parseMethodDescriptor yX6_runsTold.desc).map (fun d => d.parameters.length) = some 0 := by decide +kernel
theorem call_f_t_runsTold {D : TD} {m : Nat} {K : xK} {M : xM} {Q : State → Prop} {τ : TS} {pc : Nat} {loc : List (Nat × Value)} {st : List Value} {τ1 : TS} (hf : f_t_runsTold τ = some τ1) (ho : M.2.2.1 = RX6) (hfr : 4 ≤ M.2.2.2.1) (hlo : 202 ≤ M.2.2.2.2.1) (hcat : (st.map fun v => v.category).sum ≤ 8) (d : decode M.1 pc = .ok (.invokevirtual 410, 3)) (k : xV (wT D m) K M Q τ1 (pc + 3) loc st) : xV (wT D m) K M Q τ pc loc (.ref m :: st) :=
  xr_callV (As := []) (rest := st) (met_f_t_runsTold K.2.1 hf) (lw_V q2204 q2206 qs76 q186 q2207) hd_f_t_runsTold ho hfr hlo rfl (fun H hR hK => t_recv H hR hK) rfl hcat d k
abbrev mX6_soilTold : xM := (cX6_soilTold, 4, RX6, 3, 180, none, "soilTold")
def f_t_soilTold (τ : TS) : Option TS :=
  xbd (f_t_columnTold τ) fun r1 τ1 =>
  xbd (f_t_rowTold τ1) fun r2 τ2 =>
  xbd (f_t_number 0 9 τ2) fun r3 τ3 =>
  if (tI τ3 5) = 0 then
  if xin ((8 * r1) + r2) 160 = true then
  some (sA τ3 50 ((8 * r1) + r2).toNatClampNeg r3)
  else none
  else
  some (τ3)
theorem ok_f_t_soilTold {D : TD} {m : Nat} {K : xK} {Z : Option Value × TS} {τ : TS} {o_ : TS} (hf : f_t_soilTold τ = some o_) (kr : ∀ r_ : TS, o_ = r_ → Z = (none, r_)) : xV (wT D m) K mX6_soilTold (xQ (wT D m) K Z) τ 0 [(0, .ref m)] [] := by
  unfold f_t_soilTold at hf
  refine xr_aload_n (pc := 0) 0 dX6_soilTold_0 rfl rfl ?_
  obtain ⟨r1, τ1, hτ1, hf⟩ := xo_bd hf
  refine call_f_t_columnTold (pc := 1) hτ1 rfl (Nat.le_of_ble_eq_true rfl) (Nat.le_of_ble_eq_true rfl) (Nat.le_of_ble_eq_true rfl) dX6_soilTold_1 ?_
  refine xr_istore_n (pc := 4) (loc' := [(1, .int r1), (0, .ref m)]) dX6_soilTold_4 rfl (by decide) rfl ?_
  refine xr_aload_n (pc := 5) 1 dX6_soilTold_5 rfl rfl ?_
  obtain ⟨r2, τ2, hτ2, hf⟩ := xo_bd hf
  refine call_f_t_rowTold (pc := 6) hτ2 rfl (Nat.le_of_ble_eq_true rfl) (Nat.le_of_ble_eq_true rfl) (Nat.le_of_ble_eq_true rfl) dX6_soilTold_6 ?_
  refine xr_istore_n (pc := 9) (loc' := [(2, .int r2), (1, .int r1), (0, .ref m)]) dX6_soilTold_9 rfl (by decide) rfl ?_
  refine xr_aload_n (pc := 10) 2 dX6_soilTold_10 rfl rfl ?_
  refine xr_iconst (pc := 11) dX6_soilTold_11 xci_0 ?_
  refine xr_bipush (pc := 12) dX6_soilTold_12 xcb_9 ?_
  obtain ⟨r3, τ3, hτ3, hf⟩ := xo_bd hf
  refine call_f_t_number (pc := 14) hτ3 rfl (Nat.le_of_ble_eq_true rfl) (Nat.le_of_ble_eq_true rfl) (Nat.le_of_ble_eq_true rfl) dX6_soilTold_14 ?_
  refine xr_istore_n (pc := 17) (loc' := [(3, .int r3), (2, .int r2), (1, .int r1), (0, .ref m)]) dX6_soilTold_17 rfl (by decide) rfl ?_
  refine xr_aload_n (pc := 18) 3 dX6_soilTold_18 rfl rfl ?_
  refine xt_getI (pc := 19) 5 (by decide) q1751 rfl rfl rfl dX6_soilTold_19 ?_
  refine xr_if_ne (pc := 22) 37 dX6_soilTold_22 (by decide) (fun c_ => ?_) (fun c_ => ?_)
  · have hf := xo_pos c_ hf
    refine xr_aload_n (pc := 25) 3 dX6_soilTold_25 rfl rfl ?_
    refine xt_getA (pc := 26) 50 (by decide) q1796 rfl rfl rfl dX6_soilTold_26 ?_
    refine xr_bipush (pc := 29) dX6_soilTold_29 xcb_8 ?_
    refine xr_iload_n (pc := 31) 2 dX6_soilTold_31 rfl rfl ?_
    refine xr_imul (pc := 32) dX6_soilTold_32 ?_
    refine xr_iload_n (pc := 33) 1 dX6_soilTold_33 rfl rfl ?_
    refine xr_iadd (pc := 34) dX6_soilTold_34 ?_
    refine xr_iload_n (pc := 35) 0 dX6_soilTold_35 rfl rfl ?_
    obtain ⟨hi_, hf⟩ := xo_if hf
    refine xt_iast (pc := 36) 50 rfl rfl hi_ dX6_soilTold_36 ?_
    rw [kr _ (Option.some.inj hf).symm]
    exact xr_vret (pc := 37) dX6_soilTold_37 rfl
  · have hf := xo_neg c_ hf
    rw [kr _ (Option.some.inj hf).symm]
    exact xr_vret (pc := 37) dX6_soilTold_37 rfl
theorem met_f_t_soilTold (l : Launch) {D : TD} {m : Nat} {τ : TS} {o_ : TS} (hf : f_t_soilTold τ = some o_) : xMet (wT D m) l yX6_soilTold (ws_ yX6_soilTold cX6_soilTold 4 none) 3 180 0 0 [.ref m] τ (none, o_) :=
  xMet_of (by decide) (Nat.le_of_ble_eq_true rfl) KT_moved (fun _ _ => trivial) (fun K _ _ _ => ok_f_t_soilTold hf (fun _ h => by rw [h]))
theorem hd_f_t_soilTold : yX6_soilTold.cls = RX6 ∧ yX6_soilTold.cls ≠ "java/lang/invoke/MethodHandle" ∧ yX6_soilTold.cls ≠ "java/lang/invoke/VarHandle" ∧ (parseMethodDescriptor yX6_soilTold.desc).map (fun d => d.parameters.length) = some 0 := by decide +kernel
theorem call_f_t_soilTold {D : TD} {m : Nat} {K : xK} {M : xM} {Q : State → Prop} {τ : TS} {pc : Nat} {loc : List (Nat × Value)} {st : List Value} {τ1 : TS} (hf : f_t_soilTold τ = some τ1) (ho : M.2.2.1 = RX6) (hfr : 4 ≤ M.2.2.2.1) (hlo : 203 ≤ M.2.2.2.2.1) (hcat : (st.map fun v => v.category).sum ≤ 8) (d : decode M.1 pc = .ok (.invokevirtual 413, 3)) (k : xV (wT D m) K M Q τ1 (pc + 3) loc st) : xV (wT D m) K M Q τ pc loc (.ref m :: st) :=
  xr_callV (As := []) (rest := st) (met_f_t_soilTold K.2.1 hf) (lw_V q2216 q2218 qs79 q186 q2219) hd_f_t_soilTold ho hfr hlo rfl (fun H hR hK => t_recv H hR hK) rfl hcat d k
abbrev mX6_willowTold : xM := (cX6_willowTold, 3, RX6, 3, 180, none, "willowTold")
def Jt_willowTold_42 (x1 : Int32) (x2 : Int32) (τ : TS) : Option TS :=
  if (tI τ 5) = 0 then
  if xin ((8 * x1) + x2) 80 = true then
  if xin ((8 * x1) + x2) 80 = true then
  some (sA τ 52 ((8 * x1) + x2).toNatClampNeg ((tA τ 52 ((8 * x1) + x2).toNatClampNeg) + 1))
  else none
  else none
  else
  some (τ)
theorem ok_Jt_willowTold_42 {D : TD} {m : Nat} {K : xK} {Z : Option Value × TS} {x1 : Int32} {x2 : Int32} {τ : TS} {o_ : TS} (hf : Jt_willowTold_42 x1 x2 τ = some o_) (kr : ∀ r_ : TS, o_ = r_ → Z = (none, r_)) : xV (wT D m) K mX6_willowTold (xQ (wT D m) K Z) τ 42 [(0, .ref m), (1, .int x1), (2, .int x2)] [] := by
  unfold Jt_willowTold_42 at hf
  refine xr_aload_n (pc := 42) 0 dX6_willowTold_42 rfl rfl ?_
  refine xt_getI (pc := 43) 5 (by decide) q1751 rfl rfl rfl dX6_willowTold_43 ?_
  refine xr_if_ne (pc := 46) 64 dX6_willowTold_46 (by decide) (fun c_ => ?_) (fun c_ => ?_)
  · have hf := xo_pos c_ hf
    refine xr_aload_n (pc := 49) 0 dX6_willowTold_49 rfl rfl ?_
    refine xt_getA (pc := 50) 52 (by decide) q1798 rfl rfl rfl dX6_willowTold_50 ?_
    refine xr_bipush (pc := 53) dX6_willowTold_53 xcb_8 ?_
    refine xr_iload_n (pc := 55) 1 dX6_willowTold_55 rfl rfl ?_
    refine xr_imul (pc := 56) dX6_willowTold_56 ?_
    refine xr_iload_n (pc := 57) 2 dX6_willowTold_57 rfl rfl ?_
    refine xr_iadd (pc := 58) dX6_willowTold_58 ?_
    refine xr_dup2_11 (pc := 59) dX6_willowTold_59 rfl rfl ?_
    obtain ⟨hi_, hf⟩ := xo_if hf
    refine xt_iald (pc := 60) 52 rfl rfl hi_ dX6_willowTold_60 ?_
    refine xr_iconst (pc := 61) dX6_willowTold_61 xci_1 ?_
    refine xr_iadd (pc := 62) dX6_willowTold_62 ?_
    obtain ⟨hi_, hf⟩ := xo_if hf
    refine xt_iast (pc := 63) 52 rfl rfl hi_ dX6_willowTold_63 ?_
    rw [kr _ (Option.some.inj hf).symm]
    exact xr_vret (pc := 64) dX6_willowTold_64 rfl
  · have hf := xo_neg c_ hf
    rw [kr _ (Option.some.inj hf).symm]
    exact xr_vret (pc := 64) dX6_willowTold_64 rfl
def f_t_willowTold (τ : TS) : Option TS :=
  xbd (f_t_columnTold τ) fun r1 τ1 =>
  xbd (f_t_rowTold τ1) fun r2 τ2 =>
  if (tI τ2 5) = 0 then
  if xin ((8 * r1) + r2) 80 = true then
  if (tA τ2 52 ((8 * r1) + r2).toNatClampNeg) = 9 then
  (f_t_fail 2 (tI τ2 10) τ2).bind fun τ3 =>
  Jt_willowTold_42 r1 r2 τ3
  else
  Jt_willowTold_42 r1 r2 τ2
  else none
  else
  Jt_willowTold_42 r1 r2 τ2
theorem ok_f_t_willowTold {D : TD} {m : Nat} {K : xK} {Z : Option Value × TS} {τ : TS} {o_ : TS} (hf : f_t_willowTold τ = some o_) (kr : ∀ r_ : TS, o_ = r_ → Z = (none, r_)) : xV (wT D m) K mX6_willowTold (xQ (wT D m) K Z) τ 0 [(0, .ref m)] [] := by
  unfold f_t_willowTold at hf
  refine xr_aload_n (pc := 0) 0 dX6_willowTold_0 rfl rfl ?_
  obtain ⟨r1, τ1, hτ1, hf⟩ := xo_bd hf
  refine call_f_t_columnTold (pc := 1) hτ1 rfl (Nat.le_of_ble_eq_true rfl) (Nat.le_of_ble_eq_true rfl) (Nat.le_of_ble_eq_true rfl) dX6_willowTold_1 ?_
  refine xr_istore_n (pc := 4) (loc' := [(1, .int r1), (0, .ref m)]) dX6_willowTold_4 rfl (by decide) rfl ?_
  refine xr_aload_n (pc := 5) 1 dX6_willowTold_5 rfl rfl ?_
  obtain ⟨r2, τ2, hτ2, hf⟩ := xo_bd hf
  refine call_f_t_rowTold (pc := 6) hτ2 rfl (Nat.le_of_ble_eq_true rfl) (Nat.le_of_ble_eq_true rfl) (Nat.le_of_ble_eq_true rfl) dX6_willowTold_6 ?_
  refine xr_istore_n (pc := 9) (loc' := [(2, .int r2), (1, .int r1), (0, .ref m)]) dX6_willowTold_9 rfl (by decide) rfl ?_
  refine xr_aload_n (pc := 10) 2 dX6_willowTold_10 rfl rfl ?_
  refine xt_getI (pc := 11) 5 (by decide) q1751 rfl rfl rfl dX6_willowTold_11 ?_
  refine xr_if_ne (pc := 14) 42 dX6_willowTold_14 (by decide) (fun c_ => ?_) (fun c_ => ?_)
  · have hf := xo_pos c_ hf
    refine xr_aload_n (pc := 17) 2 dX6_willowTold_17 rfl rfl ?_
    refine xt_getA (pc := 18) 52 (by decide) q1798 rfl rfl rfl dX6_willowTold_18 ?_
    refine xr_bipush (pc := 21) dX6_willowTold_21 xcb_8 ?_
    refine xr_iload_n (pc := 23) 1 dX6_willowTold_23 rfl rfl ?_
    refine xr_imul (pc := 24) dX6_willowTold_24 ?_
    refine xr_iload_n (pc := 25) 0 dX6_willowTold_25 rfl rfl ?_
    refine xr_iadd (pc := 26) dX6_willowTold_26 ?_
    obtain ⟨hi_, hf⟩ := xo_if hf
    refine xt_iald (pc := 27) 52 rfl rfl hi_ dX6_willowTold_27 ?_
    refine xr_bipush (pc := 28) dX6_willowTold_28 xcb_9 ?_
    refine xr_icmp_ne (pc := 30) 42 dX6_willowTold_30 (by decide) (fun c_ => ?_) (fun c_ => ?_)
    · have hf := xo_pos c_ hf
      refine xr_aload_n (pc := 33) 2 dX6_willowTold_33 rfl rfl ?_
      refine xr_iconst (pc := 34) dX6_willowTold_34 xci_2 ?_
      refine xr_aload_n (pc := 35) 2 dX6_willowTold_35 rfl rfl ?_
      refine xt_getI (pc := 36) 10 (by decide) q1756 rfl rfl rfl dX6_willowTold_36 ?_
      obtain ⟨τ3, hτ3, hf⟩ := xo_bind hf
      refine call_f_t_fail (pc := 39) hτ3 rfl (Nat.le_of_ble_eq_true rfl) (Nat.le_of_ble_eq_true rfl) (Nat.le_of_ble_eq_true rfl) dX6_willowTold_39 ?_
      refine xV_sub [2, 1, 0] rfl ?_
      exact ok_Jt_willowTold_42 hf kr
    · have hf := xo_neg c_ hf
      refine xV_sub [2, 1, 0] rfl ?_
      exact ok_Jt_willowTold_42 hf kr
  · have hf := xo_neg c_ hf
    refine xV_sub [2, 1, 0] rfl ?_
    exact ok_Jt_willowTold_42 hf kr
theorem met_f_t_willowTold (l : Launch) {D : TD} {m : Nat} {τ : TS} {o_ : TS} (hf : f_t_willowTold τ = some o_) : xMet (wT D m) l yX6_willowTold (ws_ yX6_willowTold cX6_willowTold 3 none) 3 180 0 0 [.ref m] τ (none, o_) :=
  xMet_of (by decide) (Nat.le_of_ble_eq_true rfl) KT_moved (fun _ _ => trivial) (fun K _ _ _ => ok_f_t_willowTold hf (fun _ h => by rw [h]))
theorem hd_f_t_willowTold : yX6_willowTold.cls = RX6 ∧ yX6_willowTold.cls ≠ "java/lang/invoke/MethodHandle" ∧ yX6_willowTold.cls ≠ "java/lang/invoke/VarHandle" ∧ (parseMethodDescriptor yX6_willowTold.desc).map (fun d => d.parameters.length) = some 0 := by decide +kernel
theorem call_f_t_willowTold {D : TD} {m : Nat} {K : xK} {M : xM} {Q : State → Prop} {τ : TS} {pc : Nat} {loc : List (Nat × Value)} {st : List Value} {τ1 : TS} (hf : f_t_willowTold τ = some τ1) (ho : M.2.2.1 = RX6) (hfr : 4 ≤ M.2.2.2.1) (hlo : 202 ≤ M.2.2.2.2.1) (hcat : (st.map fun v => v.category).sum ≤ 8) (d : decode M.1 pc = .ok (.invokevirtual 416, 3)) (k : xV (wT D m) K M Q τ1 (pc + 3) loc st) : xV (wT D m) K M Q τ pc loc (.ref m :: st) :=
  xr_callV (As := []) (rest := st) (met_f_t_willowTold K.2.1 hf) (lw_V q2220 q2222 qs80 q186 q2223) hd_f_t_willowTold ho hfr hlo rfl (fun H hR hK => t_recv H hR hK) rfl hcat d k
abbrev mX6_isOwnHere : xM := (cX6_isOwnHere, 2, RX6, 2, 120, (some .boolean), "isOwnHere")
def Jt_isOwnHere_413 (τ : TS) : Option (Int32 × TS) :=
  some ((1, τ))
theorem ok_Jt_isOwnHere_413 {D : TD} {m : Nat} {K : xK} {Z : Option Value × TS} {τ : TS} {o_ : (Int32 × TS)} (hf : Jt_isOwnHere_413 τ = some o_) (kr : ∀ r_ : (Int32 × TS), o_ = r_ → Z = (some (.int r_.1), r_.2)) : xV (wT D m) K mX6_isOwnHere (xQ (wT D m) K Z) τ 413 [] [] := by
  unfold Jt_isOwnHere_413 at hf
  refine xr_iconst (pc := 413) dX6_isOwnHere_413 xci_1 ?_
  refine xr_goto (pc := 414) 418 dX6_isOwnHere_414 (by decide) ?_
  refine xr_istore_n (pc := 418) (loc' := [(1, .int 1)]) dX6_isOwnHere_418 rfl (by decide) rfl ?_
  refine xr_iload_n (pc := 419) 0 dX6_isOwnHere_419 rfl rfl ?_
  rw [kr _ (Option.some.inj hf).symm]
  exact xr_zret (pc := 420) dX6_isOwnHere_420 rfl xz_1
def Jt_isOwnHere_375 (s0 : Int32) (τ : TS) : Option (Int32 × TS) :=
  if s0 = 0 then
  xbd (f_t_isHere 41 τ) fun r31 τ31 =>
  if r31 = 0 then
  xbd (f_t_isHere 42 τ31) fun r32 τ32 =>
  if r32 = 0 then
  xbd (f_t_isHere 43 τ32) fun r33 τ33 =>
  if r33 = 0 then
  some ((0, τ33))
  else
  Jt_isOwnHere_413 τ33
  else
  Jt_isOwnHere_413 τ32
  else
  Jt_isOwnHere_413 τ31
  else
  Jt_isOwnHere_413 τ
theorem ok_Jt_isOwnHere_375 {D : TD} {m : Nat} {K : xK} {Z : Option Value × TS} {s0 : Int32} {τ : TS} {o_ : (Int32 × TS)} (hf : Jt_isOwnHere_375 s0 τ = some o_) (kr : ∀ r_ : (Int32 × TS), o_ = r_ → Z = (some (.int r_.1), r_.2)) : xV (wT D m) K mX6_isOwnHere (xQ (wT D m) K Z) τ 375 [(0, .ref m)] [.int s0] := by
  unfold Jt_isOwnHere_375 at hf
  refine xr_istore_n (pc := 375) (loc' := [(1, .int s0), (0, .ref m)]) dX6_isOwnHere_375 rfl (by decide) rfl ?_
  refine xr_iload_n (pc := 376) 0 dX6_isOwnHere_376 rfl rfl ?_
  refine xr_if_ne (pc := 377) 413 dX6_isOwnHere_377 (by decide) (fun c_ => ?_) (fun c_ => ?_)
  · have hf := xo_pos c_ hf
    refine xr_aload_n (pc := 380) 1 dX6_isOwnHere_380 rfl rfl ?_
    refine xr_aload_n (pc := 381) 1 dX6_isOwnHere_381 rfl rfl ?_
    refine xt_getA (pc := 382) 41 (by decide) q1787 rfl rfl rfl dX6_isOwnHere_382 ?_
    obtain ⟨r31, τ31, hτ31, hf⟩ := xo_bd hf
    refine call_f_t_isHere (pc := 385) hτ31 rfl (Nat.le_of_ble_eq_true rfl) (Nat.le_of_ble_eq_true rfl) (Nat.le_of_ble_eq_true rfl) dX6_isOwnHere_385 ?_
    refine xr_if_ne (pc := 388) 413 dX6_isOwnHere_388 (by decide) (fun c_ => ?_) (fun c_ => ?_)
    · have hf := xo_pos c_ hf
      refine xr_aload_n (pc := 391) 1 dX6_isOwnHere_391 rfl rfl ?_
      refine xr_aload_n (pc := 392) 1 dX6_isOwnHere_392 rfl rfl ?_
      refine xt_getA (pc := 393) 42 (by decide) q1788 rfl rfl rfl dX6_isOwnHere_393 ?_
      obtain ⟨r32, τ32, hτ32, hf⟩ := xo_bd hf
      refine call_f_t_isHere (pc := 396) hτ32 rfl (Nat.le_of_ble_eq_true rfl) (Nat.le_of_ble_eq_true rfl) (Nat.le_of_ble_eq_true rfl) dX6_isOwnHere_396 ?_
      refine xr_if_ne (pc := 399) 413 dX6_isOwnHere_399 (by decide) (fun c_ => ?_) (fun c_ => ?_)
      · have hf := xo_pos c_ hf
        refine xr_aload_n (pc := 402) 1 dX6_isOwnHere_402 rfl rfl ?_
        refine xr_aload_n (pc := 403) 1 dX6_isOwnHere_403 rfl rfl ?_
        refine xt_getA (pc := 404) 43 (by decide) q1789 rfl rfl rfl dX6_isOwnHere_404 ?_
        obtain ⟨r33, τ33, hτ33, hf⟩ := xo_bd hf
        refine call_f_t_isHere (pc := 407) hτ33 rfl (Nat.le_of_ble_eq_true rfl) (Nat.le_of_ble_eq_true rfl) (Nat.le_of_ble_eq_true rfl) dX6_isOwnHere_407 ?_
        refine xr_if_eq (pc := 410) 417 dX6_isOwnHere_410 (by decide) (fun c_ => ?_) (fun c_ => ?_)
        · have hf := xo_pos c_ hf
          refine xr_iconst (pc := 417) dX6_isOwnHere_417 xci_0 ?_
          refine xr_istore_n (pc := 418) (loc' := [(1, .int 0), (0, .ref m)]) dX6_isOwnHere_418 rfl (by decide) rfl ?_
          refine xr_iload_n (pc := 419) 0 dX6_isOwnHere_419 rfl rfl ?_
          rw [kr _ (Option.some.inj hf).symm]
          exact xr_zret (pc := 420) dX6_isOwnHere_420 rfl xz_0
        · have hf := xo_neg c_ hf
          refine xV_sub [] rfl ?_
          exact ok_Jt_isOwnHere_413 hf kr
      · have hf := xo_neg c_ hf
        refine xV_sub [] rfl ?_
        exact ok_Jt_isOwnHere_413 hf kr
    · have hf := xo_neg c_ hf
      refine xV_sub [] rfl ?_
      exact ok_Jt_isOwnHere_413 hf kr
  · have hf := xo_neg c_ hf
    refine xV_sub [] rfl ?_
    exact ok_Jt_isOwnHere_413 hf kr
def Jt_isOwnHere_370 (τ : TS) : Option (Int32 × TS) :=
  Jt_isOwnHere_375 1 τ
theorem ok_Jt_isOwnHere_370 {D : TD} {m : Nat} {K : xK} {Z : Option Value × TS} {τ : TS} {o_ : (Int32 × TS)} (hf : Jt_isOwnHere_370 τ = some o_) (kr : ∀ r_ : (Int32 × TS), o_ = r_ → Z = (some (.int r_.1), r_.2)) : xV (wT D m) K mX6_isOwnHere (xQ (wT D m) K Z) τ 370 [(0, .ref m)] [] := by
  unfold Jt_isOwnHere_370 at hf
  refine xr_iconst (pc := 370) dX6_isOwnHere_370 xci_1 ?_
  refine xr_goto (pc := 371) 375 dX6_isOwnHere_371 (by decide) ?_
  exact ok_Jt_isOwnHere_375 hf kr
def Jt_isOwnHere_299 (s0 : Int32) (τ : TS) : Option (Int32 × TS) :=
  if s0 = 0 then
  xbd (f_t_isHere 35 τ) fun r25 τ25 =>
  if r25 = 0 then
  xbd (f_t_isHere 36 τ25) fun r26 τ26 =>
  if r26 = 0 then
  xbd (f_t_isHere 37 τ26) fun r27 τ27 =>
  if r27 = 0 then
  xbd (f_t_isHere 38 τ27) fun r28 τ28 =>
  if r28 = 0 then
  xbd (f_t_isHere 39 τ28) fun r29 τ29 =>
  if r29 = 0 then
  xbd (f_t_isHere 40 τ29) fun r30 τ30 =>
  if r30 = 0 then
  Jt_isOwnHere_375 0 τ30
  else
  Jt_isOwnHere_370 τ30
  else
  Jt_isOwnHere_370 τ29
  else
  Jt_isOwnHere_370 τ28
  else
  Jt_isOwnHere_370 τ27
  else
  Jt_isOwnHere_370 τ26
  else
  Jt_isOwnHere_370 τ25
  else
  Jt_isOwnHere_370 τ
theorem ok_Jt_isOwnHere_299 {D : TD} {m : Nat} {K : xK} {Z : Option Value × TS} {s0 : Int32} {τ : TS} {o_ : (Int32 × TS)} (hf : Jt_isOwnHere_299 s0 τ = some o_) (kr : ∀ r_ : (Int32 × TS), o_ = r_ → Z = (some (.int r_.1), r_.2)) : xV (wT D m) K mX6_isOwnHere (xQ (wT D m) K Z) τ 299 [(0, .ref m)] [.int s0] := by
  unfold Jt_isOwnHere_299 at hf
  refine xr_istore_n (pc := 299) (loc' := [(1, .int s0), (0, .ref m)]) dX6_isOwnHere_299 rfl (by decide) rfl ?_
  refine xr_iload_n (pc := 300) 0 dX6_isOwnHere_300 rfl rfl ?_
  refine xr_if_ne (pc := 301) 370 dX6_isOwnHere_301 (by decide) (fun c_ => ?_) (fun c_ => ?_)
  · have hf := xo_pos c_ hf
    refine xr_aload_n (pc := 304) 1 dX6_isOwnHere_304 rfl rfl ?_
    refine xr_aload_n (pc := 305) 1 dX6_isOwnHere_305 rfl rfl ?_
    refine xt_getA (pc := 306) 35 (by decide) q1781 rfl rfl rfl dX6_isOwnHere_306 ?_
    obtain ⟨r25, τ25, hτ25, hf⟩ := xo_bd hf
    refine call_f_t_isHere (pc := 309) hτ25 rfl (Nat.le_of_ble_eq_true rfl) (Nat.le_of_ble_eq_true rfl) (Nat.le_of_ble_eq_true rfl) dX6_isOwnHere_309 ?_
    refine xr_if_ne (pc := 312) 370 dX6_isOwnHere_312 (by decide) (fun c_ => ?_) (fun c_ => ?_)
    · have hf := xo_pos c_ hf
      refine xr_aload_n (pc := 315) 1 dX6_isOwnHere_315 rfl rfl ?_
      refine xr_aload_n (pc := 316) 1 dX6_isOwnHere_316 rfl rfl ?_
      refine xt_getA (pc := 317) 36 (by decide) q1782 rfl rfl rfl dX6_isOwnHere_317 ?_
      obtain ⟨r26, τ26, hτ26, hf⟩ := xo_bd hf
      refine call_f_t_isHere (pc := 320) hτ26 rfl (Nat.le_of_ble_eq_true rfl) (Nat.le_of_ble_eq_true rfl) (Nat.le_of_ble_eq_true rfl) dX6_isOwnHere_320 ?_
      refine xr_if_ne (pc := 323) 370 dX6_isOwnHere_323 (by decide) (fun c_ => ?_) (fun c_ => ?_)
      · have hf := xo_pos c_ hf
        refine xr_aload_n (pc := 326) 1 dX6_isOwnHere_326 rfl rfl ?_
        refine xr_aload_n (pc := 327) 1 dX6_isOwnHere_327 rfl rfl ?_
        refine xt_getA (pc := 328) 37 (by decide) q1783 rfl rfl rfl dX6_isOwnHere_328 ?_
        obtain ⟨r27, τ27, hτ27, hf⟩ := xo_bd hf
        refine call_f_t_isHere (pc := 331) hτ27 rfl (Nat.le_of_ble_eq_true rfl) (Nat.le_of_ble_eq_true rfl) (Nat.le_of_ble_eq_true rfl) dX6_isOwnHere_331 ?_
        refine xr_if_ne (pc := 334) 370 dX6_isOwnHere_334 (by decide) (fun c_ => ?_) (fun c_ => ?_)
        · have hf := xo_pos c_ hf
          refine xr_aload_n (pc := 337) 1 dX6_isOwnHere_337 rfl rfl ?_
          refine xr_aload_n (pc := 338) 1 dX6_isOwnHere_338 rfl rfl ?_
          refine xt_getA (pc := 339) 38 (by decide) q1784 rfl rfl rfl dX6_isOwnHere_339 ?_
          obtain ⟨r28, τ28, hτ28, hf⟩ := xo_bd hf
          refine call_f_t_isHere (pc := 342) hτ28 rfl (Nat.le_of_ble_eq_true rfl) (Nat.le_of_ble_eq_true rfl) (Nat.le_of_ble_eq_true rfl) dX6_isOwnHere_342 ?_
          refine xr_if_ne (pc := 345) 370 dX6_isOwnHere_345 (by decide) (fun c_ => ?_) (fun c_ => ?_)
          · have hf := xo_pos c_ hf
            refine xr_aload_n (pc := 348) 1 dX6_isOwnHere_348 rfl rfl ?_
            refine xr_aload_n (pc := 349) 1 dX6_isOwnHere_349 rfl rfl ?_
            refine xt_getA (pc := 350) 39 (by decide) q1785 rfl rfl rfl dX6_isOwnHere_350 ?_
            obtain ⟨r29, τ29, hτ29, hf⟩ := xo_bd hf
            refine call_f_t_isHere (pc := 353) hτ29 rfl (Nat.le_of_ble_eq_true rfl) (Nat.le_of_ble_eq_true rfl) (Nat.le_of_ble_eq_true rfl) dX6_isOwnHere_353 ?_
            refine xr_if_ne (pc := 356) 370 dX6_isOwnHere_356 (by decide) (fun c_ => ?_) (fun c_ => ?_)
            · have hf := xo_pos c_ hf
              refine xr_aload_n (pc := 359) 1 dX6_isOwnHere_359 rfl rfl ?_
              refine xr_aload_n (pc := 360) 1 dX6_isOwnHere_360 rfl rfl ?_
              refine xt_getA (pc := 361) 40 (by decide) q1786 rfl rfl rfl dX6_isOwnHere_361 ?_
              obtain ⟨r30, τ30, hτ30, hf⟩ := xo_bd hf
              refine call_f_t_isHere (pc := 364) hτ30 rfl (Nat.le_of_ble_eq_true rfl) (Nat.le_of_ble_eq_true rfl) (Nat.le_of_ble_eq_true rfl) dX6_isOwnHere_364 ?_
              refine xr_if_eq (pc := 367) 374 dX6_isOwnHere_367 (by decide) (fun c_ => ?_) (fun c_ => ?_)
              · have hf := xo_pos c_ hf
                refine xr_iconst (pc := 374) dX6_isOwnHere_374 xci_0 ?_
                refine xV_sub [1] rfl ?_
                exact ok_Jt_isOwnHere_375 hf kr
              · have hf := xo_neg c_ hf
                refine xV_sub [1] rfl ?_
                exact ok_Jt_isOwnHere_370 hf kr
            · have hf := xo_neg c_ hf
              refine xV_sub [1] rfl ?_
              exact ok_Jt_isOwnHere_370 hf kr
          · have hf := xo_neg c_ hf
            refine xV_sub [1] rfl ?_
            exact ok_Jt_isOwnHere_370 hf kr
        · have hf := xo_neg c_ hf
          refine xV_sub [1] rfl ?_
          exact ok_Jt_isOwnHere_370 hf kr
      · have hf := xo_neg c_ hf
        refine xV_sub [1] rfl ?_
        exact ok_Jt_isOwnHere_370 hf kr
    · have hf := xo_neg c_ hf
      refine xV_sub [1] rfl ?_
      exact ok_Jt_isOwnHere_370 hf kr
  · have hf := xo_neg c_ hf
    refine xV_sub [1] rfl ?_
    exact ok_Jt_isOwnHere_370 hf kr
def Jt_isOwnHere_294 (τ : TS) : Option (Int32 × TS) :=
  Jt_isOwnHere_299 1 τ
theorem ok_Jt_isOwnHere_294 {D : TD} {m : Nat} {K : xK} {Z : Option Value × TS} {τ : TS} {o_ : (Int32 × TS)} (hf : Jt_isOwnHere_294 τ = some o_) (kr : ∀ r_ : (Int32 × TS), o_ = r_ → Z = (some (.int r_.1), r_.2)) : xV (wT D m) K mX6_isOwnHere (xQ (wT D m) K Z) τ 294 [(0, .ref m)] [] := by
  unfold Jt_isOwnHere_294 at hf
  refine xr_iconst (pc := 294) dX6_isOwnHere_294 xci_1 ?_
  refine xr_goto (pc := 295) 299 dX6_isOwnHere_295 (by decide) ?_
  exact ok_Jt_isOwnHere_299 hf kr
def Jt_isOwnHere_223 (s0 : Int32) (τ : TS) : Option (Int32 × TS) :=
  if s0 = 0 then
  xbd (f_t_isHere 29 τ) fun r19 τ19 =>
  if r19 = 0 then
  xbd (f_t_isHere 30 τ19) fun r20 τ20 =>
  if r20 = 0 then
  xbd (f_t_isHere 31 τ20) fun r21 τ21 =>
  if r21 = 0 then
  xbd (f_t_isHere 32 τ21) fun r22 τ22 =>
  if r22 = 0 then
  xbd (f_t_isHere 33 τ22) fun r23 τ23 =>
  if r23 = 0 then
  xbd (f_t_isHere 34 τ23) fun r24 τ24 =>
  if r24 = 0 then
  Jt_isOwnHere_299 0 τ24
  else
  Jt_isOwnHere_294 τ24
  else
  Jt_isOwnHere_294 τ23
  else
  Jt_isOwnHere_294 τ22
  else
  Jt_isOwnHere_294 τ21
  else
  Jt_isOwnHere_294 τ20
  else
  Jt_isOwnHere_294 τ19
  else
  Jt_isOwnHere_294 τ
theorem ok_Jt_isOwnHere_223 {D : TD} {m : Nat} {K : xK} {Z : Option Value × TS} {s0 : Int32} {τ : TS} {o_ : (Int32 × TS)} (hf : Jt_isOwnHere_223 s0 τ = some o_) (kr : ∀ r_ : (Int32 × TS), o_ = r_ → Z = (some (.int r_.1), r_.2)) : xV (wT D m) K mX6_isOwnHere (xQ (wT D m) K Z) τ 223 [(0, .ref m)] [.int s0] := by
  unfold Jt_isOwnHere_223 at hf
  refine xr_istore_n (pc := 223) (loc' := [(1, .int s0), (0, .ref m)]) dX6_isOwnHere_223 rfl (by decide) rfl ?_
  refine xr_iload_n (pc := 224) 0 dX6_isOwnHere_224 rfl rfl ?_
  refine xr_if_ne (pc := 225) 294 dX6_isOwnHere_225 (by decide) (fun c_ => ?_) (fun c_ => ?_)
  · have hf := xo_pos c_ hf
    refine xr_aload_n (pc := 228) 1 dX6_isOwnHere_228 rfl rfl ?_
    refine xr_aload_n (pc := 229) 1 dX6_isOwnHere_229 rfl rfl ?_
    refine xt_getA (pc := 230) 29 (by decide) q1775 rfl rfl rfl dX6_isOwnHere_230 ?_
    obtain ⟨r19, τ19, hτ19, hf⟩ := xo_bd hf
    refine call_f_t_isHere (pc := 233) hτ19 rfl (Nat.le_of_ble_eq_true rfl) (Nat.le_of_ble_eq_true rfl) (Nat.le_of_ble_eq_true rfl) dX6_isOwnHere_233 ?_
    refine xr_if_ne (pc := 236) 294 dX6_isOwnHere_236 (by decide) (fun c_ => ?_) (fun c_ => ?_)
    · have hf := xo_pos c_ hf
      refine xr_aload_n (pc := 239) 1 dX6_isOwnHere_239 rfl rfl ?_
      refine xr_aload_n (pc := 240) 1 dX6_isOwnHere_240 rfl rfl ?_
      refine xt_getA (pc := 241) 30 (by decide) q1776 rfl rfl rfl dX6_isOwnHere_241 ?_
      obtain ⟨r20, τ20, hτ20, hf⟩ := xo_bd hf
      refine call_f_t_isHere (pc := 244) hτ20 rfl (Nat.le_of_ble_eq_true rfl) (Nat.le_of_ble_eq_true rfl) (Nat.le_of_ble_eq_true rfl) dX6_isOwnHere_244 ?_
      refine xr_if_ne (pc := 247) 294 dX6_isOwnHere_247 (by decide) (fun c_ => ?_) (fun c_ => ?_)
      · have hf := xo_pos c_ hf
        refine xr_aload_n (pc := 250) 1 dX6_isOwnHere_250 rfl rfl ?_
        refine xr_aload_n (pc := 251) 1 dX6_isOwnHere_251 rfl rfl ?_
        refine xt_getA (pc := 252) 31 (by decide) q1777 rfl rfl rfl dX6_isOwnHere_252 ?_
        obtain ⟨r21, τ21, hτ21, hf⟩ := xo_bd hf
        refine call_f_t_isHere (pc := 255) hτ21 rfl (Nat.le_of_ble_eq_true rfl) (Nat.le_of_ble_eq_true rfl) (Nat.le_of_ble_eq_true rfl) dX6_isOwnHere_255 ?_
        refine xr_if_ne (pc := 258) 294 dX6_isOwnHere_258 (by decide) (fun c_ => ?_) (fun c_ => ?_)
        · have hf := xo_pos c_ hf
          refine xr_aload_n (pc := 261) 1 dX6_isOwnHere_261 rfl rfl ?_
          refine xr_aload_n (pc := 262) 1 dX6_isOwnHere_262 rfl rfl ?_
          refine xt_getA (pc := 263) 32 (by decide) q1778 rfl rfl rfl dX6_isOwnHere_263 ?_
          obtain ⟨r22, τ22, hτ22, hf⟩ := xo_bd hf
          refine call_f_t_isHere (pc := 266) hτ22 rfl (Nat.le_of_ble_eq_true rfl) (Nat.le_of_ble_eq_true rfl) (Nat.le_of_ble_eq_true rfl) dX6_isOwnHere_266 ?_
          refine xr_if_ne (pc := 269) 294 dX6_isOwnHere_269 (by decide) (fun c_ => ?_) (fun c_ => ?_)
          · have hf := xo_pos c_ hf
            refine xr_aload_n (pc := 272) 1 dX6_isOwnHere_272 rfl rfl ?_
            refine xr_aload_n (pc := 273) 1 dX6_isOwnHere_273 rfl rfl ?_
            refine xt_getA (pc := 274) 33 (by decide) q1779 rfl rfl rfl dX6_isOwnHere_274 ?_
            obtain ⟨r23, τ23, hτ23, hf⟩ := xo_bd hf
            refine call_f_t_isHere (pc := 277) hτ23 rfl (Nat.le_of_ble_eq_true rfl) (Nat.le_of_ble_eq_true rfl) (Nat.le_of_ble_eq_true rfl) dX6_isOwnHere_277 ?_
            refine xr_if_ne (pc := 280) 294 dX6_isOwnHere_280 (by decide) (fun c_ => ?_) (fun c_ => ?_)
            · have hf := xo_pos c_ hf
              refine xr_aload_n (pc := 283) 1 dX6_isOwnHere_283 rfl rfl ?_
              refine xr_aload_n (pc := 284) 1 dX6_isOwnHere_284 rfl rfl ?_
              refine xt_getA (pc := 285) 34 (by decide) q1780 rfl rfl rfl dX6_isOwnHere_285 ?_
              obtain ⟨r24, τ24, hτ24, hf⟩ := xo_bd hf
              refine call_f_t_isHere (pc := 288) hτ24 rfl (Nat.le_of_ble_eq_true rfl) (Nat.le_of_ble_eq_true rfl) (Nat.le_of_ble_eq_true rfl) dX6_isOwnHere_288 ?_
              refine xr_if_eq (pc := 291) 298 dX6_isOwnHere_291 (by decide) (fun c_ => ?_) (fun c_ => ?_)
              · have hf := xo_pos c_ hf
                refine xr_iconst (pc := 298) dX6_isOwnHere_298 xci_0 ?_
                refine xV_sub [1] rfl ?_
                exact ok_Jt_isOwnHere_299 hf kr
              · have hf := xo_neg c_ hf
                refine xV_sub [1] rfl ?_
                exact ok_Jt_isOwnHere_294 hf kr
            · have hf := xo_neg c_ hf
              refine xV_sub [1] rfl ?_
              exact ok_Jt_isOwnHere_294 hf kr
          · have hf := xo_neg c_ hf
            refine xV_sub [1] rfl ?_
            exact ok_Jt_isOwnHere_294 hf kr
        · have hf := xo_neg c_ hf
          refine xV_sub [1] rfl ?_
          exact ok_Jt_isOwnHere_294 hf kr
      · have hf := xo_neg c_ hf
        refine xV_sub [1] rfl ?_
        exact ok_Jt_isOwnHere_294 hf kr
    · have hf := xo_neg c_ hf
      refine xV_sub [1] rfl ?_
      exact ok_Jt_isOwnHere_294 hf kr
  · have hf := xo_neg c_ hf
    refine xV_sub [1] rfl ?_
    exact ok_Jt_isOwnHere_294 hf kr
def Jt_isOwnHere_218 (τ : TS) : Option (Int32 × TS) :=
  Jt_isOwnHere_223 1 τ
theorem ok_Jt_isOwnHere_218 {D : TD} {m : Nat} {K : xK} {Z : Option Value × TS} {τ : TS} {o_ : (Int32 × TS)} (hf : Jt_isOwnHere_218 τ = some o_) (kr : ∀ r_ : (Int32 × TS), o_ = r_ → Z = (some (.int r_.1), r_.2)) : xV (wT D m) K mX6_isOwnHere (xQ (wT D m) K Z) τ 218 [(0, .ref m)] [] := by
  unfold Jt_isOwnHere_218 at hf
  refine xr_iconst (pc := 218) dX6_isOwnHere_218 xci_1 ?_
  refine xr_goto (pc := 219) 223 dX6_isOwnHere_219 (by decide) ?_
  exact ok_Jt_isOwnHere_223 hf kr
def Jt_isOwnHere_147 (s0 : Int32) (τ : TS) : Option (Int32 × TS) :=
  if s0 = 0 then
  xbd (f_t_isHere 23 τ) fun r13 τ13 =>
  if r13 = 0 then
  xbd (f_t_isHere 24 τ13) fun r14 τ14 =>
  if r14 = 0 then
  xbd (f_t_isHere 25 τ14) fun r15 τ15 =>
  if r15 = 0 then
  xbd (f_t_isHere 26 τ15) fun r16 τ16 =>
  if r16 = 0 then
  xbd (f_t_isHere 27 τ16) fun r17 τ17 =>
  if r17 = 0 then
  xbd (f_t_isHere 28 τ17) fun r18 τ18 =>
  if r18 = 0 then
  Jt_isOwnHere_223 0 τ18
  else
  Jt_isOwnHere_218 τ18
  else
  Jt_isOwnHere_218 τ17
  else
  Jt_isOwnHere_218 τ16
  else
  Jt_isOwnHere_218 τ15
  else
  Jt_isOwnHere_218 τ14
  else
  Jt_isOwnHere_218 τ13
  else
  Jt_isOwnHere_218 τ
theorem ok_Jt_isOwnHere_147 {D : TD} {m : Nat} {K : xK} {Z : Option Value × TS} {s0 : Int32} {τ : TS} {o_ : (Int32 × TS)} (hf : Jt_isOwnHere_147 s0 τ = some o_) (kr : ∀ r_ : (Int32 × TS), o_ = r_ → Z = (some (.int r_.1), r_.2)) : xV (wT D m) K mX6_isOwnHere (xQ (wT D m) K Z) τ 147 [(0, .ref m)] [.int s0] := by
  unfold Jt_isOwnHere_147 at hf
  refine xr_istore_n (pc := 147) (loc' := [(1, .int s0), (0, .ref m)]) dX6_isOwnHere_147 rfl (by decide) rfl ?_
  refine xr_iload_n (pc := 148) 0 dX6_isOwnHere_148 rfl rfl ?_
  refine xr_if_ne (pc := 149) 218 dX6_isOwnHere_149 (by decide) (fun c_ => ?_) (fun c_ => ?_)
  · have hf := xo_pos c_ hf
    refine xr_aload_n (pc := 152) 1 dX6_isOwnHere_152 rfl rfl ?_
    refine xr_aload_n (pc := 153) 1 dX6_isOwnHere_153 rfl rfl ?_
    refine xt_getA (pc := 154) 23 (by decide) q1769 rfl rfl rfl dX6_isOwnHere_154 ?_
    obtain ⟨r13, τ13, hτ13, hf⟩ := xo_bd hf
    refine call_f_t_isHere (pc := 157) hτ13 rfl (Nat.le_of_ble_eq_true rfl) (Nat.le_of_ble_eq_true rfl) (Nat.le_of_ble_eq_true rfl) dX6_isOwnHere_157 ?_
    refine xr_if_ne (pc := 160) 218 dX6_isOwnHere_160 (by decide) (fun c_ => ?_) (fun c_ => ?_)
    · have hf := xo_pos c_ hf
      refine xr_aload_n (pc := 163) 1 dX6_isOwnHere_163 rfl rfl ?_
      refine xr_aload_n (pc := 164) 1 dX6_isOwnHere_164 rfl rfl ?_
      refine xt_getA (pc := 165) 24 (by decide) q1770 rfl rfl rfl dX6_isOwnHere_165 ?_
      obtain ⟨r14, τ14, hτ14, hf⟩ := xo_bd hf
      refine call_f_t_isHere (pc := 168) hτ14 rfl (Nat.le_of_ble_eq_true rfl) (Nat.le_of_ble_eq_true rfl) (Nat.le_of_ble_eq_true rfl) dX6_isOwnHere_168 ?_
      refine xr_if_ne (pc := 171) 218 dX6_isOwnHere_171 (by decide) (fun c_ => ?_) (fun c_ => ?_)
      · have hf := xo_pos c_ hf
        refine xr_aload_n (pc := 174) 1 dX6_isOwnHere_174 rfl rfl ?_
        refine xr_aload_n (pc := 175) 1 dX6_isOwnHere_175 rfl rfl ?_
        refine xt_getA (pc := 176) 25 (by decide) q1771 rfl rfl rfl dX6_isOwnHere_176 ?_
        obtain ⟨r15, τ15, hτ15, hf⟩ := xo_bd hf
        refine call_f_t_isHere (pc := 179) hτ15 rfl (Nat.le_of_ble_eq_true rfl) (Nat.le_of_ble_eq_true rfl) (Nat.le_of_ble_eq_true rfl) dX6_isOwnHere_179 ?_
        refine xr_if_ne (pc := 182) 218 dX6_isOwnHere_182 (by decide) (fun c_ => ?_) (fun c_ => ?_)
        · have hf := xo_pos c_ hf
          refine xr_aload_n (pc := 185) 1 dX6_isOwnHere_185 rfl rfl ?_
          refine xr_aload_n (pc := 186) 1 dX6_isOwnHere_186 rfl rfl ?_
          refine xt_getA (pc := 187) 26 (by decide) q1772 rfl rfl rfl dX6_isOwnHere_187 ?_
          obtain ⟨r16, τ16, hτ16, hf⟩ := xo_bd hf
          refine call_f_t_isHere (pc := 190) hτ16 rfl (Nat.le_of_ble_eq_true rfl) (Nat.le_of_ble_eq_true rfl) (Nat.le_of_ble_eq_true rfl) dX6_isOwnHere_190 ?_
          refine xr_if_ne (pc := 193) 218 dX6_isOwnHere_193 (by decide) (fun c_ => ?_) (fun c_ => ?_)
          · have hf := xo_pos c_ hf
            refine xr_aload_n (pc := 196) 1 dX6_isOwnHere_196 rfl rfl ?_
            refine xr_aload_n (pc := 197) 1 dX6_isOwnHere_197 rfl rfl ?_
            refine xt_getA (pc := 198) 27 (by decide) q1773 rfl rfl rfl dX6_isOwnHere_198 ?_
            obtain ⟨r17, τ17, hτ17, hf⟩ := xo_bd hf
            refine call_f_t_isHere (pc := 201) hτ17 rfl (Nat.le_of_ble_eq_true rfl) (Nat.le_of_ble_eq_true rfl) (Nat.le_of_ble_eq_true rfl) dX6_isOwnHere_201 ?_
            refine xr_if_ne (pc := 204) 218 dX6_isOwnHere_204 (by decide) (fun c_ => ?_) (fun c_ => ?_)
            · have hf := xo_pos c_ hf
              refine xr_aload_n (pc := 207) 1 dX6_isOwnHere_207 rfl rfl ?_
              refine xr_aload_n (pc := 208) 1 dX6_isOwnHere_208 rfl rfl ?_
              refine xt_getA (pc := 209) 28 (by decide) q1774 rfl rfl rfl dX6_isOwnHere_209 ?_
              obtain ⟨r18, τ18, hτ18, hf⟩ := xo_bd hf
              refine call_f_t_isHere (pc := 212) hτ18 rfl (Nat.le_of_ble_eq_true rfl) (Nat.le_of_ble_eq_true rfl) (Nat.le_of_ble_eq_true rfl) dX6_isOwnHere_212 ?_
              refine xr_if_eq (pc := 215) 222 dX6_isOwnHere_215 (by decide) (fun c_ => ?_) (fun c_ => ?_)
              · have hf := xo_pos c_ hf
                refine xr_iconst (pc := 222) dX6_isOwnHere_222 xci_0 ?_
                refine xV_sub [1] rfl ?_
                exact ok_Jt_isOwnHere_223 hf kr
              · have hf := xo_neg c_ hf
                refine xV_sub [1] rfl ?_
                exact ok_Jt_isOwnHere_218 hf kr
            · have hf := xo_neg c_ hf
              refine xV_sub [1] rfl ?_
              exact ok_Jt_isOwnHere_218 hf kr
          · have hf := xo_neg c_ hf
            refine xV_sub [1] rfl ?_
            exact ok_Jt_isOwnHere_218 hf kr
        · have hf := xo_neg c_ hf
          refine xV_sub [1] rfl ?_
          exact ok_Jt_isOwnHere_218 hf kr
      · have hf := xo_neg c_ hf
        refine xV_sub [1] rfl ?_
        exact ok_Jt_isOwnHere_218 hf kr
    · have hf := xo_neg c_ hf
      refine xV_sub [1] rfl ?_
      exact ok_Jt_isOwnHere_218 hf kr
  · have hf := xo_neg c_ hf
    refine xV_sub [1] rfl ?_
    exact ok_Jt_isOwnHere_218 hf kr
def Jt_isOwnHere_142 (τ : TS) : Option (Int32 × TS) :=
  Jt_isOwnHere_147 1 τ
theorem ok_Jt_isOwnHere_142 {D : TD} {m : Nat} {K : xK} {Z : Option Value × TS} {τ : TS} {o_ : (Int32 × TS)} (hf : Jt_isOwnHere_142 τ = some o_) (kr : ∀ r_ : (Int32 × TS), o_ = r_ → Z = (some (.int r_.1), r_.2)) : xV (wT D m) K mX6_isOwnHere (xQ (wT D m) K Z) τ 142 [(0, .ref m)] [] := by
  unfold Jt_isOwnHere_142 at hf
  refine xr_iconst (pc := 142) dX6_isOwnHere_142 xci_1 ?_
  refine xr_goto (pc := 143) 147 dX6_isOwnHere_143 (by decide) ?_
  exact ok_Jt_isOwnHere_147 hf kr
def Jt_isOwnHere_71 (s0 : Int32) (τ : TS) : Option (Int32 × TS) :=
  if s0 = 0 then
  xbd (f_t_isHere 17 τ) fun r7 τ7 =>
  if r7 = 0 then
  xbd (f_t_isHere 18 τ7) fun r8 τ8 =>
  if r8 = 0 then
  xbd (f_t_isHere 19 τ8) fun r9 τ9 =>
  if r9 = 0 then
  xbd (f_t_isHere 20 τ9) fun r10 τ10 =>
  if r10 = 0 then
  xbd (f_t_isHere 21 τ10) fun r11 τ11 =>
  if r11 = 0 then
  xbd (f_t_isHere 22 τ11) fun r12 τ12 =>
  if r12 = 0 then
  Jt_isOwnHere_147 0 τ12
  else
  Jt_isOwnHere_142 τ12
  else
  Jt_isOwnHere_142 τ11
  else
  Jt_isOwnHere_142 τ10
  else
  Jt_isOwnHere_142 τ9
  else
  Jt_isOwnHere_142 τ8
  else
  Jt_isOwnHere_142 τ7
  else
  Jt_isOwnHere_142 τ
theorem ok_Jt_isOwnHere_71 {D : TD} {m : Nat} {K : xK} {Z : Option Value × TS} {s0 : Int32} {τ : TS} {o_ : (Int32 × TS)} (hf : Jt_isOwnHere_71 s0 τ = some o_) (kr : ∀ r_ : (Int32 × TS), o_ = r_ → Z = (some (.int r_.1), r_.2)) : xV (wT D m) K mX6_isOwnHere (xQ (wT D m) K Z) τ 71 [(0, .ref m)] [.int s0] := by
  unfold Jt_isOwnHere_71 at hf
  refine xr_istore_n (pc := 71) (loc' := [(1, .int s0), (0, .ref m)]) dX6_isOwnHere_71 rfl (by decide) rfl ?_
  refine xr_iload_n (pc := 72) 0 dX6_isOwnHere_72 rfl rfl ?_
  refine xr_if_ne (pc := 73) 142 dX6_isOwnHere_73 (by decide) (fun c_ => ?_) (fun c_ => ?_)
  · have hf := xo_pos c_ hf
    refine xr_aload_n (pc := 76) 1 dX6_isOwnHere_76 rfl rfl ?_
    refine xr_aload_n (pc := 77) 1 dX6_isOwnHere_77 rfl rfl ?_
    refine xt_getA (pc := 78) 17 (by decide) q1763 rfl rfl rfl dX6_isOwnHere_78 ?_
    obtain ⟨r7, τ7, hτ7, hf⟩ := xo_bd hf
    refine call_f_t_isHere (pc := 81) hτ7 rfl (Nat.le_of_ble_eq_true rfl) (Nat.le_of_ble_eq_true rfl) (Nat.le_of_ble_eq_true rfl) dX6_isOwnHere_81 ?_
    refine xr_if_ne (pc := 84) 142 dX6_isOwnHere_84 (by decide) (fun c_ => ?_) (fun c_ => ?_)
    · have hf := xo_pos c_ hf
      refine xr_aload_n (pc := 87) 1 dX6_isOwnHere_87 rfl rfl ?_
      refine xr_aload_n (pc := 88) 1 dX6_isOwnHere_88 rfl rfl ?_
      refine xt_getA (pc := 89) 18 (by decide) q1764 rfl rfl rfl dX6_isOwnHere_89 ?_
      obtain ⟨r8, τ8, hτ8, hf⟩ := xo_bd hf
      refine call_f_t_isHere (pc := 92) hτ8 rfl (Nat.le_of_ble_eq_true rfl) (Nat.le_of_ble_eq_true rfl) (Nat.le_of_ble_eq_true rfl) dX6_isOwnHere_92 ?_
      refine xr_if_ne (pc := 95) 142 dX6_isOwnHere_95 (by decide) (fun c_ => ?_) (fun c_ => ?_)
      · have hf := xo_pos c_ hf
        refine xr_aload_n (pc := 98) 1 dX6_isOwnHere_98 rfl rfl ?_
        refine xr_aload_n (pc := 99) 1 dX6_isOwnHere_99 rfl rfl ?_
        refine xt_getA (pc := 100) 19 (by decide) q1765 rfl rfl rfl dX6_isOwnHere_100 ?_
        obtain ⟨r9, τ9, hτ9, hf⟩ := xo_bd hf
        refine call_f_t_isHere (pc := 103) hτ9 rfl (Nat.le_of_ble_eq_true rfl) (Nat.le_of_ble_eq_true rfl) (Nat.le_of_ble_eq_true rfl) dX6_isOwnHere_103 ?_
        refine xr_if_ne (pc := 106) 142 dX6_isOwnHere_106 (by decide) (fun c_ => ?_) (fun c_ => ?_)
        · have hf := xo_pos c_ hf
          refine xr_aload_n (pc := 109) 1 dX6_isOwnHere_109 rfl rfl ?_
          refine xr_aload_n (pc := 110) 1 dX6_isOwnHere_110 rfl rfl ?_
          refine xt_getA (pc := 111) 20 (by decide) q1766 rfl rfl rfl dX6_isOwnHere_111 ?_
          obtain ⟨r10, τ10, hτ10, hf⟩ := xo_bd hf
          refine call_f_t_isHere (pc := 114) hτ10 rfl (Nat.le_of_ble_eq_true rfl) (Nat.le_of_ble_eq_true rfl) (Nat.le_of_ble_eq_true rfl) dX6_isOwnHere_114 ?_
          refine xr_if_ne (pc := 117) 142 dX6_isOwnHere_117 (by decide) (fun c_ => ?_) (fun c_ => ?_)
          · have hf := xo_pos c_ hf
            refine xr_aload_n (pc := 120) 1 dX6_isOwnHere_120 rfl rfl ?_
            refine xr_aload_n (pc := 121) 1 dX6_isOwnHere_121 rfl rfl ?_
            refine xt_getA (pc := 122) 21 (by decide) q1767 rfl rfl rfl dX6_isOwnHere_122 ?_
            obtain ⟨r11, τ11, hτ11, hf⟩ := xo_bd hf
            refine call_f_t_isHere (pc := 125) hτ11 rfl (Nat.le_of_ble_eq_true rfl) (Nat.le_of_ble_eq_true rfl) (Nat.le_of_ble_eq_true rfl) dX6_isOwnHere_125 ?_
            refine xr_if_ne (pc := 128) 142 dX6_isOwnHere_128 (by decide) (fun c_ => ?_) (fun c_ => ?_)
            · have hf := xo_pos c_ hf
              refine xr_aload_n (pc := 131) 1 dX6_isOwnHere_131 rfl rfl ?_
              refine xr_aload_n (pc := 132) 1 dX6_isOwnHere_132 rfl rfl ?_
              refine xt_getA (pc := 133) 22 (by decide) q1768 rfl rfl rfl dX6_isOwnHere_133 ?_
              obtain ⟨r12, τ12, hτ12, hf⟩ := xo_bd hf
              refine call_f_t_isHere (pc := 136) hτ12 rfl (Nat.le_of_ble_eq_true rfl) (Nat.le_of_ble_eq_true rfl) (Nat.le_of_ble_eq_true rfl) dX6_isOwnHere_136 ?_
              refine xr_if_eq (pc := 139) 146 dX6_isOwnHere_139 (by decide) (fun c_ => ?_) (fun c_ => ?_)
              · have hf := xo_pos c_ hf
                refine xr_iconst (pc := 146) dX6_isOwnHere_146 xci_0 ?_
                refine xV_sub [1] rfl ?_
                exact ok_Jt_isOwnHere_147 hf kr
              · have hf := xo_neg c_ hf
                refine xV_sub [1] rfl ?_
                exact ok_Jt_isOwnHere_142 hf kr
            · have hf := xo_neg c_ hf
              refine xV_sub [1] rfl ?_
              exact ok_Jt_isOwnHere_142 hf kr
          · have hf := xo_neg c_ hf
            refine xV_sub [1] rfl ?_
            exact ok_Jt_isOwnHere_142 hf kr
        · have hf := xo_neg c_ hf
          refine xV_sub [1] rfl ?_
          exact ok_Jt_isOwnHere_142 hf kr
      · have hf := xo_neg c_ hf
        refine xV_sub [1] rfl ?_
        exact ok_Jt_isOwnHere_142 hf kr
    · have hf := xo_neg c_ hf
      refine xV_sub [1] rfl ?_
      exact ok_Jt_isOwnHere_142 hf kr
  · have hf := xo_neg c_ hf
    refine xV_sub [1] rfl ?_
    exact ok_Jt_isOwnHere_142 hf kr
def Jt_isOwnHere_66 (τ : TS) : Option (Int32 × TS) :=
  Jt_isOwnHere_71 1 τ
theorem ok_Jt_isOwnHere_66 {D : TD} {m : Nat} {K : xK} {Z : Option Value × TS} {τ : TS} {o_ : (Int32 × TS)} (hf : Jt_isOwnHere_66 τ = some o_) (kr : ∀ r_ : (Int32 × TS), o_ = r_ → Z = (some (.int r_.1), r_.2)) : xV (wT D m) K mX6_isOwnHere (xQ (wT D m) K Z) τ 66 [(0, .ref m)] [] := by
  unfold Jt_isOwnHere_66 at hf
  refine xr_iconst (pc := 66) dX6_isOwnHere_66 xci_1 ?_
  refine xr_goto (pc := 67) 71 dX6_isOwnHere_67 (by decide) ?_
  exact ok_Jt_isOwnHere_71 hf kr
def f_t_isOwnHere (τ : TS) : Option (Int32 × TS) :=
  xbd (f_t_isHere 11 τ) fun r1 τ1 =>
  if r1 = 0 then
  xbd (f_t_isHere 12 τ1) fun r2 τ2 =>
  if r2 = 0 then
  xbd (f_t_isHere 13 τ2) fun r3 τ3 =>
  if r3 = 0 then
  xbd (f_t_isHere 14 τ3) fun r4 τ4 =>
  if r4 = 0 then
  xbd (f_t_isHere 15 τ4) fun r5 τ5 =>
  if r5 = 0 then
  xbd (f_t_isHere 16 τ5) fun r6 τ6 =>
  if r6 = 0 then
  Jt_isOwnHere_71 0 τ6
  else
  Jt_isOwnHere_66 τ6
  else
  Jt_isOwnHere_66 τ5
  else
  Jt_isOwnHere_66 τ4
  else
  Jt_isOwnHere_66 τ3
  else
  Jt_isOwnHere_66 τ2
  else
  Jt_isOwnHere_66 τ1
theorem ok_f_t_isOwnHere {D : TD} {m : Nat} {K : xK} {Z : Option Value × TS} {τ : TS} {o_ : (Int32 × TS)} (hf : f_t_isOwnHere τ = some o_) (kr : ∀ r_ : (Int32 × TS), o_ = r_ → Z = (some (.int r_.1), r_.2)) : xV (wT D m) K mX6_isOwnHere (xQ (wT D m) K Z) τ 0 [(0, .ref m)] [] := by
  unfold f_t_isOwnHere at hf
  refine xr_aload_n (pc := 0) 0 dX6_isOwnHere_0 rfl rfl ?_
  refine xr_aload_n (pc := 1) 0 dX6_isOwnHere_1 rfl rfl ?_
  refine xt_getA (pc := 2) 11 (by decide) q1757 rfl rfl rfl dX6_isOwnHere_2 ?_
  obtain ⟨r1, τ1, hτ1, hf⟩ := xo_bd hf
  refine call_f_t_isHere (pc := 5) hτ1 rfl (Nat.le_of_ble_eq_true rfl) (Nat.le_of_ble_eq_true rfl) (Nat.le_of_ble_eq_true rfl) dX6_isOwnHere_5 ?_
  refine xr_if_ne (pc := 8) 66 dX6_isOwnHere_8 (by decide) (fun c_ => ?_) (fun c_ => ?_)
  · have hf := xo_pos c_ hf
    refine xr_aload_n (pc := 11) 0 dX6_isOwnHere_11 rfl rfl ?_
    refine xr_aload_n (pc := 12) 0 dX6_isOwnHere_12 rfl rfl ?_
    refine xt_getA (pc := 13) 12 (by decide) q1758 rfl rfl rfl dX6_isOwnHere_13 ?_
    obtain ⟨r2, τ2, hτ2, hf⟩ := xo_bd hf
    refine call_f_t_isHere (pc := 16) hτ2 rfl (Nat.le_of_ble_eq_true rfl) (Nat.le_of_ble_eq_true rfl) (Nat.le_of_ble_eq_true rfl) dX6_isOwnHere_16 ?_
    refine xr_if_ne (pc := 19) 66 dX6_isOwnHere_19 (by decide) (fun c_ => ?_) (fun c_ => ?_)
    · have hf := xo_pos c_ hf
      refine xr_aload_n (pc := 22) 0 dX6_isOwnHere_22 rfl rfl ?_
      refine xr_aload_n (pc := 23) 0 dX6_isOwnHere_23 rfl rfl ?_
      refine xt_getA (pc := 24) 13 (by decide) q1759 rfl rfl rfl dX6_isOwnHere_24 ?_
      obtain ⟨r3, τ3, hτ3, hf⟩ := xo_bd hf
      refine call_f_t_isHere (pc := 27) hτ3 rfl (Nat.le_of_ble_eq_true rfl) (Nat.le_of_ble_eq_true rfl) (Nat.le_of_ble_eq_true rfl) dX6_isOwnHere_27 ?_
      refine xr_if_ne (pc := 30) 66 dX6_isOwnHere_30 (by decide) (fun c_ => ?_) (fun c_ => ?_)
      · have hf := xo_pos c_ hf
        refine xr_aload_n (pc := 33) 0 dX6_isOwnHere_33 rfl rfl ?_
        refine xr_aload_n (pc := 34) 0 dX6_isOwnHere_34 rfl rfl ?_
        refine xt_getA (pc := 35) 14 (by decide) q1760 rfl rfl rfl dX6_isOwnHere_35 ?_
        obtain ⟨r4, τ4, hτ4, hf⟩ := xo_bd hf
        refine call_f_t_isHere (pc := 38) hτ4 rfl (Nat.le_of_ble_eq_true rfl) (Nat.le_of_ble_eq_true rfl) (Nat.le_of_ble_eq_true rfl) dX6_isOwnHere_38 ?_
        refine xr_if_ne (pc := 41) 66 dX6_isOwnHere_41 (by decide) (fun c_ => ?_) (fun c_ => ?_)
        · have hf := xo_pos c_ hf
          refine xr_aload_n (pc := 44) 0 dX6_isOwnHere_44 rfl rfl ?_
          refine xr_aload_n (pc := 45) 0 dX6_isOwnHere_45 rfl rfl ?_
          refine xt_getA (pc := 46) 15 (by decide) q1761 rfl rfl rfl dX6_isOwnHere_46 ?_
          obtain ⟨r5, τ5, hτ5, hf⟩ := xo_bd hf
          refine call_f_t_isHere (pc := 49) hτ5 rfl (Nat.le_of_ble_eq_true rfl) (Nat.le_of_ble_eq_true rfl) (Nat.le_of_ble_eq_true rfl) dX6_isOwnHere_49 ?_
          refine xr_if_ne (pc := 52) 66 dX6_isOwnHere_52 (by decide) (fun c_ => ?_) (fun c_ => ?_)
          · have hf := xo_pos c_ hf
            refine xr_aload_n (pc := 55) 0 dX6_isOwnHere_55 rfl rfl ?_
            refine xr_aload_n (pc := 56) 0 dX6_isOwnHere_56 rfl rfl ?_
            refine xt_getA (pc := 57) 16 (by decide) q1762 rfl rfl rfl dX6_isOwnHere_57 ?_
            obtain ⟨r6, τ6, hτ6, hf⟩ := xo_bd hf
            refine call_f_t_isHere (pc := 60) hτ6 rfl (Nat.le_of_ble_eq_true rfl) (Nat.le_of_ble_eq_true rfl) (Nat.le_of_ble_eq_true rfl) dX6_isOwnHere_60 ?_
            refine xr_if_eq (pc := 63) 70 dX6_isOwnHere_63 (by decide) (fun c_ => ?_) (fun c_ => ?_)
            · have hf := xo_pos c_ hf
              refine xr_iconst (pc := 70) dX6_isOwnHere_70 xci_0 ?_
              exact ok_Jt_isOwnHere_71 hf kr
            · have hf := xo_neg c_ hf
              exact ok_Jt_isOwnHere_66 hf kr
          · have hf := xo_neg c_ hf
            exact ok_Jt_isOwnHere_66 hf kr
        · have hf := xo_neg c_ hf
          exact ok_Jt_isOwnHere_66 hf kr
      · have hf := xo_neg c_ hf
        exact ok_Jt_isOwnHere_66 hf kr
    · have hf := xo_neg c_ hf
      exact ok_Jt_isOwnHere_66 hf kr
  · have hf := xo_neg c_ hf
    exact ok_Jt_isOwnHere_66 hf kr
theorem met_f_t_isOwnHere (l : Launch) {D : TD} {m : Nat} {τ : TS} {o_ : (Int32 × TS)} (hf : f_t_isOwnHere τ = some o_) : xMet (wT D m) l yX6_isOwnHere (ws_ yX6_isOwnHere cX6_isOwnHere 2 (some .boolean)) 2 120 0 0 [.ref m] τ (some (.int o_.1), o_.2) :=
  xMet_of (by decide) (Nat.le_of_ble_eq_true rfl) KT_moved (fun _ _ => trivial) (fun K _ _ _ => ok_f_t_isOwnHere hf (fun _ h => by rw [h]))
theorem hd_f_t_isOwnHere : yX6_isOwnHere.cls = RX6 ∧ yX6_isOwnHere.cls ≠ "java/lang/invoke/MethodHandle" ∧ yX6_isOwnHere.cls ≠ "java/lang/invoke/VarHandle" ∧ (parseMethodDescriptor yX6_isOwnHere.desc).map (fun d => d.parameters.length) = some 0 := by decide +kernel
theorem call_f_t_isOwnHere {D : TD} {m : Nat} {K : xK} {M : xM} {Q : State → Prop} {τ : TS} {pc : Nat} {loc : List (Nat × Value)} {st : List Value} {r : Int32} {τ1 : TS} (hf : f_t_isOwnHere τ = some (r, τ1)) (ho : M.2.2.1 = RX6) (hfr : 3 ≤ M.2.2.2.1) (hlo : 141 ≤ M.2.2.2.2.1) (hcat : (st.map fun v => v.category).sum ≤ 8) (d : decode M.1 pc = .ok (.invokevirtual 347, 3)) (k : xV (wT D m) K M Q τ1 (pc + 3) loc (.int r :: st)) : xV (wT D m) K M Q τ pc loc (.ref m :: st) :=
  xr_callV (As := []) (rest := st) (met_f_t_isOwnHere K.2.1 hf) (lw_V q2232 q2234 qs83 q186 q2235) hd_f_t_isOwnHere ho hfr hlo rfl (fun H hR hK => t_recv H hR hK) rfl hcat d k
abbrev mX6_name : xM := (cX6_name, 3, RX6, 3, 180, (some .long), "name")
def Jt_name_37 (τ : TS) : Option (Int64 × TS) :=
  (f_t_fail 1 (tI τ 2) τ).bind fun τ3 =>
  some ((0, τ3))
theorem ok_Jt_name_37 {D : TD} {m : Nat} {K : xK} {Z : Option Value × TS} {τ : TS} {o_ : (Int64 × TS)} (hf : Jt_name_37 τ = some o_) (kr : ∀ r_ : (Int64 × TS), o_ = r_ → Z = (some (.long r_.1), r_.2)) : xV (wT D m) K mX6_name (xQ (wT D m) K Z) τ 37 [(0, .ref m)] [] := by
  unfold Jt_name_37 at hf
  refine xr_aload_n (pc := 37) 0 dX6_name_37 rfl rfl ?_
  refine xr_iconst (pc := 38) dX6_name_38 xci_1 ?_
  refine xr_aload_n (pc := 39) 0 dX6_name_39 rfl rfl ?_
  refine xt_getI (pc := 40) 2 (by decide) q1748 rfl rfl rfl dX6_name_40 ?_
  obtain ⟨τ3, hτ3, hf⟩ := xo_bind hf
  refine call_f_t_fail (pc := 43) hτ3 rfl (Nat.le_of_ble_eq_true rfl) (Nat.le_of_ble_eq_true rfl) (Nat.le_of_ble_eq_true rfl) dX6_name_43 ?_
  refine xr_lconst (pc := 46) dX6_name_46 (by decide : _ = (0 : Int64)) ?_
  rw [kr _ (Option.some.inj hf).symm]
  exact xr_lret (pc := 47) dX6_name_47 rfl
def Jt_name_145 (x1 : Int64) (τ : TS) : Option ((Int64 × TS) ⊕ ((TS) ⊕ ((Int64 × TS)))) :=
  some (.inr (.inr (x1, sI τ 4 (tI τ 2))))
theorem ok_Jt_name_145 {D : TD} {m : Nat} {K : xK} {Z : Option Value × TS} {x1 : Int64} {τ : TS} {o_ : ((Int64 × TS) ⊕ ((TS) ⊕ ((Int64 × TS))))} (hf : Jt_name_145 x1 τ = some o_) (kc : ∀ s_ : Int64 × TS, o_ = .inl s_ → xV (wT D m) K mX6_name (xQ (wT D m) K Z) s_.2 58 [(0, .ref m), (1, .long s_.1)] []) (ke0 : ∀ e_ : TS, o_ = .inr (.inl e_) → xV (wT D m) K mX6_name (xQ (wT D m) K Z) e_ 98 [(0, .ref m)] []) (kr : ∀ r_ : (Int64 × TS), o_ = .inr (.inr r_) → Z = (some (.long r_.1), r_.2)) : xV (wT D m) K mX6_name (xQ (wT D m) K Z) τ 145 [(0, .ref m), (1, .long x1)] [] := by
  unfold Jt_name_145 at hf
  refine xr_aload_n (pc := 145) 0 dX6_name_145 rfl rfl ?_
  refine xr_aload_n (pc := 146) 0 dX6_name_146 rfl rfl ?_
  refine xt_getI (pc := 147) 2 (by decide) q1748 rfl rfl rfl dX6_name_147 ?_
  refine xt_putI (pc := 150) 4 (by decide) q1750 rfl rfl rfl (by decide +kernel) rfl dX6_name_150 ?_
  refine xr_lload_n (pc := 153) 1 dX6_name_153 rfl rfl ?_
  rw [kr _ (Option.some.inj hf).symm]
  exact xr_lret (pc := 154) dX6_name_154 rfl
def Bt_name_58 (x1 : Int64) (τ : TS) : Option ((Int64 × TS) ⊕ ((TS) ⊕ ((Int64 × TS)))) :=
  if (tI τ 3) ≤ (tI τ 2) then
  Jt_name_145 x1 τ
  else
  if xin (tI τ 2) 1600 = true then
  xbd (f_t_isLetter (tA τ 0 (tI τ 2).toNatClampNeg) τ) fun r5 τ5 =>
  if r5 = 0 then
  Jt_name_145 x1 τ5
  else
  if ((tI τ5 2) - (tI τ5 44)) = 6 then
  some (.inr (.inl τ5))
  else
  if xin (tI τ5 2) 1600 = true then
  some (.inl ((((27 * x1) + ((tA τ5 0 (tI τ5 2).toNatClampNeg).toInt64)) - 97) + 1, sI τ5 2 ((tI τ5 2) + 1)))
  else none
  else none
theorem ok_Bt_name_58 {D : TD} {m : Nat} {K : xK} {Z : Option Value × TS} {x1 : Int64} {τ : TS} {o_ : ((Int64 × TS) ⊕ ((TS) ⊕ ((Int64 × TS))))} (hf : Bt_name_58 x1 τ = some o_) (kc : ∀ s_ : Int64 × TS, o_ = .inl s_ → xV (wT D m) K mX6_name (xQ (wT D m) K Z) s_.2 58 [(0, .ref m), (1, .long s_.1)] []) (ke0 : ∀ e_ : TS, o_ = .inr (.inl e_) → xV (wT D m) K mX6_name (xQ (wT D m) K Z) e_ 98 [(0, .ref m)] []) (kr : ∀ r_ : (Int64 × TS), o_ = .inr (.inr r_) → Z = (some (.long r_.1), r_.2)) : xV (wT D m) K mX6_name (xQ (wT D m) K Z) τ 58 [(0, .ref m), (1, .long x1)] [] := by
  unfold Bt_name_58 at hf
  refine xr_aload_n (pc := 58) 0 dX6_name_58 rfl rfl ?_
  refine xt_getI (pc := 59) 2 (by decide) q1748 rfl rfl rfl dX6_name_59 ?_
  refine xr_aload_n (pc := 62) 0 dX6_name_62 rfl rfl ?_
  refine xt_getI (pc := 63) 3 (by decide) q1749 rfl rfl rfl dX6_name_63 ?_
  refine xr_icmp_ge (pc := 66) 145 dX6_name_66 (by decide) (fun c_ => ?_) (fun c_ => ?_)
  · have hf := xo_pos c_ hf
    exact ok_Jt_name_145 hf kc ke0 kr
  · have hf := xo_neg c_ hf
    refine xr_aload_n (pc := 69) 0 dX6_name_69 rfl rfl ?_
    refine xt_getA (pc := 70) 0 (by decide) q1746 rfl rfl rfl dX6_name_70 ?_
    refine xr_aload_n (pc := 73) 0 dX6_name_73 rfl rfl ?_
    refine xt_getI (pc := 74) 2 (by decide) q1748 rfl rfl rfl dX6_name_74 ?_
    obtain ⟨hi_, hf⟩ := xo_if hf
    refine xt_iald (pc := 77) 0 rfl rfl hi_ dX6_name_77 ?_
    obtain ⟨r5, τ5, hτ5, hf⟩ := xo_bd hf
    refine call_f_t_isLetter (pc := 78) hτ5 rfl (Nat.le_of_ble_eq_true rfl) (Nat.le_of_ble_eq_true rfl) (Nat.le_of_ble_eq_true rfl) dX6_name_78 ?_
    refine xr_if_eq (pc := 81) 145 dX6_name_81 (by decide) (fun c_ => ?_) (fun c_ => ?_)
    · have hf := xo_pos c_ hf
      exact ok_Jt_name_145 hf kc ke0 kr
    · have hf := xo_neg c_ hf
      refine xr_aload_n (pc := 84) 0 dX6_name_84 rfl rfl ?_
      refine xt_getI (pc := 85) 2 (by decide) q1748 rfl rfl rfl dX6_name_85 ?_
      refine xr_aload_n (pc := 88) 0 dX6_name_88 rfl rfl ?_
      refine xt_getI (pc := 89) 44 (by decide) q1790 rfl rfl rfl dX6_name_89 ?_
      refine xr_isub (pc := 92) dX6_name_92 ?_
      refine xr_bipush (pc := 93) dX6_name_93 xcb_6 ?_
      refine xr_icmp_ne (pc := 95) 109 dX6_name_95 (by decide) (fun c_ => ?_) (fun c_ => ?_)
      · have hf := xo_pos c_ hf
        refine xV_sub [0] rfl ?_
        exact ke0 _ (Option.some.inj hf).symm
      · have hf := xo_neg c_ hf
        refine xr_ldc2 (pc := 109) q2236 dX6_name_109 ?_
        refine xr_lload_n (pc := 112) 1 dX6_name_112 rfl rfl ?_
        refine xr_lmul (pc := 113) dX6_name_113 ?_
        refine xr_aload_n (pc := 114) 0 dX6_name_114 rfl rfl ?_
        refine xt_getA (pc := 115) 0 (by decide) q1746 rfl rfl rfl dX6_name_115 ?_
        refine xr_aload_n (pc := 118) 0 dX6_name_118 rfl rfl ?_
        refine xt_getI (pc := 119) 2 (by decide) q1748 rfl rfl rfl dX6_name_119 ?_
        obtain ⟨hi_, hf⟩ := xo_if hf
        refine xt_iald (pc := 122) 0 rfl rfl hi_ dX6_name_122 ?_
        refine xr_i2l (pc := 123) dX6_name_123 ?_
        refine xr_ladd (pc := 124) dX6_name_124 ?_
        refine xr_ldc2 (pc := 125) q2237 dX6_name_125 ?_
        refine xr_lsub (pc := 128) dX6_name_128 ?_
        refine xr_lconst (pc := 129) dX6_name_129 (by decide : _ = (1 : Int64)) ?_
        refine xr_ladd (pc := 130) dX6_name_130 ?_
        refine xr_lstore_n (pc := 131) (loc' := [(1, .long ((((27 * x1) + ((tA τ5 0 (tI τ5 2).toNatClampNeg).toInt64)) - 97) + 1)), (0, .ref m)]) dX6_name_131 rfl (by decide) rfl ?_
        refine xr_aload_n (pc := 132) 1 dX6_name_132 rfl rfl ?_
        refine xr_dup (pc := 133) dX6_name_133 rfl ?_
        refine xt_getI (pc := 134) 2 (by decide) q1748 rfl rfl rfl dX6_name_134 ?_
        refine xr_iconst (pc := 137) dX6_name_137 xci_1 ?_
        refine xr_iadd (pc := 138) dX6_name_138 ?_
        refine xt_putI (pc := 139) 2 (by decide) q1748 rfl rfl rfl (by decide +kernel) rfl dX6_name_139 ?_
        refine xr_goto (pc := 142) 58 dX6_name_142 (by decide) ?_
        refine xV_sub [1, 0] rfl ?_
        exact kc _ (Option.some.inj hf).symm
def f_t_name (τ : TS) : Option (Int64 × TS) :=
  if (tI τ 5) = 0 then
  xbd (f_t_look τ) fun r1 τ1 =>
  xbd (f_t_isLetter r1 τ1) fun r2 τ2 =>
  if r2 = 0 then
  Jt_name_37 τ2
  else
  if (tI τ2 2) = (tI τ2 4) then
  Jt_name_37 τ2
  else
  xbd (f_t_isOwnHere τ2) fun r4 τ4 =>
  if r4 = 0 then
  (itr (fun s_ : Int64 × TS => Bt_name_58 s_.1 s_.2) 4096 (0, sI τ4 44 (tI τ4 2))).bind fun b6 =>
  (Sum.elim (fun e7 => (f_t_fail 1 (tI e7 2) e7).bind fun τ8 =>
  some ((0, τ8))) (fun r_ => some r_)) b6
  else
  Jt_name_37 τ4
  else
  some ((0, τ))
theorem ok_f_t_name {D : TD} {m : Nat} {K : xK} {Z : Option Value × TS} {τ : TS} {o_ : (Int64 × TS)} (hf : f_t_name τ = some o_) (kr : ∀ r_ : (Int64 × TS), o_ = r_ → Z = (some (.long r_.1), r_.2)) : xV (wT D m) K mX6_name (xQ (wT D m) K Z) τ 0 [(0, .ref m)] [] := by
  unfold f_t_name at hf
  refine xr_aload_n (pc := 0) 0 dX6_name_0 rfl rfl ?_
  refine xt_getI (pc := 1) 5 (by decide) q1751 rfl rfl rfl dX6_name_1 ?_
  refine xr_if_eq (pc := 4) 9 dX6_name_4 (by decide) (fun c_ => ?_) (fun c_ => ?_)
  · have hf := xo_pos c_ hf
    refine xr_aload_n (pc := 9) 0 dX6_name_9 rfl rfl ?_
    obtain ⟨r1, τ1, hτ1, hf⟩ := xo_bd hf
    refine call_f_t_look (pc := 10) hτ1 rfl (Nat.le_of_ble_eq_true rfl) (Nat.le_of_ble_eq_true rfl) (Nat.le_of_ble_eq_true rfl) dX6_name_10 ?_
    obtain ⟨r2, τ2, hτ2, hf⟩ := xo_bd hf
    refine call_f_t_isLetter (pc := 13) hτ2 rfl (Nat.le_of_ble_eq_true rfl) (Nat.le_of_ble_eq_true rfl) (Nat.le_of_ble_eq_true rfl) dX6_name_13 ?_
    refine xr_if_eq (pc := 16) 37 dX6_name_16 (by decide) (fun c_ => ?_) (fun c_ => ?_)
    · have hf := xo_pos c_ hf
      exact ok_Jt_name_37 hf kr
    · have hf := xo_neg c_ hf
      refine xr_aload_n (pc := 19) 0 dX6_name_19 rfl rfl ?_
      refine xt_getI (pc := 20) 2 (by decide) q1748 rfl rfl rfl dX6_name_20 ?_
      refine xr_aload_n (pc := 23) 0 dX6_name_23 rfl rfl ?_
      refine xt_getI (pc := 24) 4 (by decide) q1750 rfl rfl rfl dX6_name_24 ?_
      refine xr_icmp_eq (pc := 27) 37 dX6_name_27 (by decide) (fun c_ => ?_) (fun c_ => ?_)
      · have hf := xo_pos c_ hf
        exact ok_Jt_name_37 hf kr
      · have hf := xo_neg c_ hf
        refine xr_aload_n (pc := 30) 0 dX6_name_30 rfl rfl ?_
        obtain ⟨r4, τ4, hτ4, hf⟩ := xo_bd hf
        refine call_f_t_isOwnHere (pc := 31) hτ4 rfl (Nat.le_of_ble_eq_true rfl) (Nat.le_of_ble_eq_true rfl) (Nat.le_of_ble_eq_true rfl) dX6_name_31 ?_
        refine xr_if_eq (pc := 34) 48 dX6_name_34 (by decide) (fun c_ => ?_) (fun c_ => ?_)
        · have hf := xo_pos c_ hf
          refine xr_aload_n (pc := 48) 0 dX6_name_48 rfl rfl ?_
          refine xr_aload_n (pc := 49) 0 dX6_name_49 rfl rfl ?_
          refine xt_getI (pc := 50) 2 (by decide) q1748 rfl rfl rfl dX6_name_50 ?_
          refine xt_putI (pc := 53) 44 (by decide) q1790 rfl rfl rfl (by decide +kernel) rfl dX6_name_53 ?_
          refine xr_lconst (pc := 56) dX6_name_56 (by decide : _ = (0 : Int64)) ?_
          refine xr_lstore_n (pc := 57) (loc' := [(1, .long 0), (0, .ref m)]) dX6_name_57 rfl (by decide) rfl ?_
          refine xV_sub [1, 0] rfl ?_
          obtain ⟨b6, hb6, hf⟩ := xo_bind hf
          refine itr_rule (P := fun s_ : Int64 × TS => xV (wT D m) K mX6_name (xQ (wT D m) K Z) s_.2 58 [(0, .ref m), (1, .long s_.1)] []) (fun s_ o_ hB_ hc_ he_ => ok_Bt_name_58 hB_ hc_ (fun e7 h_ => ?_) (fun r_ h_ => ?_)) 4096 _ hb6
          · have e9_ := he_ _ h_
            subst e9_
            have hf := xo_inl hf
            refine xr_aload_n (pc := 98) 0 dX6_name_98 rfl rfl ?_
            refine xr_iconst (pc := 99) dX6_name_99 xci_1 ?_
            refine xr_aload_n (pc := 100) 0 dX6_name_100 rfl rfl ?_
            refine xt_getI (pc := 101) 2 (by decide) q1748 rfl rfl rfl dX6_name_101 ?_
            obtain ⟨τ8, hτ8, hf⟩ := xo_bind hf
            refine call_f_t_fail (pc := 104) hτ8 rfl (Nat.le_of_ble_eq_true rfl) (Nat.le_of_ble_eq_true rfl) (Nat.le_of_ble_eq_true rfl) dX6_name_104 ?_
            refine xr_lconst (pc := 107) dX6_name_107 (by decide : _ = (0 : Int64)) ?_
            rw [kr _ (Option.some.inj hf).symm]
            exact xr_lret (pc := 108) dX6_name_108 rfl
          · have e9_ := he_ _ h_
            subst e9_
            have hf := xo_inr hf
            exact kr _ (Option.some.inj hf).symm
        · have hf := xo_neg c_ hf
          exact ok_Jt_name_37 hf kr
  · have hf := xo_neg c_ hf
    refine xr_lconst (pc := 7) dX6_name_7 (by decide : _ = (0 : Int64)) ?_
    rw [kr _ (Option.some.inj hf).symm]
    exact xr_lret (pc := 8) dX6_name_8 rfl
theorem met_f_t_name (l : Launch) {D : TD} {m : Nat} {τ : TS} {o_ : (Int64 × TS)} (hf : f_t_name τ = some o_) : xMet (wT D m) l yX6_name (ws_ yX6_name cX6_name 3 (some .long)) 3 180 0 0 [.ref m] τ (some (.long o_.1), o_.2) :=
  xMet_of (by decide) (Nat.le_of_ble_eq_true rfl) KT_moved (fun _ _ => trivial) (fun K _ _ _ => ok_f_t_name hf (fun _ h => by rw [h]))
theorem hd_f_t_name : yX6_name.cls = RX6 ∧ yX6_name.cls ≠ "java/lang/invoke/MethodHandle" ∧ yX6_name.cls ≠ "java/lang/invoke/VarHandle" ∧ (parseMethodDescriptor yX6_name.desc).map (fun d => d.parameters.length) = some 0 := by decide +kernel
theorem call_f_t_name {D : TD} {m : Nat} {K : xK} {M : xM} {Q : State → Prop} {τ : TS} {pc : Nat} {loc : List (Nat × Value)} {st : List Value} {r : Int64} {τ1 : TS} (hf : f_t_name τ = some (r, τ1)) (ho : M.2.2.1 = RX6) (hfr : 4 ≤ M.2.2.2.1) (hlo : 202 ≤ M.2.2.2.2.1) (hcat : (st.map fun v => v.category).sum ≤ 8) (d : decode M.1 pc = .ok (.invokevirtual 382, 3)) (k : xV (wT D m) K M Q τ1 (pc + 3) loc (.long r :: st)) : xV (wT D m) K M Q τ pc loc (.ref m :: st) :=
  xr_callV (As := []) (rest := st) (met_f_t_name K.2.1 hf) (lw_V q2228 q2230 qs82 q186 q2231) hd_f_t_name ho hfr hlo rfl (fun H hR hK => t_recv H hR hK) rfl hcat d k
abbrev mX6_lordTold : xM := (cX6_lordTold, 10, RX6, 4, 240, none, "lordTold")
def Jt_lordTold_74 (x2 : Int64) (x4 : Int32) (τ : TS) : Option ((Int32 × TS) ⊕ ((TS))) :=
  some (.inl (x4 + 1, τ))
theorem ok_Jt_lordTold_74 {D : TD} {m : Nat} {K : xK} {Z : Option Value × TS} {x2 : Int64} {x4 : Int32} {τ : TS} {o_ : ((Int32 × TS) ⊕ ((TS)))} (hf : Jt_lordTold_74 x2 x4 τ = some o_) (kc : ∀ s_ : Int32 × TS, o_ = .inl s_ → xV (wT D m) K mX6_lordTold (xQ (wT D m) K Z) s_.2 37 [(0, .ref m), (2, .long x2), (4, .int s_.1)] []) (ke0 : ∀ e_ : TS, o_ = .inr e_ → xV (wT D m) K mX6_lordTold (xQ (wT D m) K Z) e_ 80 [(0, .ref m), (2, .long x2)] []) : xV (wT D m) K mX6_lordTold (xQ (wT D m) K Z) τ 74 [(0, .ref m), (2, .long x2), (4, .int x4)] [] := by
  unfold Jt_lordTold_74 at hf
  refine xr_iinc (pc := 74) (loc' := [(4, .int (x4 + 1)), (0, .ref m), (2, .long x2)]) 2 dX6_lordTold_74 rfl xci_1 (by decide) rfl ?_
  refine xr_goto (pc := 77) 37 dX6_lordTold_77 (by decide) ?_
  refine xV_sub [1, 2, 0] rfl ?_
  exact kc _ (Option.some.inj hf).symm
def Bt_lordTold_37 (x2 : Int64) (x4 : Int32) (τ : TS) : Option ((Int32 × TS) ⊕ ((TS))) :=
  if (tI τ 46) ≤ x4 then
  some (.inr τ)
  else
  if (tI τ 5) = 0 then
  if xin x4 10 = true then
  if (lg_cmp (tM τ 48 x4.toNatClampNeg) x2) = 0 then
  (f_t_fail 3 (tI τ 44) τ).bind fun τ3 =>
  Jt_lordTold_74 x2 x4 τ3
  else
  Jt_lordTold_74 x2 x4 τ
  else none
  else
  Jt_lordTold_74 x2 x4 τ
theorem ok_Bt_lordTold_37 {D : TD} {m : Nat} {K : xK} {Z : Option Value × TS} {x2 : Int64} {x4 : Int32} {τ : TS} {o_ : ((Int32 × TS) ⊕ ((TS)))} (hf : Bt_lordTold_37 x2 x4 τ = some o_) (kc : ∀ s_ : Int32 × TS, o_ = .inl s_ → xV (wT D m) K mX6_lordTold (xQ (wT D m) K Z) s_.2 37 [(0, .ref m), (2, .long x2), (4, .int s_.1)] []) (ke0 : ∀ e_ : TS, o_ = .inr e_ → xV (wT D m) K mX6_lordTold (xQ (wT D m) K Z) e_ 80 [(0, .ref m), (2, .long x2)] []) : xV (wT D m) K mX6_lordTold (xQ (wT D m) K Z) τ 37 [(0, .ref m), (2, .long x2), (4, .int x4)] [] := by
  unfold Bt_lordTold_37 at hf
  refine xr_iload (pc := 37) 2 dX6_lordTold_37 rfl ?_
  refine xr_aload_n (pc := 39) 0 dX6_lordTold_39 rfl rfl ?_
  refine xt_getI (pc := 40) 46 (by decide) q1792 rfl rfl rfl dX6_lordTold_40 ?_
  refine xr_icmp_ge (pc := 43) 80 dX6_lordTold_43 (by decide) (fun c_ => ?_) (fun c_ => ?_)
  · have hf := xo_pos c_ hf
    refine xV_sub [0, 1] rfl ?_
    exact ke0 _ (Option.some.inj hf).symm
  · have hf := xo_neg c_ hf
    refine xr_aload_n (pc := 46) 0 dX6_lordTold_46 rfl rfl ?_
    refine xt_getI (pc := 47) 5 (by decide) q1751 rfl rfl rfl dX6_lordTold_47 ?_
    refine xr_if_ne (pc := 50) 74 dX6_lordTold_50 (by decide) (fun c_ => ?_) (fun c_ => ?_)
    · have hf := xo_pos c_ hf
      refine xr_aload_n (pc := 53) 0 dX6_lordTold_53 rfl rfl ?_
      refine xt_getA (pc := 54) 48 (by decide) q1794 rfl rfl rfl dX6_lordTold_54 ?_
      refine xr_iload (pc := 57) 2 dX6_lordTold_57 rfl ?_
      obtain ⟨hi_, hf⟩ := xo_if hf
      refine xt_lald (pc := 59) 48 rfl rfl hi_ dX6_lordTold_59 ?_
      refine xr_lload_n (pc := 60) 1 dX6_lordTold_60 rfl rfl ?_
      refine xr_lcmp (pc := 61) dX6_lordTold_61 ?_
      refine xr_if_ne (pc := 62) 74 dX6_lordTold_62 (by decide) (fun c_ => ?_) (fun c_ => ?_)
      · have hf := xo_pos c_ hf
        refine xr_aload_n (pc := 65) 0 dX6_lordTold_65 rfl rfl ?_
        refine xr_iconst (pc := 66) dX6_lordTold_66 xci_3 ?_
        refine xr_aload_n (pc := 67) 0 dX6_lordTold_67 rfl rfl ?_
        refine xt_getI (pc := 68) 44 (by decide) q1790 rfl rfl rfl dX6_lordTold_68 ?_
        obtain ⟨τ3, hτ3, hf⟩ := xo_bind hf
        refine call_f_t_fail (pc := 71) hτ3 rfl (Nat.le_of_ble_eq_true rfl) (Nat.le_of_ble_eq_true rfl) (Nat.le_of_ble_eq_true rfl) dX6_lordTold_71 ?_
        exact ok_Jt_lordTold_74 hf kc ke0
      · have hf := xo_neg c_ hf
        exact ok_Jt_lordTold_74 hf kc ke0
    · have hf := xo_neg c_ hf
      exact ok_Jt_lordTold_74 hf kc ke0
def Jt_lordTold_21 (τ : TS) : Option TS :=
  if (tI τ 5) = 0 then
  xbd (f_t_name τ) fun r2 τ2 =>
  (itr (fun s_ : Int32 × TS => Bt_lordTold_37 r2 s_.1 s_.2) 4096 (0, τ2)).bind fun b4 =>
  (f_t_asks 18 b4).bind fun τ5 =>
  xbd (f_t_columnTold τ5) fun r6 τ6 =>
  (f_t_asks 19 τ6).bind fun τ7 =>
  if xin 0 6 = true then
  xbd (f_t_number r6 ((tA τ7 45 (0 : Int32).toNatClampNeg) - 1) τ7) fun r8 τ8 =>
  (f_t_asks 20 τ8).bind fun τ9 =>
  xbd (f_t_number 0 99 τ9) fun r10 τ10 =>
  (f_t_asks 21 τ10).bind fun τ11 =>
  xbd (f_t_number 0 99 τ11) fun r12 τ12 =>
  (f_t_asks 22 τ12).bind fun τ13 =>
  xbd (f_t_number 0 999 τ13) fun r14 τ14 =>
  if (tI τ14 5) = 0 then
  if xin (tI τ14 46) 10 = true then
  if xin (5 * (tI τ14 46)) 50 = true then
  if xin ((5 * (tI τ14 46)) + 1) 50 = true then
  if xin ((5 * (tI τ14 46)) + 2) 50 = true then
  if xin ((5 * (tI τ14 46)) + 3) 50 = true then
  if xin ((5 * (tI τ14 46)) + 4) 50 = true then
  some (sI (sA (sA (sA (sA (sA (sM τ14 48 (tI τ14 46).toNatClampNeg r2) 49 (5 * (tI τ14 46)).toNatClampNeg r6) 49 ((5 * (tI τ14 46)) + 1).toNatClampNeg r8) 49 ((5 * (tI τ14 46)) + 2).toNatClampNeg r10) 49 ((5 * (tI τ14 46)) + 3).toNatClampNeg r12) 49 ((5 * (tI τ14 46)) + 4).toNatClampNeg r14) 46 ((tI (sA (sA (sA (sA (sA (sM τ14 48 (tI τ14 46).toNatClampNeg r2) 49 (5 * (tI τ14 46)).toNatClampNeg r6) 49 ((5 * (tI τ14 46)) + 1).toNatClampNeg r8) 49 ((5 * (tI τ14 46)) + 2).toNatClampNeg r10) 49 ((5 * (tI τ14 46)) + 3).toNatClampNeg r12) 49 ((5 * (tI τ14 46)) + 4).toNatClampNeg r14) 46) + 1))
  else none
  else none
  else none
  else none
  else none
  else none
  else
  some (τ14)
  else none
  else
  some (τ)
theorem ok_Jt_lordTold_21 {D : TD} {m : Nat} {K : xK} {Z : Option Value × TS} {τ : TS} {o_ : TS} (hf : Jt_lordTold_21 τ = some o_) (kr : ∀ r_ : TS, o_ = r_ → Z = (none, r_)) : xV (wT D m) K mX6_lordTold (xQ (wT D m) K Z) τ 21 [(0, .ref m)] [] := by
  unfold Jt_lordTold_21 at hf
  refine xr_aload_n (pc := 21) 0 dX6_lordTold_21 rfl rfl ?_
  refine xt_getI (pc := 22) 5 (by decide) q1751 rfl rfl rfl dX6_lordTold_22 ?_
  refine xr_if_eq (pc := 25) 29 dX6_lordTold_25 (by decide) (fun c_ => ?_) (fun c_ => ?_)
  · have hf := xo_pos c_ hf
    refine xr_aload_n (pc := 29) 0 dX6_lordTold_29 rfl rfl ?_
    obtain ⟨r2, τ2, hτ2, hf⟩ := xo_bd hf
    refine call_f_t_name (pc := 30) hτ2 rfl (Nat.le_of_ble_eq_true rfl) (Nat.le_of_ble_eq_true rfl) (Nat.le_of_ble_eq_true rfl) dX6_lordTold_30 ?_
    refine xr_lstore_n (pc := 33) (loc' := [(2, .long r2), (0, .ref m)]) dX6_lordTold_33 rfl (by decide) rfl ?_
    refine xr_iconst (pc := 34) dX6_lordTold_34 xci_0 ?_
    refine xr_istore (pc := 35) (loc' := [(4, .int 0), (2, .long r2), (0, .ref m)]) dX6_lordTold_35 (by decide) rfl ?_
    refine xV_sub [2, 1, 0] rfl ?_
    obtain ⟨b4, hb4, hf⟩ := xo_bind hf
    refine itr_rule (P := fun s_ : Int32 × TS => xV (wT D m) K mX6_lordTold (xQ (wT D m) K Z) s_.2 37 [(0, .ref m), (2, .long r2), (4, .int s_.1)] []) (fun s_ o_ hB_ hc_ he_ => ok_Bt_lordTold_37 hB_ hc_ (fun e_ h_ => ?_)) 4096 _ hb4
    · have e9_ := he_ _ h_
      rw [e9_]
      refine xr_aload_n (pc := 80) 0 dX6_lordTold_80 rfl rfl ?_
      refine xr_aload_n (pc := 81) 0 dX6_lordTold_81 rfl rfl ?_
      refine xt_getA (pc := 82) 18 (by decide) q1764 rfl rfl rfl dX6_lordTold_82 ?_
      obtain ⟨τ5, hτ5, hf⟩ := xo_bind hf
      refine call_f_t_asks (pc := 85) hτ5 rfl (Nat.le_of_ble_eq_true rfl) (Nat.le_of_ble_eq_true rfl) (Nat.le_of_ble_eq_true rfl) dX6_lordTold_85 ?_
      refine xr_aload_n (pc := 88) 0 dX6_lordTold_88 rfl rfl ?_
      obtain ⟨r6, τ6, hτ6, hf⟩ := xo_bd hf
      refine call_f_t_columnTold (pc := 89) hτ6 rfl (Nat.le_of_ble_eq_true rfl) (Nat.le_of_ble_eq_true rfl) (Nat.le_of_ble_eq_true rfl) dX6_lordTold_89 ?_
      refine xr_istore (pc := 92) (loc' := [(4, .int r6), (0, .ref m), (2, .long r2)]) dX6_lordTold_92 (by decide) rfl ?_
      refine xr_aload_n (pc := 94) 1 dX6_lordTold_94 rfl rfl ?_
      refine xr_aload_n (pc := 95) 1 dX6_lordTold_95 rfl rfl ?_
      refine xt_getA (pc := 96) 19 (by decide) q1765 rfl rfl rfl dX6_lordTold_96 ?_
      obtain ⟨τ7, hτ7, hf⟩ := xo_bind hf
      refine call_f_t_asks (pc := 99) hτ7 rfl (Nat.le_of_ble_eq_true rfl) (Nat.le_of_ble_eq_true rfl) (Nat.le_of_ble_eq_true rfl) dX6_lordTold_99 ?_
      refine xr_aload_n (pc := 102) 1 dX6_lordTold_102 rfl rfl ?_
      refine xr_iload (pc := 103) 0 dX6_lordTold_103 rfl ?_
      refine xr_aload_n (pc := 105) 1 dX6_lordTold_105 rfl rfl ?_
      refine xt_getA (pc := 106) 45 (by decide) q1791 rfl rfl rfl dX6_lordTold_106 ?_
      refine xr_iconst (pc := 109) dX6_lordTold_109 xci_0 ?_
      obtain ⟨hi_, hf⟩ := xo_if hf
      refine xt_iald (pc := 110) 45 rfl rfl hi_ dX6_lordTold_110 ?_
      refine xr_iconst (pc := 111) dX6_lordTold_111 xci_1 ?_
      refine xr_isub (pc := 112) dX6_lordTold_112 ?_
      obtain ⟨r8, τ8, hτ8, hf⟩ := xo_bd hf
      refine call_f_t_number (pc := 113) hτ8 rfl (Nat.le_of_ble_eq_true rfl) (Nat.le_of_ble_eq_true rfl) (Nat.le_of_ble_eq_true rfl) dX6_lordTold_113 ?_
      refine xr_istore (pc := 116) (loc' := [(5, .int r8), (4, .int r6), (0, .ref m), (2, .long r2)]) dX6_lordTold_116 (by decide) rfl ?_
      refine xr_aload_n (pc := 118) 2 dX6_lordTold_118 rfl rfl ?_
      refine xr_aload_n (pc := 119) 2 dX6_lordTold_119 rfl rfl ?_
      refine xt_getA (pc := 120) 20 (by decide) q1766 rfl rfl rfl dX6_lordTold_120 ?_
      obtain ⟨τ9, hτ9, hf⟩ := xo_bind hf
      refine call_f_t_asks (pc := 123) hτ9 rfl (Nat.le_of_ble_eq_true rfl) (Nat.le_of_ble_eq_true rfl) (Nat.le_of_ble_eq_true rfl) dX6_lordTold_123 ?_
      refine xr_aload_n (pc := 126) 2 dX6_lordTold_126 rfl rfl ?_
      refine xr_iconst (pc := 127) dX6_lordTold_127 xci_0 ?_
      refine xr_bipush (pc := 128) dX6_lordTold_128 xcb_99 ?_
      obtain ⟨r10, τ10, hτ10, hf⟩ := xo_bd hf
      refine call_f_t_number (pc := 130) hτ10 rfl (Nat.le_of_ble_eq_true rfl) (Nat.le_of_ble_eq_true rfl) (Nat.le_of_ble_eq_true rfl) dX6_lordTold_130 ?_
      refine xr_istore (pc := 133) (loc' := [(6, .int r10), (5, .int r8), (4, .int r6), (0, .ref m), (2, .long r2)]) dX6_lordTold_133 (by decide) rfl ?_
      refine xr_aload_n (pc := 135) 3 dX6_lordTold_135 rfl rfl ?_
      refine xr_aload_n (pc := 136) 3 dX6_lordTold_136 rfl rfl ?_
      refine xt_getA (pc := 137) 21 (by decide) q1767 rfl rfl rfl dX6_lordTold_137 ?_
      obtain ⟨τ11, hτ11, hf⟩ := xo_bind hf
      refine call_f_t_asks (pc := 140) hτ11 rfl (Nat.le_of_ble_eq_true rfl) (Nat.le_of_ble_eq_true rfl) (Nat.le_of_ble_eq_true rfl) dX6_lordTold_140 ?_
      refine xr_aload_n (pc := 143) 3 dX6_lordTold_143 rfl rfl ?_
      refine xr_iconst (pc := 144) dX6_lordTold_144 xci_0 ?_
      refine xr_bipush (pc := 145) dX6_lordTold_145 xcb_99 ?_
      obtain ⟨r12, τ12, hτ12, hf⟩ := xo_bd hf
      refine call_f_t_number (pc := 147) hτ12 rfl (Nat.le_of_ble_eq_true rfl) (Nat.le_of_ble_eq_true rfl) (Nat.le_of_ble_eq_true rfl) dX6_lordTold_147 ?_
      refine xr_istore (pc := 150) (loc' := [(7, .int r12), (6, .int r10), (5, .int r8), (4, .int r6), (0, .ref m), (2, .long r2)]) dX6_lordTold_150 (by decide) rfl ?_
      refine xr_aload_n (pc := 152) 4 dX6_lordTold_152 rfl rfl ?_
      refine xr_aload_n (pc := 153) 4 dX6_lordTold_153 rfl rfl ?_
      refine xt_getA (pc := 154) 22 (by decide) q1768 rfl rfl rfl dX6_lordTold_154 ?_
      obtain ⟨τ13, hτ13, hf⟩ := xo_bind hf
      refine call_f_t_asks (pc := 157) hτ13 rfl (Nat.le_of_ble_eq_true rfl) (Nat.le_of_ble_eq_true rfl) (Nat.le_of_ble_eq_true rfl) dX6_lordTold_157 ?_
      refine xr_aload_n (pc := 160) 4 dX6_lordTold_160 rfl rfl ?_
      refine xr_iconst (pc := 161) dX6_lordTold_161 xci_0 ?_
      refine xr_sipush (pc := 162) dX6_lordTold_162 xcs_999 ?_
      obtain ⟨r14, τ14, hτ14, hf⟩ := xo_bd hf
      refine call_f_t_number (pc := 165) hτ14 rfl (Nat.le_of_ble_eq_true rfl) (Nat.le_of_ble_eq_true rfl) (Nat.le_of_ble_eq_true rfl) dX6_lordTold_165 ?_
      refine xr_istore (pc := 168) (loc' := [(8, .int r14), (7, .int r12), (6, .int r10), (5, .int r8), (4, .int r6), (0, .ref m), (2, .long r2)]) dX6_lordTold_168 (by decide) rfl ?_
      refine xr_aload_n (pc := 170) 5 dX6_lordTold_170 rfl rfl ?_
      refine xt_getI (pc := 171) 5 (by decide) q1751 rfl rfl rfl dX6_lordTold_171 ?_
      refine xr_if_eq (pc := 174) 178 dX6_lordTold_174 (by decide) (fun c_ => ?_) (fun c_ => ?_)
      · have hf := xo_pos c_ hf
        refine xr_iconst (pc := 178) dX6_lordTold_178 xci_5 ?_
        refine xr_aload_n (pc := 179) 5 dX6_lordTold_179 rfl rfl ?_
        refine xt_getI (pc := 180) 46 (by decide) q1792 rfl rfl rfl dX6_lordTold_180 ?_
        refine xr_imul (pc := 183) dX6_lordTold_183 ?_
        refine xr_istore (pc := 184) (loc' := [(9, .int (5 * (tI τ14 46))), (8, .int r14), (7, .int r12), (6, .int r10), (5, .int r8), (4, .int r6), (0, .ref m), (2, .long r2)]) dX6_lordTold_184 (by decide) rfl ?_
        refine xr_aload_n (pc := 186) 6 dX6_lordTold_186 rfl rfl ?_
        refine xt_getA (pc := 187) 48 (by decide) q1794 rfl rfl rfl dX6_lordTold_187 ?_
        refine xr_aload_n (pc := 190) 6 dX6_lordTold_190 rfl rfl ?_
        refine xt_getI (pc := 191) 46 (by decide) q1792 rfl rfl rfl dX6_lordTold_191 ?_
        refine xr_lload_n (pc := 194) 7 dX6_lordTold_194 rfl rfl ?_
        obtain ⟨hi_, hf⟩ := xo_if hf
        refine xt_last (pc := 195) 48 rfl rfl hi_ dX6_lordTold_195 ?_
        refine xr_aload_n (pc := 196) 6 dX6_lordTold_196 rfl rfl ?_
        refine xt_getA (pc := 197) 49 (by decide) q1795 rfl rfl rfl dX6_lordTold_197 ?_
        refine xr_iload (pc := 200) 0 dX6_lordTold_200 rfl ?_
        refine xr_iload (pc := 202) 5 dX6_lordTold_202 rfl ?_
        obtain ⟨hi_, hf⟩ := xo_if hf
        refine xt_iast (pc := 204) 49 rfl rfl hi_ dX6_lordTold_204 ?_
        refine xr_aload_n (pc := 205) 6 dX6_lordTold_205 rfl rfl ?_
        refine xt_getA (pc := 206) 49 (by decide) q1795 rfl rfl rfl dX6_lordTold_206 ?_
        refine xr_iload (pc := 209) 0 dX6_lordTold_209 rfl ?_
        refine xr_iconst (pc := 211) dX6_lordTold_211 xci_1 ?_
        refine xr_iadd (pc := 212) dX6_lordTold_212 ?_
        refine xr_iload (pc := 213) 4 dX6_lordTold_213 rfl ?_
        obtain ⟨hi_, hf⟩ := xo_if hf
        refine xt_iast (pc := 215) 49 rfl rfl hi_ dX6_lordTold_215 ?_
        refine xr_aload_n (pc := 216) 6 dX6_lordTold_216 rfl rfl ?_
        refine xt_getA (pc := 217) 49 (by decide) q1795 rfl rfl rfl dX6_lordTold_217 ?_
        refine xr_iload (pc := 220) 0 dX6_lordTold_220 rfl ?_
        refine xr_iconst (pc := 222) dX6_lordTold_222 xci_2 ?_
        refine xr_iadd (pc := 223) dX6_lordTold_223 ?_
        refine xr_iload (pc := 224) 3 dX6_lordTold_224 rfl ?_
        obtain ⟨hi_, hf⟩ := xo_if hf
        refine xt_iast (pc := 226) 49 rfl rfl hi_ dX6_lordTold_226 ?_
        refine xr_aload_n (pc := 227) 6 dX6_lordTold_227 rfl rfl ?_
        refine xt_getA (pc := 228) 49 (by decide) q1795 rfl rfl rfl dX6_lordTold_228 ?_
        refine xr_iload (pc := 231) 0 dX6_lordTold_231 rfl ?_
        refine xr_iconst (pc := 233) dX6_lordTold_233 xci_3 ?_
        refine xr_iadd (pc := 234) dX6_lordTold_234 ?_
        refine xr_iload (pc := 235) 2 dX6_lordTold_235 rfl ?_
        obtain ⟨hi_, hf⟩ := xo_if hf
        refine xt_iast (pc := 237) 49 rfl rfl hi_ dX6_lordTold_237 ?_
        refine xr_aload_n (pc := 238) 6 dX6_lordTold_238 rfl rfl ?_
        refine xt_getA (pc := 239) 49 (by decide) q1795 rfl rfl rfl dX6_lordTold_239 ?_
        refine xr_iload (pc := 242) 0 dX6_lordTold_242 rfl ?_
        refine xr_iconst (pc := 244) dX6_lordTold_244 xci_4 ?_
        refine xr_iadd (pc := 245) dX6_lordTold_245 ?_
        refine xr_iload (pc := 246) 1 dX6_lordTold_246 rfl ?_
        obtain ⟨hi_, hf⟩ := xo_if hf
        refine xt_iast (pc := 248) 49 rfl rfl hi_ dX6_lordTold_248 ?_
        refine xr_aload_n (pc := 249) 6 dX6_lordTold_249 rfl rfl ?_
        refine xr_dup (pc := 250) dX6_lordTold_250 rfl ?_
        refine xt_getI (pc := 251) 46 (by decide) q1792 rfl rfl rfl dX6_lordTold_251 ?_
        refine xr_iconst (pc := 254) dX6_lordTold_254 xci_1 ?_
        refine xr_iadd (pc := 255) dX6_lordTold_255 ?_
        refine xt_putI (pc := 256) 46 (by decide) q1792 rfl rfl rfl (by decide +kernel) rfl dX6_lordTold_256 ?_
        rw [kr _ (Option.some.inj hf).symm]
        exact xr_vret (pc := 259) dX6_lordTold_259 rfl
      · have hf := xo_neg c_ hf
        rw [kr _ (Option.some.inj hf).symm]
        exact xr_vret (pc := 177) dX6_lordTold_177 rfl
  · have hf := xo_neg c_ hf
    rw [kr _ (Option.some.inj hf).symm]
    exact xr_vret (pc := 28) dX6_lordTold_28 rfl
def f_t_lordTold (x1 : Int32) (τ : TS) : Option TS :=
  if (tI τ 5) = 0 then
  if (tI τ 46) = 5 then
  (f_t_fail 5 x1 τ).bind fun τ1 =>
  Jt_lordTold_21 τ1
  else
  Jt_lordTold_21 τ
  else
  Jt_lordTold_21 τ
theorem ok_f_t_lordTold {D : TD} {m : Nat} {K : xK} {Z : Option Value × TS} {x1 : Int32} {τ : TS} {o_ : TS} (hf : f_t_lordTold x1 τ = some o_) (kr : ∀ r_ : TS, o_ = r_ → Z = (none, r_)) : xV (wT D m) K mX6_lordTold (xQ (wT D m) K Z) τ 0 [(0, .ref m), (1, .int x1)] [] := by
  unfold f_t_lordTold at hf
  refine xr_aload_n (pc := 0) 0 dX6_lordTold_0 rfl rfl ?_
  refine xt_getI (pc := 1) 5 (by decide) q1751 rfl rfl rfl dX6_lordTold_1 ?_
  refine xr_if_ne (pc := 4) 21 dX6_lordTold_4 (by decide) (fun c_ => ?_) (fun c_ => ?_)
  · have hf := xo_pos c_ hf
    refine xr_aload_n (pc := 7) 0 dX6_lordTold_7 rfl rfl ?_
    refine xt_getI (pc := 8) 46 (by decide) q1792 rfl rfl rfl dX6_lordTold_8 ?_
    refine xr_iconst (pc := 11) dX6_lordTold_11 xci_5 ?_
    refine xr_icmp_ne (pc := 12) 21 dX6_lordTold_12 (by decide) (fun c_ => ?_) (fun c_ => ?_)
    · have hf := xo_pos c_ hf
      refine xr_aload_n (pc := 15) 0 dX6_lordTold_15 rfl rfl ?_
      refine xr_iconst (pc := 16) dX6_lordTold_16 xci_5 ?_
      refine xr_iload_n (pc := 17) 1 dX6_lordTold_17 rfl rfl ?_
      obtain ⟨τ1, hτ1, hf⟩ := xo_bind hf
      refine call_f_t_fail (pc := 18) hτ1 rfl (Nat.le_of_ble_eq_true rfl) (Nat.le_of_ble_eq_true rfl) (Nat.le_of_ble_eq_true rfl) dX6_lordTold_18 ?_
      refine xV_sub [0] rfl ?_
      exact ok_Jt_lordTold_21 hf kr
    · have hf := xo_neg c_ hf
      refine xV_sub [0] rfl ?_
      exact ok_Jt_lordTold_21 hf kr
  · have hf := xo_neg c_ hf
    refine xV_sub [0] rfl ?_
    exact ok_Jt_lordTold_21 hf kr
theorem met_f_t_lordTold (l : Launch) {D : TD} {m : Nat} {x1 : Int32} {τ : TS} {o_ : TS} (hf : f_t_lordTold x1 τ = some o_) : xMet (wT D m) l yX6_lordTold (ws_ yX6_lordTold cX6_lordTold 10 none) 4 240 0 0 [.ref m, .int x1] τ (none, o_) :=
  xMet_of (by decide) (Nat.le_of_ble_eq_true rfl) KT_moved (fun _ _ => trivial) (fun K _ _ _ => ok_f_t_lordTold hf (fun _ h => by rw [h]))
theorem hd_f_t_lordTold : yX6_lordTold.cls = RX6 ∧ yX6_lordTold.cls ≠ "java/lang/invoke/MethodHandle" ∧ yX6_lordTold.cls ≠ "java/lang/invoke/VarHandle" ∧ (parseMethodDescriptor yX6_lordTold.desc).map (fun d => d.parameters.length) = some 1 := by decide +kernel
theorem call_f_t_lordTold {D : TD} {m : Nat} {K : xK} {M : xM} {Q : State → Prop} {x1 : Int32} {τ : TS} {pc : Nat} {loc : List (Nat × Value)} {st : List Value} {τ1 : TS} (hf : f_t_lordTold x1 τ = some τ1) (ho : M.2.2.1 = RX6) (hfr : 5 ≤ M.2.2.2.1) (hlo : 269 ≤ M.2.2.2.2.1) (hcat : (st.map fun v => v.category).sum ≤ 8) (d : decode M.1 pc = .ok (.invokevirtual 419, 3)) (k : xV (wT D m) K M Q τ1 (pc + 3) loc st) : xV (wT D m) K M Q τ pc loc (.int x1 :: .ref m :: st) :=
  xr_callV (As := [.int x1]) (rest := st) (met_f_t_lordTold K.2.1 hf) (lw_V q2224 q2226 qs81 q186 q2227) hd_f_t_lordTold ho hfr hlo rfl (fun H hR hK => t_recv H hR hK) rfl hcat d k
abbrev mX6_qOpens : xM := (cX6_qOpens, 3, RX6, 1, 60, none, "qOpens")
def f_t_qOpens (x1 : Int32) (x2 : Int32) (τ : TS) : Option TS :=
  if (tI τ 5) = 0 then
  if (tI τ 124) = 6 then
  (f_t_fail 4 x2 τ).bind fun τ1 =>
  some (τ1)
  else
  if xin (tI (sI τ 124 ((tI τ 124) + 1)) 123) 1700 = true then
  some (sI (sA (sI τ 124 ((tI τ 124) + 1)) 122 (tI (sI τ 124 ((tI τ 124) + 1)) 123).toNatClampNeg x1) 123 ((tI (sA (sI τ 124 ((tI τ 124) + 1)) 122 (tI (sI τ 124 ((tI τ 124) + 1)) 123).toNatClampNeg x1) 123) + 1))
  else none
  else
  some (τ)
theorem ok_f_t_qOpens {D : TD} {m : Nat} {K : xK} {Z : Option Value × TS} {x1 : Int32} {x2 : Int32} {τ : TS} {o_ : TS} (hf : f_t_qOpens x1 x2 τ = some o_) (kr : ∀ r_ : TS, o_ = r_ → Z = (none, r_)) : xV (wT D m) K mX6_qOpens (xQ (wT D m) K Z) τ 0 [(0, .ref m), (1, .int x1), (2, .int x2)] [] := by
  unfold f_t_qOpens at hf
  refine xr_aload_n (pc := 0) 0 dX6_qOpens_0 rfl rfl ?_
  refine xt_getI (pc := 1) 5 (by decide) q1751 rfl rfl rfl dX6_qOpens_1 ?_
  refine xr_if_eq (pc := 4) 8 dX6_qOpens_4 (by decide) (fun c_ => ?_) (fun c_ => ?_)
  · have hf := xo_pos c_ hf
    refine xr_aload_n (pc := 8) 0 dX6_qOpens_8 rfl rfl ?_
    refine xt_getI (pc := 9) 124 (by decide) q1870 rfl rfl rfl dX6_qOpens_9 ?_
    refine xr_bipush (pc := 12) dX6_qOpens_12 xcb_6 ?_
    refine xr_icmp_ne (pc := 14) 24 dX6_qOpens_14 (by decide) (fun c_ => ?_) (fun c_ => ?_)
    · have hf := xo_pos c_ hf
      refine xr_aload_n (pc := 17) 0 dX6_qOpens_17 rfl rfl ?_
      refine xr_iconst (pc := 18) dX6_qOpens_18 xci_4 ?_
      refine xr_iload_n (pc := 19) 2 dX6_qOpens_19 rfl rfl ?_
      obtain ⟨τ1, hτ1, hf⟩ := xo_bind hf
      refine call_f_t_fail (pc := 20) hτ1 rfl (Nat.le_of_ble_eq_true rfl) (Nat.le_of_ble_eq_true rfl) (Nat.le_of_ble_eq_true rfl) dX6_qOpens_20 ?_
      rw [kr _ (Option.some.inj hf).symm]
      exact xr_vret (pc := 23) dX6_qOpens_23 rfl
    · have hf := xo_neg c_ hf
      refine xr_aload_n (pc := 24) 0 dX6_qOpens_24 rfl rfl ?_
      refine xr_dup (pc := 25) dX6_qOpens_25 rfl ?_
      refine xt_getI (pc := 26) 124 (by decide) q1870 rfl rfl rfl dX6_qOpens_26 ?_
      refine xr_iconst (pc := 29) dX6_qOpens_29 xci_1 ?_
      refine xr_iadd (pc := 30) dX6_qOpens_30 ?_
      refine xt_putI (pc := 31) 124 (by decide) q1870 rfl rfl rfl (by decide +kernel) rfl dX6_qOpens_31 ?_
      refine xr_aload_n (pc := 34) 0 dX6_qOpens_34 rfl rfl ?_
      refine xt_getA (pc := 35) 122 (by decide) q1868 rfl rfl rfl dX6_qOpens_35 ?_
      refine xr_aload_n (pc := 38) 0 dX6_qOpens_38 rfl rfl ?_
      refine xt_getI (pc := 39) 123 (by decide) q1869 rfl rfl rfl dX6_qOpens_39 ?_
      refine xr_iload_n (pc := 42) 1 dX6_qOpens_42 rfl rfl ?_
      obtain ⟨hi_, hf⟩ := xo_if hf
      refine xt_iast (pc := 43) 122 rfl rfl hi_ dX6_qOpens_43 ?_
      refine xr_aload_n (pc := 44) 0 dX6_qOpens_44 rfl rfl ?_
      refine xr_dup (pc := 45) dX6_qOpens_45 rfl ?_
      refine xt_getI (pc := 46) 123 (by decide) q1869 rfl rfl rfl dX6_qOpens_46 ?_
      refine xr_iconst (pc := 49) dX6_qOpens_49 xci_1 ?_
      refine xr_iadd (pc := 50) dX6_qOpens_50 ?_
      refine xt_putI (pc := 51) 123 (by decide) q1869 rfl rfl rfl (by decide +kernel) rfl dX6_qOpens_51 ?_
      rw [kr _ (Option.some.inj hf).symm]
      exact xr_vret (pc := 54) dX6_qOpens_54 rfl
  · have hf := xo_neg c_ hf
    rw [kr _ (Option.some.inj hf).symm]
    exact xr_vret (pc := 7) dX6_qOpens_7 rfl
theorem met_f_t_qOpens (l : Launch) {D : TD} {m : Nat} {x1 : Int32} {x2 : Int32} {τ : TS} {o_ : TS} (hf : f_t_qOpens x1 x2 τ = some o_) : xMet (wT D m) l yX6_qOpens (ws_ yX6_qOpens cX6_qOpens 3 none) 1 60 0 0 [.ref m, .int x1, .int x2] τ (none, o_) :=
  xMet_of (by decide) (Nat.le_of_ble_eq_true rfl) KT_moved (fun _ _ => trivial) (fun K _ _ _ => ok_f_t_qOpens hf (fun _ h => by rw [h]))
theorem hd_f_t_qOpens : yX6_qOpens.cls = RX6 ∧ yX6_qOpens.cls ≠ "java/lang/invoke/MethodHandle" ∧ yX6_qOpens.cls ≠ "java/lang/invoke/VarHandle" ∧ (parseMethodDescriptor yX6_qOpens.desc).map (fun d => d.parameters.length) = some 2 := by decide +kernel
theorem call_f_t_qOpens {D : TD} {m : Nat} {K : xK} {M : xM} {Q : State → Prop} {x1 : Int32} {x2 : Int32} {τ : TS} {pc : Nat} {loc : List (Nat × Value)} {st : List Value} {τ1 : TS} (hf : f_t_qOpens x1 x2 τ = some τ1) (ho : M.2.2.1 = RX6) (hfr : 2 ≤ M.2.2.2.1) (hlo : 82 ≤ M.2.2.2.2.1) (hcat : (st.map fun v => v.category).sum ≤ 8) (d : decode M.1 pc = .ok (.invokevirtual 719, 3)) (k : xV (wT D m) K M Q τ1 (pc + 3) loc st) : xV (wT D m) K M Q τ pc loc (.int x2 :: .int x1 :: .ref m :: st) :=
  xr_callV (As := [.int x1, .int x2]) (rest := st) (met_f_t_qOpens K.2.1 hf) (lw_V q2246 q2248 qs86 q186 q2249) hd_f_t_qOpens ho hfr hlo rfl (fun H hR hK => t_recv H hR hK) rfl hcat d k
abbrev mX6_qCode : xM := (cX6_qCode, 2, RX6, 0, 0, none, "qCode")
def f_t_qCode (x1 : Int32) (τ : TS) : Option TS :=
  if xin (tI τ 121) 1700 = true then
  some (sI (sA τ 120 (tI τ 121).toNatClampNeg x1) 121 ((tI (sA τ 120 (tI τ 121).toNatClampNeg x1) 121) + 1))
  else none
theorem ok_f_t_qCode {D : TD} {m : Nat} {K : xK} {Z : Option Value × TS} {x1 : Int32} {τ : TS} {o_ : TS} (hf : f_t_qCode x1 τ = some o_) (kr : ∀ r_ : TS, o_ = r_ → Z = (none, r_)) : xV (wT D m) K mX6_qCode (xQ (wT D m) K Z) τ 0 [(0, .ref m), (1, .int x1)] [] := by
  unfold f_t_qCode at hf
  refine xr_aload_n (pc := 0) 0 dX6_qCode_0 rfl rfl ?_
  refine xt_getA (pc := 1) 120 (by decide) q1866 rfl rfl rfl dX6_qCode_1 ?_
  refine xr_aload_n (pc := 4) 0 dX6_qCode_4 rfl rfl ?_
  refine xt_getI (pc := 5) 121 (by decide) q1867 rfl rfl rfl dX6_qCode_5 ?_
  refine xr_iload_n (pc := 8) 1 dX6_qCode_8 rfl rfl ?_
  obtain ⟨hi_, hf⟩ := xo_if hf
  refine xt_iast (pc := 9) 120 rfl rfl hi_ dX6_qCode_9 ?_
  refine xr_aload_n (pc := 10) 0 dX6_qCode_10 rfl rfl ?_
  refine xr_dup (pc := 11) dX6_qCode_11 rfl ?_
  refine xt_getI (pc := 12) 121 (by decide) q1867 rfl rfl rfl dX6_qCode_12 ?_
  refine xr_iconst (pc := 15) dX6_qCode_15 xci_1 ?_
  refine xr_iadd (pc := 16) dX6_qCode_16 ?_
  refine xt_putI (pc := 17) 121 (by decide) q1867 rfl rfl rfl (by decide +kernel) rfl dX6_qCode_17 ?_
  rw [kr _ (Option.some.inj hf).symm]
  exact xr_vret (pc := 20) dX6_qCode_20 rfl
theorem met_f_t_qCode (l : Launch) {D : TD} {m : Nat} {x1 : Int32} {τ : TS} {o_ : TS} (hf : f_t_qCode x1 τ = some o_) : xMet (wT D m) l yX6_qCode (ws_ yX6_qCode cX6_qCode 2 none) 0 0 0 0 [.ref m, .int x1] τ (none, o_) :=
  xMet_of (by decide) (Nat.le_of_ble_eq_true rfl) KT_moved (fun _ _ => trivial) (fun K _ _ _ => ok_f_t_qCode hf (fun _ h => by rw [h]))
theorem hd_f_t_qCode : yX6_qCode.cls = RX6 ∧ yX6_qCode.cls ≠ "java/lang/invoke/MethodHandle" ∧ yX6_qCode.cls ≠ "java/lang/invoke/VarHandle" ∧ (parseMethodDescriptor yX6_qCode.desc).map (fun d => d.parameters.length) = some 1 := by decide +kernel
theorem call_f_t_qCode {D : TD} {m : Nat} {K : xK} {M : xM} {Q : State → Prop} {x1 : Int32} {τ : TS} {pc : Nat} {loc : List (Nat × Value)} {st : List Value} {τ1 : TS} (hf : f_t_qCode x1 τ = some τ1) (ho : M.2.2.1 = RX6) (hfr : 1 ≤ M.2.2.2.1) (hlo : 21 ≤ M.2.2.2.2.1) (hcat : (st.map fun v => v.category).sum ≤ 8) (d : decode M.1 pc = .ok (.invokevirtual 701, 3)) (k : xV (wT D m) K M Q τ1 (pc + 3) loc st) : xV (wT D m) K M Q τ pc loc (.int x1 :: .ref m :: st) :=
  xr_callV (As := [.int x1]) (rest := st) (met_f_t_qCode K.2.1 hf) (lw_V q2254 q2256 qs88 q186 q2257) hd_f_t_qCode ho hfr hlo rfl (fun H hR hK => t_recv H hR hK) rfl hcat d k
