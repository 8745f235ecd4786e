set_option maxRecDepth 100000
abbrev mX5_copy : xM := (cX5_copy, 4, RX5, 0, 0, (some (.object "BentRiver$State")), "copy")
def Bc_X5_copy_46 (g : CG) (x0 : Nat) (x1 : Nat) (x2 : Int32) (x3 : Int32) (τ : CC) : Option ((Int32 × CC) ⊕ ((CC))) :=
  if (8 : Int32) ≤ x3 then
  some (.inr τ)
  else
  if gT g x0 = 6 then
  (gR g 606 x0).bind fun b10 =>
  if gT g b10 = 105 then
  if xin x2 (gN g b10) = true then
  if gT g x1 = 6 then
  (gR g 606 x1).bind fun b13 =>
  if gT g b13 = 105 then
  if xin x2 (gN g b13) = true then
  if gT g (gA g b13 x2.toNatClampNeg) = 100 then
  if xin x3 (gN g (gA g b13 x2.toNatClampNeg)) = true then
  if gT g (gA g b10 x2.toNatClampNeg) = 100 then
  if xin x3 (gN g (gA g b10 x2.toNatClampNeg)) = true then
  (gR g 607 x0).bind fun b17 =>
  if gT g b17 = 105 then
  if xin x2 (gN g b17) = true then
  (gR g 607 x1).bind fun b19 =>
  if gT g b19 = 105 then
  if xin x2 (gN g b19) = true then
  if gT g (gA g b19 x2.toNatClampNeg) = 100 then
  if xin x3 (gN g (gA g b19 x2.toNatClampNeg)) = true then
  if gT g (gA g b17 x2.toNatClampNeg) = 100 then
  if xin x3 (gN g (gA g b17 x2.toNatClampNeg)) = true then
  some (.inl (x3 + 1, uA (uA τ (gA g b10 x2.toNatClampNeg) x3.toNatClampNeg (cA τ (gA g b13 x2.toNatClampNeg) x3.toNatClampNeg)) (gA g b17 x2.toNatClampNeg) x3.toNatClampNeg (cA (uA τ (gA g b10 x2.toNatClampNeg) x3.toNatClampNeg (cA τ (gA g b13 x2.toNatClampNeg) x3.toNatClampNeg)) (gA g b19 x2.toNatClampNeg) x3.toNatClampNeg)))
  else none
  else none
  else none
  else none
  else none
  else none
  else none
  else none
  else none
  else none
  else none
  else none
  else none
  else none
  else none
  else none
  else none
  else none
theorem ok_Bc_X5_copy_46 {D : CD} {P : CP} {K : xK} {g : CG} {Z : Option Value × CS} {x0 : Nat} {x1 : Nat} {x2 : Int32} {x3 : Int32} {τ : CC} {o_ : ((Int32 × CC) ⊕ ((CC)))} (hf : Bc_X5_copy_46 g x0 x1 x2 x3 τ = some o_) (kc : ∀ s_ : Int32 × CC, o_ = .inl s_ → xV (wC D P) K mX5_copy (xQ (wC D P) K Z) (g, s_.2) 46 [(0, .ref x0), (1, .ref x1), (2, .int x2), (3, .int s_.1)] []) (ke0 : ∀ e_ : CC, o_ = .inr e_ → xV (wC D P) K mX5_copy (xQ (wC D P) K Z) (g, e_) 90 [(0, .ref x0), (1, .ref x1), (2, .int x2)] []) : xV (wC D P) K mX5_copy (xQ (wC D P) K Z) (g, τ) 46 [(0, .ref x0), (1, .ref x1), (2, .int x2), (3, .int x3)] [] := by
  unfold Bc_X5_copy_46 at hf
  refine xr_iload_n (pc := 46) 3 dX5_copy_46 rfl rfl ?_
  refine xr_bipush (pc := 47) dX5_copy_47 xcb_8 ?_
  refine xr_icmp_ge (pc := 49) 90 dX5_copy_49 (by decide) (fun c_ => ?_) (fun c_ => ?_)
  · have hf := xo_pos c_ hf
    refine xV_sub [0, 1, 2] rfl ?_
    exact ke0 _ (Option.some.inj hf).symm
  · have hf := xo_neg c_ hf
    refine xr_aload_n (pc := 52) 0 dX5_copy_52 rfl rfl ?_
    obtain ⟨ht9, hf⟩ := xo_if hf
    obtain ⟨b10, hb10, hf⟩ := xo_bind hf
    refine yc_getFs (pc := 53) 6 6 606 (gKo ht9 (by decide)) (by decide) (by decide) (by decide) rfl rfl hb10 q446 (ys_eq rfl) rfl dX5_copy_53 ?_
    refine xr_iload_n (pc := 56) 2 dX5_copy_56 rfl rfl ?_
    obtain ⟨ht11, hf⟩ := xo_if hf
    obtain ⟨hi_, hf⟩ := xo_if hf
    refine yc_aaldF (pc := 57) 105 (gKo ht11 (by decide)) (by decide) (by decide) rfl rfl hi_ dX5_copy_57 ?_
    refine xr_iload_n (pc := 58) 3 dX5_copy_58 rfl rfl ?_
    refine xr_aload_n (pc := 59) 1 dX5_copy_59 rfl rfl ?_
    obtain ⟨ht12, hf⟩ := xo_if hf
    obtain ⟨b13, hb13, hf⟩ := xo_bind hf
    refine yc_getFs (pc := 60) 6 6 606 (gKo ht12 (by decide)) (by decide) (by decide) (by decide) rfl rfl hb13 q446 (ys_eq rfl) rfl dX5_copy_60 ?_
    refine xr_iload_n (pc := 63) 2 dX5_copy_63 rfl rfl ?_
    obtain ⟨ht14, hf⟩ := xo_if hf
    obtain ⟨hi_, hf⟩ := xo_if hf
    refine yc_aaldF (pc := 64) 105 (gKo ht14 (by decide)) (by decide) (by decide) rfl rfl hi_ dX5_copy_64 ?_
    refine xr_iload_n (pc := 65) 3 dX5_copy_65 rfl rfl ?_
    obtain ⟨ht15, hf⟩ := xo_if hf
    obtain ⟨hi_, hf⟩ := xo_if hf
    refine yc_iald (pc := 66) (gKo ht15 (by decide)) hi_ dX5_copy_66 ?_
    obtain ⟨ht16, hf⟩ := xo_if hf
    obtain ⟨hi_, hf⟩ := xo_if hf
    refine yc_iast (pc := 67) ht16 hi_ dX5_copy_67 ?_
    refine xr_aload_n (pc := 68) 0 dX5_copy_68 rfl rfl ?_
    obtain ⟨b17, hb17, hf⟩ := xo_bind hf
    refine yc_getFs (pc := 69) 6 7 607 (gKo ht9 (by decide)) (by decide) (by decide) (by decide) rfl rfl hb17 q448 (ys_eq rfl) rfl dX5_copy_69 ?_
    refine xr_iload_n (pc := 72) 2 dX5_copy_72 rfl rfl ?_
    obtain ⟨ht18, hf⟩ := xo_if hf
    obtain ⟨hi_, hf⟩ := xo_if hf
    refine yc_aaldF (pc := 73) 105 (gKo ht18 (by decide)) (by decide) (by decide) rfl rfl hi_ dX5_copy_73 ?_
    refine xr_iload_n (pc := 74) 3 dX5_copy_74 rfl rfl ?_
    refine xr_aload_n (pc := 75) 1 dX5_copy_75 rfl rfl ?_
    obtain ⟨b19, hb19, hf⟩ := xo_bind hf
    refine yc_getFs (pc := 76) 6 7 607 (gKo ht12 (by decide)) (by decide) (by decide) (by decide) rfl rfl hb19 q448 (ys_eq rfl) rfl dX5_copy_76 ?_
    refine xr_iload_n (pc := 79) 2 dX5_copy_79 rfl rfl ?_
    obtain ⟨ht20, hf⟩ := xo_if hf
    obtain ⟨hi_, hf⟩ := xo_if hf
    refine yc_aaldF (pc := 80) 105 (gKo ht20 (by decide)) (by decide) (by decide) rfl rfl hi_ dX5_copy_80 ?_
    refine xr_iload_n (pc := 81) 3 dX5_copy_81 rfl rfl ?_
    obtain ⟨ht21, hf⟩ := xo_if hf
    obtain ⟨hi_, hf⟩ := xo_if hf
    refine yc_iald (pc := 82) (gKo ht21 (by decide)) hi_ dX5_copy_82 ?_
    obtain ⟨ht22, hf⟩ := xo_if hf
    obtain ⟨hi_, hf⟩ := xo_if hf
    refine yc_iast (pc := 83) ht22 hi_ dX5_copy_83 ?_
    refine xr_iinc (pc := 84) (loc' := [(3, .int (x3 + 1)), (0, .ref x0), (1, .ref x1), (2, .int x2)]) 3 dX5_copy_84 rfl xci_1 (by decide) rfl ?_
    refine xr_goto (pc := 87) 46 dX5_copy_87 (by decide) ?_
    refine xV_sub [1, 2, 3, 0] rfl ?_
    exact kc _ (Option.some.inj hf).symm
def Bc_X5_copy_26 (g : CG) (x0 : Nat) (x1 : Nat) (x2 : Int32) (τ : CC) : Option ((Int32 × CC) ⊕ ((CC))) :=
  if (10 : Int32) ≤ x2 then
  some (.inr τ)
  else
  if gT g x0 = 6 then
  (gR g 603 x0).bind fun b4 =>
  if gT g x1 = 6 then
  (gR g 603 x1).bind fun b6 =>
  if gT g b6 = 100 then
  if xin x2 (gN g b6) = true then
  if gT g b4 = 100 then
  if xin x2 (gN g b4) = true then
  (itr (fun s_ : Int32 × CC => Bc_X5_copy_46 g x0 x1 x2 s_.1 s_.2) 4096 (0, uA τ b4 x2.toNatClampNeg (cA τ b6 x2.toNatClampNeg))).bind fun b23 =>
  some (.inl (x2 + 1, b23))
  else none
  else none
  else none
  else none
  else none
  else none
theorem ok_Bc_X5_copy_26 {D : CD} {P : CP} {K : xK} {g : CG} {Z : Option Value × CS} {x0 : Nat} {x1 : Nat} {x2 : Int32} {τ : CC} {o_ : ((Int32 × CC) ⊕ ((CC)))} (hf : Bc_X5_copy_26 g x0 x1 x2 τ = some o_) (kc : ∀ s_ : Int32 × CC, o_ = .inl s_ → xV (wC D P) K mX5_copy (xQ (wC D P) K Z) (g, s_.2) 26 [(0, .ref x0), (1, .ref x1), (2, .int s_.1)] []) (ke0 : ∀ e_ : CC, o_ = .inr e_ → xV (wC D P) K mX5_copy (xQ (wC D P) K Z) (g, e_) 96 [(0, .ref x0), (1, .ref x1)] []) : xV (wC D P) K mX5_copy (xQ (wC D P) K Z) (g, τ) 26 [(0, .ref x0), (1, .ref x1), (2, .int x2)] [] := by
  unfold Bc_X5_copy_26 at hf
  refine xr_iload_n (pc := 26) 2 dX5_copy_26 rfl rfl ?_
  refine xr_bipush (pc := 27) dX5_copy_27 xcb_10 ?_
  refine xr_icmp_ge (pc := 29) 96 dX5_copy_29 (by decide) (fun c_ => ?_) (fun c_ => ?_)
  · have hf := xo_pos c_ hf
    refine xV_sub [0, 1] rfl ?_
    exact ke0 _ (Option.some.inj hf).symm
  · have hf := xo_neg c_ hf
    refine xr_aload_n (pc := 32) 0 dX5_copy_32 rfl rfl ?_
    obtain ⟨ht3, hf⟩ := xo_if hf
    obtain ⟨b4, hb4, hf⟩ := xo_bind hf
    refine yc_getFs (pc := 33) 6 3 603 (gKo ht3 (by decide)) (by decide) (by decide) (by decide) rfl rfl hb4 q440 (ys_eq rfl) rfl dX5_copy_33 ?_
    refine xr_iload_n (pc := 36) 2 dX5_copy_36 rfl rfl ?_
    refine xr_aload_n (pc := 37) 1 dX5_copy_37 rfl rfl ?_
    obtain ⟨ht5, hf⟩ := xo_if hf
    obtain ⟨b6, hb6, hf⟩ := xo_bind hf
    refine yc_getFs (pc := 38) 6 3 603 (gKo ht5 (by decide)) (by decide) (by decide) (by decide) rfl rfl hb6 q440 (ys_eq rfl) rfl dX5_copy_38 ?_
    refine xr_iload_n (pc := 41) 2 dX5_copy_41 rfl rfl ?_
    obtain ⟨ht7, hf⟩ := xo_if hf
    obtain ⟨hi_, hf⟩ := xo_if hf
    refine yc_iald (pc := 42) (gKo ht7 (by decide)) hi_ dX5_copy_42 ?_
    obtain ⟨ht8, hf⟩ := xo_if hf
    obtain ⟨hi_, hf⟩ := xo_if hf
    refine yc_iast (pc := 43) ht8 hi_ dX5_copy_43 ?_
    refine xr_iconst (pc := 44) dX5_copy_44 xci_0 ?_
    refine xr_istore_n (pc := 45) (loc' := [(3, .int 0), (0, .ref x0), (1, .ref x1), (2, .int x2)]) dX5_copy_45 rfl (by decide) rfl ?_
    refine xV_sub [1, 2, 3, 0] rfl ?_
    obtain ⟨b23, hb23, hf⟩ := xo_bind hf
    refine itr_rule (P := fun s_ : Int32 × CC => xV (wC D P) K mX5_copy (xQ (wC D P) K Z) (g, s_.2) 46 [(0, .ref x0), (1, .ref x1), (2, .int x2), (3, .int s_.1)] []) (fun s_ o_ hB_ hc_ he_ => ok_Bc_X5_copy_46 hB_ hc_ (fun e_ h_ => ?_)) 4096 _ hb23
    · have e9_ := he_ _ h_
      rw [e9_]
      refine xr_iinc (pc := 90) (loc' := [(2, .int (x2 + 1)), (0, .ref x0), (1, .ref x1)]) 2 dX5_copy_90 rfl xci_1 (by decide) rfl ?_
      refine xr_goto (pc := 93) 26 dX5_copy_93 (by decide) ?_
      refine xV_sub [1, 2, 0] rfl ?_
      exact kc _ (Option.some.inj hf).symm
def Bc_X5_copy_98 (g : CG) (x0 : Nat) (x1 : Nat) (x2 : Int32) (τ : CC) : Option ((Int32 × CC) ⊕ ((CC))) :=
  if (5 : Int32) ≤ x2 then
  some (.inr τ)
  else
  if gT g x0 = 6 then
  (gR g 604 x0).bind fun b26 =>
  if gT g x1 = 6 then
  (gR g 604 x1).bind fun b28 =>
  if gT g b28 = 100 then
  if xin x2 (gN g b28) = true then
  if gT g b26 = 100 then
  if xin x2 (gN g b26) = true then
  (gR g 605 x0).bind fun b31 =>
  (gR g 605 x1).bind fun b32 =>
  if gT g b32 = 104 then
  if xin x2 (gN g b32) = true then
  if gT g b31 = 104 then
  if xin x2 (gN g b31) = true then
  (gR g 609 x0).bind fun b35 =>
  if gT g b35 = 100 then
  if xin x2 (gN g b35) = true then
  some (.inl (x2 + 1, uA (uA (uA τ b26 x2.toNatClampNeg (cA τ b28 x2.toNatClampNeg)) b31 x2.toNatClampNeg ((cA (uA τ b26 x2.toNatClampNeg (cA τ b28 x2.toNatClampNeg)) b32 x2.toNatClampNeg) &&& 1)) b35 x2.toNatClampNeg 0))
  else none
  else none
  else none
  else none
  else none
  else none
  else none
  else none
  else none
  else none
  else none
  else none
theorem ok_Bc_X5_copy_98 {D : CD} {P : CP} {K : xK} {g : CG} {Z : Option Value × CS} {x0 : Nat} {x1 : Nat} {x2 : Int32} {τ : CC} {o_ : ((Int32 × CC) ⊕ ((CC)))} (hf : Bc_X5_copy_98 g x0 x1 x2 τ = some o_) (kc : ∀ s_ : Int32 × CC, o_ = .inl s_ → xV (wC D P) K mX5_copy (xQ (wC D P) K Z) (g, s_.2) 98 [(0, .ref x0), (1, .ref x1), (2, .int s_.1)] []) (ke0 : ∀ e_ : CC, o_ = .inr e_ → xV (wC D P) K mX5_copy (xQ (wC D P) K Z) (g, e_) 140 [(0, .ref x0), (1, .ref x1)] []) : xV (wC D P) K mX5_copy (xQ (wC D P) K Z) (g, τ) 98 [(0, .ref x0), (1, .ref x1), (2, .int x2)] [] := by
  unfold Bc_X5_copy_98 at hf
  refine xr_iload_n (pc := 98) 2 dX5_copy_98 rfl rfl ?_
  refine xr_iconst (pc := 99) dX5_copy_99 xci_5 ?_
  refine xr_icmp_ge (pc := 100) 140 dX5_copy_100 (by decide) (fun c_ => ?_) (fun c_ => ?_)
  · have hf := xo_pos c_ hf
    refine xV_sub [0, 1] rfl ?_
    exact ke0 _ (Option.some.inj hf).symm
  · have hf := xo_neg c_ hf
    refine xr_aload_n (pc := 103) 0 dX5_copy_103 rfl rfl ?_
    obtain ⟨ht25, hf⟩ := xo_if hf
    obtain ⟨b26, hb26, hf⟩ := xo_bind hf
    refine yc_getFs (pc := 104) 6 4 604 (gKo ht25 (by decide)) (by decide) (by decide) (by decide) rfl rfl hb26 q442 (ys_eq rfl) rfl dX5_copy_104 ?_
    refine xr_iload_n (pc := 107) 2 dX5_copy_107 rfl rfl ?_
    refine xr_aload_n (pc := 108) 1 dX5_copy_108 rfl rfl ?_
    obtain ⟨ht27, hf⟩ := xo_if hf
    obtain ⟨b28, hb28, hf⟩ := xo_bind hf
    refine yc_getFs (pc := 109) 6 4 604 (gKo ht27 (by decide)) (by decide) (by decide) (by decide) rfl rfl hb28 q442 (ys_eq rfl) rfl dX5_copy_109 ?_
    refine xr_iload_n (pc := 112) 2 dX5_copy_112 rfl rfl ?_
    obtain ⟨ht29, hf⟩ := xo_if hf
    obtain ⟨hi_, hf⟩ := xo_if hf
    refine yc_iald (pc := 113) (gKo ht29 (by decide)) hi_ dX5_copy_113 ?_
    obtain ⟨ht30, hf⟩ := xo_if hf
    obtain ⟨hi_, hf⟩ := xo_if hf
    refine yc_iast (pc := 114) ht30 hi_ dX5_copy_114 ?_
    refine xr_aload_n (pc := 115) 0 dX5_copy_115 rfl rfl ?_
    obtain ⟨b31, hb31, hf⟩ := xo_bind hf
    refine yc_getFs (pc := 116) 6 5 605 (gKo ht25 (by decide)) (by decide) (by decide) (by decide) rfl rfl hb31 q444 (ys_eq rfl) rfl dX5_copy_116 ?_
    refine xr_iload_n (pc := 119) 2 dX5_copy_119 rfl rfl ?_
    refine xr_aload_n (pc := 120) 1 dX5_copy_120 rfl rfl ?_
    obtain ⟨b32, hb32, hf⟩ := xo_bind hf
    refine yc_getFs (pc := 121) 6 5 605 (gKo ht27 (by decide)) (by decide) (by decide) (by decide) rfl rfl hb32 q444 (ys_eq rfl) rfl dX5_copy_121 ?_
    refine xr_iload_n (pc := 124) 2 dX5_copy_124 rfl rfl ?_
    obtain ⟨ht33, hf⟩ := xo_if hf
    obtain ⟨hi_, hf⟩ := xo_if hf
    refine yc_zald (pc := 125) (gKo ht33 (by decide)) hi_ dX5_copy_125 ?_
    obtain ⟨ht34, hf⟩ := xo_if hf
    obtain ⟨hi_, hf⟩ := xo_if hf
    refine yc_zast (pc := 126) ht34 hi_ dX5_copy_126 ?_
    refine xr_aload_n (pc := 127) 0 dX5_copy_127 rfl rfl ?_
    obtain ⟨b35, hb35, hf⟩ := xo_bind hf
    refine yc_getFs (pc := 128) 6 9 609 (gKo ht25 (by decide)) (by decide) (by decide) (by decide) rfl rfl hb35 q452 (ys_eq rfl) rfl dX5_copy_128 ?_
    refine xr_iload_n (pc := 131) 2 dX5_copy_131 rfl rfl ?_
    refine xr_iconst (pc := 132) dX5_copy_132 xci_0 ?_
    obtain ⟨ht36, hf⟩ := xo_if hf
    obtain ⟨hi_, hf⟩ := xo_if hf
    refine yc_iast (pc := 133) ht36 hi_ dX5_copy_133 ?_
    refine xr_iinc (pc := 134) (loc' := [(2, .int (x2 + 1)), (0, .ref x0), (1, .ref x1)]) 2 dX5_copy_134 rfl xci_1 (by decide) rfl ?_
    refine xr_goto (pc := 137) 98 dX5_copy_137 (by decide) ?_
    refine xV_sub [1, 2, 0] rfl ?_
    exact kc _ (Option.some.inj hf).symm
def Bc_X5_copy_152 (g : CG) (x0 : Nat) (x1 : Nat) (x2 : Int32) (x3 : Int32) (τ : CC) : Option ((Int32 × CC) ⊕ ((CC))) :=
  if (3 : Int32) ≤ x3 then
  some (.inr τ)
  else
  if gT g x0 = 6 then
  (gR g 608 x0).bind fun b40 =>
  if gT g b40 = 107 then
  if xin x2 (gN g b40) = true then
  (cP τ b40 x2.toNatClampNeg).bind fun b42 =>
  if gT g x1 = 6 then
  (gR g 608 x1).bind fun b44 =>
  if gT g b44 = 107 then
  if xin x2 (gN g b44) = true then
  (cP τ b44 x2.toNatClampNeg).bind fun b46 =>
  if gT g b46 = 100 then
  if xin x3 (gN g b46) = true then
  if gT g b42 = 100 then
  if xin x3 (gN g b42) = true then
  some (.inl (x3 + 1, uA τ b42 x3.toNatClampNeg (cA τ b46 x3.toNatClampNeg)))
  else none
  else none
  else none
  else none
  else none
  else none
  else none
  else none
  else none
  else none
theorem ok_Bc_X5_copy_152 {D : CD} {P : CP} {K : xK} {g : CG} {Z : Option Value × CS} {x0 : Nat} {x1 : Nat} {x2 : Int32} {x3 : Int32} {τ : CC} {o_ : ((Int32 × CC) ⊕ ((CC)))} (hf : Bc_X5_copy_152 g x0 x1 x2 x3 τ = some o_) (kc : ∀ s_ : Int32 × CC, o_ = .inl s_ → xV (wC D P) K mX5_copy (xQ (wC D P) K Z) (g, s_.2) 152 [(0, .ref x0), (1, .ref x1), (2, .int x2), (3, .int s_.1)] []) (ke0 : ∀ e_ : CC, o_ = .inr e_ → xV (wC D P) K mX5_copy (xQ (wC D P) K Z) (g, e_) 179 [(0, .ref x0), (1, .ref x1), (2, .int x2)] []) : xV (wC D P) K mX5_copy (xQ (wC D P) K Z) (g, τ) 152 [(0, .ref x0), (1, .ref x1), (2, .int x2), (3, .int x3)] [] := by
  unfold Bc_X5_copy_152 at hf
  refine xr_iload_n (pc := 152) 3 dX5_copy_152 rfl rfl ?_
  refine xr_iconst (pc := 153) dX5_copy_153 xci_3 ?_
  refine xr_icmp_ge (pc := 154) 179 dX5_copy_154 (by decide) (fun c_ => ?_) (fun c_ => ?_)
  · have hf := xo_pos c_ hf
    refine xV_sub [0, 1, 2] rfl ?_
    exact ke0 _ (Option.some.inj hf).symm
  · have hf := xo_neg c_ hf
    refine xr_aload_n (pc := 157) 0 dX5_copy_157 rfl rfl ?_
    obtain ⟨ht39, hf⟩ := xo_if hf
    obtain ⟨b40, hb40, hf⟩ := xo_bind hf
    refine yc_getFs (pc := 158) 6 8 608 (gKo ht39 (by decide)) (by decide) (by decide) (by decide) rfl rfl hb40 q450 (ys_eq rfl) rfl dX5_copy_158 ?_
    refine xr_iload_n (pc := 161) 2 dX5_copy_161 rfl rfl ?_
    obtain ⟨ht41, hf⟩ := xo_if hf
    obtain ⟨hi_, hf⟩ := xo_if hf
    obtain ⟨b42, hb42, hf⟩ := xo_bind hf
    refine yc_aalds (pc := 162) 107 (gKo ht41 (by decide)) (by decide) (by decide) rfl rfl hi_ hb42 dX5_copy_162 ?_
    refine xr_iload_n (pc := 163) 3 dX5_copy_163 rfl rfl ?_
    refine xr_aload_n (pc := 164) 1 dX5_copy_164 rfl rfl ?_
    obtain ⟨ht43, hf⟩ := xo_if hf
    obtain ⟨b44, hb44, hf⟩ := xo_bind hf
    refine yc_getFs (pc := 165) 6 8 608 (gKo ht43 (by decide)) (by decide) (by decide) (by decide) rfl rfl hb44 q450 (ys_eq rfl) rfl dX5_copy_165 ?_
    refine xr_iload_n (pc := 168) 2 dX5_copy_168 rfl rfl ?_
    obtain ⟨ht45, hf⟩ := xo_if hf
    obtain ⟨hi_, hf⟩ := xo_if hf
    obtain ⟨b46, hb46, hf⟩ := xo_bind hf
    refine yc_aalds (pc := 169) 107 (gKo ht45 (by decide)) (by decide) (by decide) rfl rfl hi_ hb46 dX5_copy_169 ?_
    refine xr_iload_n (pc := 170) 3 dX5_copy_170 rfl rfl ?_
    obtain ⟨ht47, hf⟩ := xo_if hf
    obtain ⟨hi_, hf⟩ := xo_if hf
    refine yc_iald (pc := 171) (gKo ht47 (by decide)) hi_ dX5_copy_171 ?_
    obtain ⟨ht48, hf⟩ := xo_if hf
    obtain ⟨hi_, hf⟩ := xo_if hf
    refine yc_iast (pc := 172) ht48 hi_ dX5_copy_172 ?_
    refine xr_iinc (pc := 173) (loc' := [(3, .int (x3 + 1)), (0, .ref x0), (1, .ref x1), (2, .int x2)]) 3 dX5_copy_173 rfl xci_1 (by decide) rfl ?_
    refine xr_goto (pc := 176) 152 dX5_copy_176 (by decide) ?_
    refine xV_sub [1, 2, 3, 0] rfl ?_
    exact kc _ (Option.some.inj hf).symm
def Bc_X5_copy_142 (g : CG) (x0 : Nat) (x1 : Nat) (x2 : Int32) (τ : CC) : Option ((Int32 × CC) ⊕ ((CC))) :=
  if gT g x0 = 6 then
  if (cI τ 602 x0) ≤ x2 then
  some (.inr τ)
  else
  (itr (fun s_ : Int32 × CC => Bc_X5_copy_152 g x0 x1 x2 s_.1 s_.2) 4096 (0, τ)).bind fun b49 =>
  some (.inl (x2 + 1, b49))
  else none
theorem ok_Bc_X5_copy_142 {D : CD} {P : CP} {K : xK} {g : CG} {Z : Option Value × CS} {x0 : Nat} {x1 : Nat} {x2 : Int32} {τ : CC} {o_ : ((Int32 × CC) ⊕ ((CC)))} (hf : Bc_X5_copy_142 g x0 x1 x2 τ = some o_) (kc : ∀ s_ : Int32 × CC, o_ = .inl s_ → xV (wC D P) K mX5_copy (xQ (wC D P) K Z) (g, s_.2) 142 [(0, .ref x0), (1, .ref x1), (2, .int s_.1)] []) (ke0 : ∀ e_ : CC, o_ = .inr e_ → xV (wC D P) K mX5_copy (xQ (wC D P) K Z) (g, e_) 185 [(0, .ref x0)] []) : xV (wC D P) K mX5_copy (xQ (wC D P) K Z) (g, τ) 142 [(0, .ref x0), (1, .ref x1), (2, .int x2)] [] := by
  unfold Bc_X5_copy_142 at hf
  refine xr_iload_n (pc := 142) 2 dX5_copy_142 rfl rfl ?_
  refine xr_aload_n (pc := 143) 0 dX5_copy_143 rfl rfl ?_
  obtain ⟨ht38, hf⟩ := xo_if hf
  refine yc_getI (pc := 144) 6 2 602 (gKo ht38 (by decide)) (by decide) (by decide) (by decide) rfl rfl q438 (ys_eq rfl) rfl dX5_copy_144 ?_
  refine xr_icmp_ge (pc := 147) 185 dX5_copy_147 (by decide) (fun c_ => ?_) (fun c_ => ?_)
  · have hf := xo_pos c_ hf
    refine xV_sub [0] rfl ?_
    exact ke0 _ (Option.some.inj hf).symm
  · have hf := xo_neg c_ hf
    refine xr_iconst (pc := 150) dX5_copy_150 xci_0 ?_
    refine xr_istore_n (pc := 151) (loc' := [(3, .int 0), (0, .ref x0), (1, .ref x1), (2, .int x2)]) dX5_copy_151 rfl (by decide) rfl ?_
    refine xV_sub [1, 2, 3, 0] rfl ?_
    obtain ⟨b49, hb49, hf⟩ := xo_bind hf
    refine itr_rule (P := fun s_ : Int32 × CC => xV (wC D P) K mX5_copy (xQ (wC D P) K Z) (g, s_.2) 152 [(0, .ref x0), (1, .ref x1), (2, .int x2), (3, .int s_.1)] []) (fun s_ o_ hB_ hc_ he_ => ok_Bc_X5_copy_152 hB_ hc_ (fun e_ h_ => ?_)) 4096 _ hb49
    · have e9_ := he_ _ h_
      rw [e9_]
      refine xr_iinc (pc := 179) (loc' := [(2, .int (x2 + 1)), (0, .ref x0), (1, .ref x1)]) 2 dX5_copy_179 rfl xci_1 (by decide) rfl ?_
      refine xr_goto (pc := 182) 142 dX5_copy_182 (by decide) ?_
      refine xV_sub [1, 2, 0] rfl ?_
      exact kc _ (Option.some.inj hf).symm
def f_c_X5_copy (g : CG) (x0 : Nat) (x1 : Nat) (τ : CC) : Option (Nat × CC) :=
  if gT g x1 = 6 then
  if gT g x0 = 6 then
  (itr (fun s_ : Int32 × CC => Bc_X5_copy_26 g x0 x1 s_.1 s_.2) 4096 (0, uI (uI (uI τ 600 x0 (cI τ 600 x1)) 601 x0 (cI (uI τ 600 x0 (cI τ 600 x1)) 601 x1)) 602 x0 (cI (uI (uI τ 600 x0 (cI τ 600 x1)) 601 x0 (cI (uI τ 600 x0 (cI τ 600 x1)) 601 x1)) 602 x1))).bind fun b24 =>
  (itr (fun s_ : Int32 × CC => Bc_X5_copy_98 g x0 x1 s_.1 s_.2) 4096 (0, b24)).bind fun b37 =>
  (itr (fun s_ : Int32 × CC => Bc_X5_copy_142 g x0 x1 s_.1 s_.2) 4096 (0, b37)).bind fun b50 =>
  some ((x0, b50))
  else none
  else none
theorem ok_f_c_X5_copy {D : CD} {P : CP} {K : xK} {g : CG} {Z : Option Value × CS} {x0 : Nat} {x1 : Nat} {τ : CC} {o_ : (Nat × CC)} (hf : f_c_X5_copy g x0 x1 τ = some o_) (kr : ∀ r_ : (Nat × CC), o_ = r_ → Z = (some (.ref r_.1), (g, r_.2))) : xV (wC D P) K mX5_copy (xQ (wC D P) K Z) (g, τ) 0 [(0, .ref x0), (1, .ref x1)] [] := by
  unfold f_c_X5_copy at hf
  refine xr_aload_n (pc := 0) 0 dX5_copy_0 rfl rfl ?_
  refine xr_aload_n (pc := 1) 1 dX5_copy_1 rfl rfl ?_
  obtain ⟨ht1, hf⟩ := xo_if hf
  refine yc_getI (pc := 2) 6 0 600 (gKo ht1 (by decide)) (by decide) (by decide) (by decide) rfl rfl q434 (ys_eq rfl) rfl dX5_copy_2 ?_
  obtain ⟨ht2, hf⟩ := xo_if hf
  refine yc_putI (pc := 5) 6 0 600 ht2 (by decide) (by decide) (by decide) rfl rfl rfl (ty := .int) (by decide +kernel) rfl rfl q434 (ys_eq rfl) rfl dX5_copy_5 ?_
  refine xr_aload_n (pc := 8) 0 dX5_copy_8 rfl rfl ?_
  refine xr_aload_n (pc := 9) 1 dX5_copy_9 rfl rfl ?_
  refine yc_getI (pc := 10) 6 1 601 (gKo ht1 (by decide)) (by decide) (by decide) (by decide) rfl rfl q436 (ys_eq rfl) rfl dX5_copy_10 ?_
  refine yc_putI (pc := 13) 6 1 601 ht2 (by decide) (by decide) (by decide) rfl rfl rfl (ty := .int) (by decide +kernel) rfl rfl q436 (ys_eq rfl) rfl dX5_copy_13 ?_
  refine xr_aload_n (pc := 16) 0 dX5_copy_16 rfl rfl ?_
  refine xr_aload_n (pc := 17) 1 dX5_copy_17 rfl rfl ?_
  refine yc_getI (pc := 18) 6 2 602 (gKo ht1 (by decide)) (by decide) (by decide) (by decide) rfl rfl q438 (ys_eq rfl) rfl dX5_copy_18 ?_
  refine yc_putI (pc := 21) 6 2 602 ht2 (by decide) (by decide) (by decide) rfl rfl rfl (ty := .int) (by decide +kernel) rfl rfl q438 (ys_eq rfl) rfl dX5_copy_21 ?_
  refine xr_iconst (pc := 24) dX5_copy_24 xci_0 ?_
  refine xr_istore_n (pc := 25) (loc' := [(2, .int 0), (0, .ref x0), (1, .ref x1)]) dX5_copy_25 rfl (by decide) rfl ?_
  refine xV_sub [1, 2, 0] rfl ?_
  obtain ⟨b24, hb24, hf⟩ := xo_bind hf
  refine itr_rule (P := fun s_ : Int32 × CC => xV (wC D P) K mX5_copy (xQ (wC D P) K Z) (g, s_.2) 26 [(0, .ref x0), (1, .ref x1), (2, .int s_.1)] []) (fun s_ o_ hB_ hc_ he_ => ok_Bc_X5_copy_26 hB_ hc_ (fun e_ h_ => ?_)) 4096 _ hb24
  · have e9_ := he_ _ h_
    rw [e9_]
    refine xr_iconst (pc := 96) dX5_copy_96 xci_0 ?_
    refine xr_istore_n (pc := 97) (loc' := [(2, .int 0), (0, .ref x0), (1, .ref x1)]) dX5_copy_97 rfl (by decide) rfl ?_
    refine xV_sub [1, 2, 0] rfl ?_
    obtain ⟨b37, hb37, hf⟩ := xo_bind hf
    refine itr_rule (P := fun s_ : Int32 × CC => xV (wC D P) K mX5_copy (xQ (wC D P) K Z) (g, s_.2) 98 [(0, .ref x0), (1, .ref x1), (2, .int s_.1)] []) (fun s_ o_ hB_ hc_ he_ => ok_Bc_X5_copy_98 hB_ hc_ (fun e_ h_ => ?_)) 4096 _ hb37
    · have e9_ := he_ _ h_
      rw [e9_]
      refine xr_iconst (pc := 140) dX5_copy_140 xci_0 ?_
      refine xr_istore_n (pc := 141) (loc' := [(2, .int 0), (0, .ref x0), (1, .ref x1)]) dX5_copy_141 rfl (by decide) rfl ?_
      refine xV_sub [1, 2, 0] rfl ?_
      obtain ⟨b50, hb50, hf⟩ := xo_bind hf
      refine itr_rule (P := fun s_ : Int32 × CC => xV (wC D P) K mX5_copy (xQ (wC D P) K Z) (g, s_.2) 142 [(0, .ref x0), (1, .ref x1), (2, .int s_.1)] []) (fun s_ o_ hB_ hc_ he_ => ok_Bc_X5_copy_142 hB_ hc_ (fun e_ h_ => ?_)) 4096 _ hb50
      · have e9_ := he_ _ h_
        rw [e9_]
        refine xr_aload_n (pc := 185) 0 dX5_copy_185 rfl rfl ?_
        rw [kr _ (Option.some.inj hf).symm]
        exact xr_aret (pc := 186) dX5_copy_186 rfl (Or.inl ⟨_, rfl⟩)
theorem met_f_c_X5_copy (l : Launch) {D : CD} {P : CP} {g : CG} {x0 : Nat} {x1 : Nat} {τ : CC} {o_ : (Nat × CC)} (hf : f_c_X5_copy g x0 x1 τ = some o_) : xMet (wC D P) l yX5_copy (ws_ yX5_copy cX5_copy 4 (some (.object "BentRiver$State"))) 0 0 (grc g) (grs g) [.ref x0, .ref x1] (g, τ) (some (.ref o_.1), (g, o_.2)) := 
  xMet_of (by decide) (Nat.le_of_ble_eq_true rfl) KC_moved RPC_of (fun K _ _ _ => ok_f_c_X5_copy hf (fun _ h => by rw [h]))
theorem call_f_c_X0_is_X5_149 {D : CD} {P : CP} {K : xK} {M : xM} {Q : State → Prop} {g : CG} {c : CC} {x0 : Int32} {x1 : Int32} {x2 : Int32} {pc : Nat} {loc : List (Nat × Value)} {st : List Value} {r : Int32} {c1 : CC} (hf : f_c_X0_is g x0 x1 x2 c = some (r, c1)) (ho : M.2.2.1 = RX5) (hfr : 1 ≤ M.2.2.2.1) (hlo : 22 ≤ M.2.2.2.2.1) (hcat : (st.map fun v => v.category).sum ≤ 8) (d : decode M.1 pc = .ok (.invokestatic 149, 3)) (k : xV (wC D P) K M Q (g, c1) (pc + 3) loc (.int r :: st)) : xV (wC D P) K M Q (g, c) pc loc (.int x2 :: .int x1 :: .int x0 :: st) :=
  yc_callSN (As := [.int x0, .int x1, .int x2]) (rest := st) (met_f_c_X0_is K.2.1 hf) (lw_meth q715) q1502 q714 q174 hd_f_c_X0_is ho hfr hlo rfl rfl hcat d k
theorem call_f_c_J12_abs_X5_153 {D : CD} {P : CP} {K : xK} {M : xM} {Q : State → Prop} {g : CG} {c : CC} {x0 : Int32} {pc : Nat} {loc : List (Nat × Value)} {st : List Value} {r : Int32} {c1 : CC} (hf : f_c_J12_abs g x0 c = some (r, c1)) (ho : M.2.2.1 = RX5) (hfr : 1 ≤ M.2.2.2.1) (hlo : 20 ≤ M.2.2.2.2.1) (hcat : (st.map fun v => v.category).sum ≤ 8) (d : decode M.1 pc = .ok (.invokestatic 153, 3)) (k : xV (wC D P) K M Q (g, c1) (pc + 3) loc (.int r :: st)) : xV (wC D P) K M Q (g, c) pc loc (.int x0 :: st) :=
  yc_callS (As := [.int x0]) (rest := st) (met_f_c_J12_abs K.2.1 hf) (lw_S q1503 q1301 q194 q1302) hd_f_c_J12_abs ho hfr hlo rfl rfl hcat d k
abbrev mX5_canGo : xM := (cX5_canGo, 3, RX5, 1, 60, (some .boolean), "canGo")
def Jc_X5_canGo_93 (g : CG) (τ : CC) : Option (Int32 × CC) :=
  some ((0, τ))
theorem ok_Jc_X5_canGo_93 {D : CD} {P : CP} {K : xK} {g : CG} {Z : Option Value × CS} {τ : CC} {o_ : (Int32 × CC)} (hf : Jc_X5_canGo_93 g τ = some o_) (kr : ∀ r_ : (Int32 × CC), o_ = r_ → Z = (some (.int r_.1), (g, r_.2))) : xV (wC D P) K mX5_canGo (xQ (wC D P) K Z) (g, τ) 93 [] [] := by
  unfold Jc_X5_canGo_93 at hf
  refine xr_iconst (pc := 93) dX5_canGo_93 xci_0 ?_
  rw [kr _ (Option.some.inj hf).symm]
  exact xr_zret (pc := 94) dX5_canGo_94 rfl xz_0
def Jc_X5_canGo_89 (g : CG) (τ : CC) : Option (Int32 × CC) :=
  some ((1, τ))
theorem ok_Jc_X5_canGo_89 {D : CD} {P : CP} {K : xK} {g : CG} {Z : Option Value × CS} {τ : CC} {o_ : (Int32 × CC)} (hf : Jc_X5_canGo_89 g τ = some o_) (kr : ∀ r_ : (Int32 × CC), o_ = r_ → Z = (some (.int r_.1), (g, r_.2))) : xV (wC D P) K mX5_canGo (xQ (wC D P) K Z) (g, τ) 89 [] [] := by
  unfold Jc_X5_canGo_89 at hf
  refine xr_iconst (pc := 89) dX5_canGo_89 xci_1 ?_
  refine xr_goto (pc := 90) 94 dX5_canGo_90 (by decide) ?_
  rw [kr _ (Option.some.inj hf).symm]
  exact xr_zret (pc := 94) dX5_canGo_94 rfl xz_1
def Jc_X5_canGo_50 (g : CG) (x0 : Nat) (x1 : Int32) (x2 : Int32) (τ : CC) : Option (Int32 × CC) :=
  if gT g x0 = 6 then
  (gR g 610 x0).bind fun b8 =>
  if gT g b8 = 1 then
  xbd (f_c_X0_columns g b8 τ) fun r10 τ10 =>
  if x1 = (r10 - 1) then
  Jc_X5_canGo_89 g τ10
  else
  (gR g 603 x0).bind fun b11 =>
  if gT g b11 = 100 then
  if xin (x1 + 1) (gN g b11) = true then
  xbd (f_c_J12_abs g (x2 - (cA τ10 b11 (x1 + 1).toNatClampNeg)) τ10) fun r13 τ13 =>
  (cR τ13 100 b8).bind fun b14 =>
  if gT g b14 = 2 then
  if (cI τ13 203 b14) < r13 then
  Jc_X5_canGo_93 g τ13
  else
  Jc_X5_canGo_89 g τ13
  else none
  else none
  else none
  else none
  else none
theorem ok_Jc_X5_canGo_50 {D : CD} {P : CP} {K : xK} {g : CG} {Z : Option Value × CS} {x0 : Nat} {x1 : Int32} {x2 : Int32} {τ : CC} {o_ : (Int32 × CC)} (hf : Jc_X5_canGo_50 g x0 x1 x2 τ = some o_) (kr : ∀ r_ : (Int32 × CC), o_ = r_ → Z = (some (.int r_.1), (g, r_.2))) : xV (wC D P) K mX5_canGo (xQ (wC D P) K Z) (g, τ) 50 [(0, .ref x0), (1, .int x1), (2, .int x2)] [] := by
  unfold Jc_X5_canGo_50 at hf
  refine xr_iload_n (pc := 50) 1 dX5_canGo_50 rfl rfl ?_
  refine xr_aload_n (pc := 51) 0 dX5_canGo_51 rfl rfl ?_
  obtain ⟨ht7, hf⟩ := xo_if hf
  obtain ⟨b8, hb8, hf⟩ := xo_bind hf
  refine yc_getFs (pc := 52) 6 10 610 (gKo ht7 (by decide)) (by decide) (by decide) (by decide) rfl rfl hb8 q454 (ys_eq rfl) rfl dX5_canGo_52 ?_
  obtain ⟨ht9, hf⟩ := xo_if hf
  obtain ⟨r10, τ10, hτ10, hf⟩ := xo_bd hf
  refine call_f_c_X0_columns_X5_78 (pc := 55) hτ10 (gKo ht9 (by decide)) rfl (Nat.le_of_ble_eq_true rfl) (Nat.le_of_ble_eq_true rfl) (Nat.le_of_ble_eq_true rfl) dX5_canGo_55 ?_
  refine xr_iconst (pc := 58) dX5_canGo_58 xci_1 ?_
  refine xr_isub (pc := 59) dX5_canGo_59 ?_
  refine xr_icmp_eq (pc := 60) 89 dX5_canGo_60 (by decide) (fun c_ => ?_) (fun c_ => ?_)
  · have hf := xo_pos c_ hf
    refine xV_sub [] rfl ?_
    exact ok_Jc_X5_canGo_89 hf kr
  · have hf := xo_neg c_ hf
    refine xr_iload_n (pc := 63) 2 dX5_canGo_63 rfl rfl ?_
    refine xr_aload_n (pc := 64) 0 dX5_canGo_64 rfl rfl ?_
    obtain ⟨b11, hb11, hf⟩ := xo_bind hf
    refine yc_getFs (pc := 65) 6 3 603 (gKo ht7 (by decide)) (by decide) (by decide) (by decide) rfl rfl hb11 q440 (ys_eq rfl) rfl dX5_canGo_65 ?_
    refine xr_iload_n (pc := 68) 1 dX5_canGo_68 rfl rfl ?_
    refine xr_iconst (pc := 69) dX5_canGo_69 xci_1 ?_
    refine xr_iadd (pc := 70) dX5_canGo_70 ?_
    obtain ⟨ht12, hf⟩ := xo_if hf
    obtain ⟨hi_, hf⟩ := xo_if hf
    refine yc_iald (pc := 71) (gKo ht12 (by decide)) hi_ dX5_canGo_71 ?_
    refine xr_isub (pc := 72) dX5_canGo_72 ?_
    obtain ⟨r13, τ13, hτ13, hf⟩ := xo_bd hf
    refine call_f_c_J12_abs_X5_153 (pc := 73) hτ13 rfl (Nat.le_of_ble_eq_true rfl) (Nat.le_of_ble_eq_true rfl) (Nat.le_of_ble_eq_true rfl) dX5_canGo_73 ?_
    refine xr_aload_n (pc := 76) 0 dX5_canGo_76 rfl rfl ?_
    refine yc_getFs (pc := 77) 6 10 610 (gKo ht7 (by decide)) (by decide) (by decide) (by decide) rfl rfl hb8 q454 (ys_eq rfl) rfl dX5_canGo_77 ?_
    obtain ⟨b14, hb14, hf⟩ := xo_bind hf
    refine yc_getRsN (pc := 80) 1 0 100 (gKo ht9 (by decide)) (by decide) (by decide) (by decide) rfl rfl hb14 q483 (ys_eq rfl) rfl dX5_canGo_80 ?_
    obtain ⟨ht15, hf⟩ := xo_if hf
    refine yc_getIN (pc := 83) 2 3 203 (gKo ht15 (by decide)) (by decide) (by decide) (by decide) rfl rfl q264 (ys_eq rfl) rfl dX5_canGo_83 ?_
    refine xr_icmp_gt (pc := 86) 93 dX5_canGo_86 (by decide) (fun c_ => ?_) (fun c_ => ?_)
    · have hf := xo_pos c_ hf
      refine xV_sub [] rfl ?_
      exact ok_Jc_X5_canGo_93 hf kr
    · have hf := xo_neg c_ hf
      refine xV_sub [] rfl ?_
      exact ok_Jc_X5_canGo_89 hf kr
def f_c_X5_canGo (g : CG) (x0 : Nat) (x1 : Int32) (x2 : Int32) (τ : CC) : Option (Int32 × CC) :=
  if gT g x0 = 6 then
  (gR g 610 x0).bind fun b2 =>
  if gT g b2 = 1 then
  (cR τ 100 b2).bind fun b4 =>
  if gT g b4 = 2 then
  xbd (f_c_X0_is g x2 0 ((cI τ 202 b4) - 1) τ) fun r6 τ6 =>
  if r6 = 0 then
  Jc_X5_canGo_93 g τ6
  else
  if x1 = 0 then
  Jc_X5_canGo_50 g x0 x1 x2 τ6
  else
  (gR g 603 x0).bind fun b16 =>
  if gT g b16 = 100 then
  if xin (x1 - 1) (gN g b16) = true then
  xbd (f_c_J12_abs g (x2 - (cA τ6 b16 (x1 - 1).toNatClampNeg)) τ6) fun r18 τ18 =>
  (cR τ18 100 b2).bind fun b19 =>
  if gT g b19 = 2 then
  if (cI τ18 203 b19) < r18 then
  Jc_X5_canGo_93 g τ18
  else
  Jc_X5_canGo_50 g x0 x1 x2 τ18
  else none
  else none
  else none
  else none
  else none
  else none
theorem ok_f_c_X5_canGo {D : CD} {P : CP} {K : xK} {g : CG} {Z : Option Value × CS} {x0 : Nat} {x1 : Int32} {x2 : Int32} {τ : CC} {o_ : (Int32 × CC)} (hf : f_c_X5_canGo g x0 x1 x2 τ = some o_) (kr : ∀ r_ : (Int32 × CC), o_ = r_ → Z = (some (.int r_.1), (g, r_.2))) : xV (wC D P) K mX5_canGo (xQ (wC D P) K Z) (g, τ) 0 [(0, .ref x0), (1, .int x1), (2, .int x2)] [] := by
  unfold f_c_X5_canGo at hf
  refine xr_iload_n (pc := 0) 2 dX5_canGo_0 rfl rfl ?_
  refine xr_iconst (pc := 1) dX5_canGo_1 xci_0 ?_
  refine xr_aload_n (pc := 2) 0 dX5_canGo_2 rfl rfl ?_
  obtain ⟨ht1, hf⟩ := xo_if hf
  obtain ⟨b2, hb2, hf⟩ := xo_bind hf
  refine yc_getFs (pc := 3) 6 10 610 (gKo ht1 (by decide)) (by decide) (by decide) (by decide) rfl rfl hb2 q454 (ys_eq rfl) rfl dX5_canGo_3 ?_
  obtain ⟨ht3, hf⟩ := xo_if hf
  obtain ⟨b4, hb4, hf⟩ := xo_bind hf
  refine yc_getRsN (pc := 6) 1 0 100 (gKo ht3 (by decide)) (by decide) (by decide) (by decide) rfl rfl hb4 q483 (ys_eq rfl) rfl dX5_canGo_6 ?_
  obtain ⟨ht5, hf⟩ := xo_if hf
  refine yc_getIN (pc := 9) 2 2 202 (gKo ht5 (by decide)) (by decide) (by decide) (by decide) rfl rfl q261 (ys_eq rfl) rfl dX5_canGo_9 ?_
  refine xr_iconst (pc := 12) dX5_canGo_12 xci_1 ?_
  refine xr_isub (pc := 13) dX5_canGo_13 ?_
  obtain ⟨r6, τ6, hτ6, hf⟩ := xo_bd hf
  refine call_f_c_X0_is_X5_149 (pc := 14) hτ6 rfl (Nat.le_of_ble_eq_true rfl) (Nat.le_of_ble_eq_true rfl) (Nat.le_of_ble_eq_true rfl) dX5_canGo_14 ?_
  refine xr_if_eq (pc := 17) 93 dX5_canGo_17 (by decide) (fun c_ => ?_) (fun c_ => ?_)
  · have hf := xo_pos c_ hf
    refine xV_sub [] rfl ?_
    exact ok_Jc_X5_canGo_93 hf kr
  · have hf := xo_neg c_ hf
    refine xr_iload_n (pc := 20) 1 dX5_canGo_20 rfl rfl ?_
    refine xr_if_eq (pc := 21) 50 dX5_canGo_21 (by decide) (fun c_ => ?_) (fun c_ => ?_)
    · have hf := xo_pos c_ hf
      exact ok_Jc_X5_canGo_50 hf kr
    · have hf := xo_neg c_ hf
      refine xr_iload_n (pc := 24) 2 dX5_canGo_24 rfl rfl ?_
      refine xr_aload_n (pc := 25) 0 dX5_canGo_25 rfl rfl ?_
      obtain ⟨b16, hb16, hf⟩ := xo_bind hf
      refine yc_getFs (pc := 26) 6 3 603 (gKo ht1 (by decide)) (by decide) (by decide) (by decide) rfl rfl hb16 q440 (ys_eq rfl) rfl dX5_canGo_26 ?_
      refine xr_iload_n (pc := 29) 1 dX5_canGo_29 rfl rfl ?_
      refine xr_iconst (pc := 30) dX5_canGo_30 xci_1 ?_
      refine xr_isub (pc := 31) dX5_canGo_31 ?_
      obtain ⟨ht17, hf⟩ := xo_if hf
      obtain ⟨hi_, hf⟩ := xo_if hf
      refine yc_iald (pc := 32) (gKo ht17 (by decide)) hi_ dX5_canGo_32 ?_
      refine xr_isub (pc := 33) dX5_canGo_33 ?_
      obtain ⟨r18, τ18, hτ18, hf⟩ := xo_bd hf
      refine call_f_c_J12_abs_X5_153 (pc := 34) hτ18 rfl (Nat.le_of_ble_eq_true rfl) (Nat.le_of_ble_eq_true rfl) (Nat.le_of_ble_eq_true rfl) dX5_canGo_34 ?_
      refine xr_aload_n (pc := 37) 0 dX5_canGo_37 rfl rfl ?_
      refine yc_getFs (pc := 38) 6 10 610 (gKo ht1 (by decide)) (by decide) (by decide) (by decide) rfl rfl hb2 q454 (ys_eq rfl) rfl dX5_canGo_38 ?_
      obtain ⟨b19, hb19, hf⟩ := xo_bind hf
      refine yc_getRsN (pc := 41) 1 0 100 (gKo ht3 (by decide)) (by decide) (by decide) (by decide) rfl rfl hb19 q483 (ys_eq rfl) rfl dX5_canGo_41 ?_
      obtain ⟨ht20, hf⟩ := xo_if hf
      refine yc_getIN (pc := 44) 2 3 203 (gKo ht20 (by decide)) (by decide) (by decide) (by decide) rfl rfl q264 (ys_eq rfl) rfl dX5_canGo_44 ?_
      refine xr_icmp_gt (pc := 47) 93 dX5_canGo_47 (by decide) (fun c_ => ?_) (fun c_ => ?_)
      · have hf := xo_pos c_ hf
        refine xV_sub [] rfl ?_
        exact ok_Jc_X5_canGo_93 hf kr
      · have hf := xo_neg c_ hf
        exact ok_Jc_X5_canGo_50 hf kr
theorem met_f_c_X5_canGo (l : Launch) {D : CD} {P : CP} {g : CG} {x0 : Nat} {x1 : Int32} {x2 : Int32} {τ : CC} {o_ : (Int32 × CC)} (hf : f_c_X5_canGo g x0 x1 x2 τ = some o_) : xMet (wC D P) l yX5_canGo (ws_ yX5_canGo cX5_canGo 3 (some .boolean)) 1 60 (grc g) (grs g) [.ref x0, .int x1, .int x2] (g, τ) (some (.int o_.1), (g, o_.2)) := 
  xMet_of (by decide) (Nat.le_of_ble_eq_true rfl) KC_moved RPC_of (fun K _ _ _ => ok_f_c_X5_canGo hf (fun _ h => by rw [h]))
theorem hd_f_c_X5_canGo : yX5_canGo.cls ≠ "java/lang/invoke/MethodHandle" ∧ yX5_canGo.cls ≠ "java/lang/invoke/VarHandle" ∧ (parseMethodDescriptor yX5_canGo.desc).map (fun d => d.parameters.length) = some 2 := by decide +kernel
theorem call_f_c_X5_canGo_X5_159 {D : CD} {P : CP} {K : xK} {M : xM} {Q : State → Prop} {g : CG} {c : CC} {x0 : Nat} {x1 : Int32} {x2 : Int32} {pc : Nat} {loc : List (Nat × Value)} {st : List Value} {r : Int32} {c1 : CC} (hf : f_c_X5_canGo g x0 x1 x2 c = some (r, c1)) (hr : gK g x0 = 6) (ho : M.2.2.1 = RX5) (hfr : 2 ≤ M.2.2.2.1) (hlo : 82 ≤ M.2.2.2.2.1) (hcat : (st.map fun v => v.category).sum ≤ 8) (d : decode M.1 pc = .ok (.invokevirtual 159, 3)) (k : xV (wC D P) K M Q (g, c1) (pc + 3) loc (.int r :: st)) : xV (wC D P) K M Q (g, c) pc loc (.int x2 :: .int x1 :: .ref x0 :: st) :=
  yc_callV (As := [.int x1, .int x2]) (rest := st) (met_f_c_X5_canGo K.2.1 hf) (lw_V q1498 q1500 qs46 q185 q1501) ⟨rfl, hd_f_c_X5_canGo⟩ ho hfr hlo rfl hr (by decide) (by decide) rfl rfl hcat d k
theorem call_f_c_X5_eats_X5_163 {D : CD} {P : CP} {K : xK} {M : xM} {Q : State → Prop} {g : CG} {c : CC} {x0 : Nat} {x1 : Int32} {x2 : Int32} {pc : Nat} {loc : List (Nat × Value)} {st : List Value} {r : Int64} {c1 : CC} (hf : f_c_X5_eats g x0 x1 x2 c = some (r, c1)) (hr : gK g x0 = 6) (ho : M.2.2.1 = RX5) (hfr : 79 ≤ M.2.2.2.1) (hlo : 4702 ≤ M.2.2.2.2.1) (hcat : (st.map fun v => v.category).sum ≤ 8) (d : decode M.1 pc = .ok (.invokevirtual 163, 3)) (k : xV (wC D P) K M Q (g, c1) (pc + 3) loc (.long r :: st)) : xV (wC D P) K M Q (g, c) pc loc (.int x2 :: .int x1 :: .ref x0 :: st) :=
  yc_callV (As := [.int x1, .int x2]) (rest := st) (met_f_c_X5_eats K.2.1 hf) (lw_V q1504 q1451 q1452 q185 q1453) ⟨rfl, hd_f_c_X5_eats⟩ ho hfr hlo rfl hr (by decide) (by decide) rfl rfl hcat d k
abbrev mX5_moves : xM := (cX5_moves, 6, RX5, 79, 4740, none, "moves")
def Jc_X5_moves_68 (g : CG) (x0 : Nat) (x1 : Int32) (x2 : Int32) (x3 : Int64) (x5 : Int32) (τ : CC) : Option ((Int32 × Int64 × Int32 × CC) ⊕ ((Int32 × CC))) :=
  some (.inl (x2, x3, x5 + 2, τ))
theorem ok_Jc_X5_moves_68 {D : CD} {P : CP} {K : xK} {g : CG} {Z : Option Value × CS} {x0 : Nat} {x1 : Int32} {x2 : Int32} {x3 : Int64} {x5 : Int32} {τ : CC} {o_ : ((Int32 × Int64 × Int32 × CC) ⊕ ((Int32 × CC)))} (hf : Jc_X5_moves_68 g x0 x1 x2 x3 x5 τ = some o_) (kc : ∀ s_ : Int32 × Int64 × Int32 × CC, o_ = .inl s_ → xV (wC D P) K mX5_moves (xQ (wC D P) K Z) (g, s_.2.2.2) 19 [(0, .ref x0), (1, .int x1), (2, .int s_.1), (3, .long s_.2.1), (5, .int s_.2.2.1)] []) (ke0 : ∀ e_ : Int32 × CC, o_ = .inr e_ → xV (wC D P) K mX5_moves (xQ (wC D P) K Z) (g, e_.2) 74 [(0, .ref x0), (1, .int x1), (2, .int e_.1)] []) : xV (wC D P) K mX5_moves (xQ (wC D P) K Z) (g, τ) 68 [(0, .ref x0), (1, .int x1), (2, .int x2), (3, .long x3), (5, .int x5)] [] := by
  unfold Jc_X5_moves_68 at hf
  refine xr_iinc (pc := 68) (loc' := [(5, .int (x5 + 2)), (0, .ref x0), (1, .int x1), (2, .int x2), (3, .long x3)]) 4 dX5_moves_68 rfl xci_2 (by decide) rfl ?_
  refine xr_goto (pc := 71) 19 dX5_moves_71 (by decide) ?_
  refine xV_sub [1, 2, 3, 4, 0] rfl ?_
  exact kc _ (Option.some.inj hf).symm
def Bc_X5_moves_19 (g : CG) (x0 : Nat) (x1 : Int32) (x2 : Int32) (x3 : Int64) (x5 : Int32) (τ : CC) : Option ((Int32 × Int64 × Int32 × CC) ⊕ ((Int32 × CC))) :=
  if gT g x0 = 6 then
  (gR g 603 x0).bind fun b5 =>
  if gT g b5 = 100 then
  if xin x1 (gN g b5) = true then
  if ((cA τ b5 x1.toNatClampNeg) + 1) < x5 then
  some (.inr (x2, τ))
  else
  xbd (f_c_X5_canGo g x0 x1 x5 τ) fun r7 τ7 =>
  if r7 = 0 then
  Jc_X5_moves_68 g x0 x1 x2 x3 x5 τ7
  else
  xbd (f_c_X5_eats g x0 x1 x5 τ7) fun r8 τ8 =>
  if (0 : Int32) < (lg_cmp r8 x3) then
  xbd (f_c_X5_eats g x0 x1 x5 τ8) fun r9 τ9 =>
  Jc_X5_moves_68 g x0 x1 x5 r9 x5 τ9
  else
  Jc_X5_moves_68 g x0 x1 x2 x3 x5 τ8
  else none
  else none
  else none
theorem ok_Bc_X5_moves_19 {D : CD} {P : CP} {K : xK} {g : CG} {Z : Option Value × CS} {x0 : Nat} {x1 : Int32} {x2 : Int32} {x3 : Int64} {x5 : Int32} {τ : CC} {o_ : ((Int32 × Int64 × Int32 × CC) ⊕ ((Int32 × CC)))} (hf : Bc_X5_moves_19 g x0 x1 x2 x3 x5 τ = some o_) (kc : ∀ s_ : Int32 × Int64 × Int32 × CC, o_ = .inl s_ → xV (wC D P) K mX5_moves (xQ (wC D P) K Z) (g, s_.2.2.2) 19 [(0, .ref x0), (1, .int x1), (2, .int s_.1), (3, .long s_.2.1), (5, .int s_.2.2.1)] []) (ke0 : ∀ e_ : Int32 × CC, o_ = .inr e_ → xV (wC D P) K mX5_moves (xQ (wC D P) K Z) (g, e_.2) 74 [(0, .ref x0), (1, .int x1), (2, .int e_.1)] []) : xV (wC D P) K mX5_moves (xQ (wC D P) K Z) (g, τ) 19 [(0, .ref x0), (1, .int x1), (2, .int x2), (3, .long x3), (5, .int x5)] [] := by
  unfold Bc_X5_moves_19 at hf
  refine xr_iload (pc := 19) 4 dX5_moves_19 rfl ?_
  refine xr_aload_n (pc := 21) 0 dX5_moves_21 rfl rfl ?_
  obtain ⟨ht4, hf⟩ := xo_if hf
  obtain ⟨b5, hb5, hf⟩ := xo_bind hf
  refine yc_getFs (pc := 22) 6 3 603 (gKo ht4 (by decide)) (by decide) (by decide) (by decide) rfl rfl hb5 q440 (ys_eq rfl) rfl dX5_moves_22 ?_
  refine xr_iload_n (pc := 25) 1 dX5_moves_25 rfl rfl ?_
  obtain ⟨ht6, hf⟩ := xo_if hf
  obtain ⟨hi_, hf⟩ := xo_if hf
  refine yc_iald (pc := 26) (gKo ht6 (by decide)) hi_ dX5_moves_26 ?_
  refine xr_iconst (pc := 27) dX5_moves_27 xci_1 ?_
  refine xr_iadd (pc := 28) dX5_moves_28 ?_
  refine xr_icmp_gt (pc := 29) 74 dX5_moves_29 (by decide) (fun c_ => ?_) (fun c_ => ?_)
  · have hf := xo_pos c_ hf
    refine xV_sub [0, 1, 2] rfl ?_
    exact ke0 _ (Option.some.inj hf).symm
  · have hf := xo_neg c_ hf
    refine xr_aload_n (pc := 32) 0 dX5_moves_32 rfl rfl ?_
    refine xr_iload_n (pc := 33) 1 dX5_moves_33 rfl rfl ?_
    refine xr_iload (pc := 34) 4 dX5_moves_34 rfl ?_
    obtain ⟨r7, τ7, hτ7, hf⟩ := xo_bd hf
    refine call_f_c_X5_canGo_X5_159 (pc := 36) hτ7 (gKo ht4 (by decide)) rfl (Nat.le_of_ble_eq_true rfl) (Nat.le_of_ble_eq_true rfl) (Nat.le_of_ble_eq_true rfl) dX5_moves_36 ?_
    refine xr_if_eq (pc := 39) 68 dX5_moves_39 (by decide) (fun c_ => ?_) (fun c_ => ?_)
    · have hf := xo_pos c_ hf
      exact ok_Jc_X5_moves_68 hf kc ke0
    · have hf := xo_neg c_ hf
      refine xr_aload_n (pc := 42) 0 dX5_moves_42 rfl rfl ?_
      refine xr_iload_n (pc := 43) 1 dX5_moves_43 rfl rfl ?_
      refine xr_iload (pc := 44) 4 dX5_moves_44 rfl ?_
      obtain ⟨r8, τ8, hτ8, hf⟩ := xo_bd hf
      refine call_f_c_X5_eats_X5_163 (pc := 46) hτ8 (gKo ht4 (by decide)) rfl (Nat.le_of_ble_eq_true rfl) (Nat.le_of_ble_eq_true rfl) (Nat.le_of_ble_eq_true rfl) dX5_moves_46 ?_
      refine xr_lload_n (pc := 49) 3 dX5_moves_49 rfl rfl ?_
      refine xr_lcmp (pc := 50) dX5_moves_50 ?_
      refine xr_if_gt (pc := 51) 57 dX5_moves_51 (by decide) (fun c_ => ?_) (fun c_ => ?_)
      · have hf := xo_pos c_ hf
        refine xr_aload_n (pc := 57) 0 dX5_moves_57 rfl rfl ?_
        refine xr_iload_n (pc := 58) 1 dX5_moves_58 rfl rfl ?_
        refine xr_iload (pc := 59) 4 dX5_moves_59 rfl ?_
        obtain ⟨r9, τ9, hτ9, hf⟩ := xo_bd hf
        refine call_f_c_X5_eats_X5_163 (pc := 61) hτ9 (gKo ht4 (by decide)) rfl (Nat.le_of_ble_eq_true rfl) (Nat.le_of_ble_eq_true rfl) (Nat.le_of_ble_eq_true rfl) dX5_moves_61 ?_
        refine xr_lstore_n (pc := 64) (loc' := [(3, .long r9), (0, .ref x0), (1, .int x1), (2, .int x2), (5, .int x5)]) dX5_moves_64 rfl (by decide) rfl ?_
        refine xr_iload (pc := 65) 4 dX5_moves_65 rfl ?_
        refine xr_istore_n (pc := 67) (loc' := [(2, .int x5), (3, .long r9), (0, .ref x0), (1, .int x1), (5, .int x5)]) dX5_moves_67 rfl (by decide) rfl ?_
        refine xV_sub [2, 3, 0, 1, 4] rfl ?_
        exact ok_Jc_X5_moves_68 hf kc ke0
      · have hf := xo_neg c_ hf
        refine xr_goto (pc := 54) 68 dX5_moves_54 (by decide) ?_
        exact ok_Jc_X5_moves_68 hf kc ke0
def f_c_X5_moves (g : CG) (x0 : Nat) (x1 : Int32) (τ : CC) : Option CC :=
  if gT g x0 = 6 then
  (gR g 603 x0).bind fun b2 =>
  if gT g b2 = 100 then
  if xin x1 (gN g b2) = true then
  if xin x1 (gN g b2) = true then
  (itr (fun s_ : Int32 × Int64 × Int32 × CC => Bc_X5_moves_19 g x0 x1 s_.1 s_.2.1 s_.2.2.1 s_.2.2.2) 4096 (cA τ b2 x1.toNatClampNeg, 0, (cA τ b2 x1.toNatClampNeg) - 1, τ)).bind fun b10 =>
  if xin x1 (gN g b2) = true then
  some (uA b10.2 b2 x1.toNatClampNeg b10.1)
  else none
  else none
  else none
  else none
  else none
theorem ok_f_c_X5_moves {D : CD} {P : CP} {K : xK} {g : CG} {Z : Option Value × CS} {x0 : Nat} {x1 : Int32} {τ : CC} {o_ : CC} (hf : f_c_X5_moves g x0 x1 τ = some o_) (kr : ∀ r_ : CC, o_ = r_ → Z = (none, (g, r_))) : xV (wC D P) K mX5_moves (xQ (wC D P) K Z) (g, τ) 0 [(0, .ref x0), (1, .int x1)] [] := by
  unfold f_c_X5_moves at hf
  refine xr_aload_n (pc := 0) 0 dX5_moves_0 rfl rfl ?_
  obtain ⟨ht1, hf⟩ := xo_if hf
  obtain ⟨b2, hb2, hf⟩ := xo_bind hf
  refine yc_getFs (pc := 1) 6 3 603 (gKo ht1 (by decide)) (by decide) (by decide) (by decide) rfl rfl hb2 q440 (ys_eq rfl) rfl dX5_moves_1 ?_
  refine xr_iload_n (pc := 4) 1 dX5_moves_4 rfl rfl ?_
  obtain ⟨ht3, hf⟩ := xo_if hf
  obtain ⟨hi_, hf⟩ := xo_if hf
  refine yc_iald (pc := 5) (gKo ht3 (by decide)) hi_ dX5_moves_5 ?_
  refine xr_istore_n (pc := 6) (loc' := [(2, .int (cA τ b2 x1.toNatClampNeg)), (0, .ref x0), (1, .int x1)]) dX5_moves_6 rfl (by decide) rfl ?_
  refine xr_lconst (pc := 7) dX5_moves_7 (by decide : _ = (0 : Int64)) ?_
  refine xr_lstore_n (pc := 8) (loc' := [(3, .long 0), (2, .int (cA τ b2 x1.toNatClampNeg)), (0, .ref x0), (1, .int x1)]) dX5_moves_8 rfl (by decide) rfl ?_
  refine xr_aload_n (pc := 9) 2 dX5_moves_9 rfl rfl ?_
  refine yc_getFs (pc := 10) 6 3 603 (gKo ht1 (by decide)) (by decide) (by decide) (by decide) rfl rfl hb2 q440 (ys_eq rfl) rfl dX5_moves_10 ?_
  refine xr_iload_n (pc := 13) 3 dX5_moves_13 rfl rfl ?_
  obtain ⟨hi_, hf⟩ := xo_if hf
  refine yc_iald (pc := 14) (gKo ht3 (by decide)) hi_ dX5_moves_14 ?_
  refine xr_iconst (pc := 15) dX5_moves_15 xci_1 ?_
  refine xr_isub (pc := 16) dX5_moves_16 ?_
  refine xr_istore (pc := 17) (loc' := [(5, .int ((cA τ b2 x1.toNatClampNeg) - 1)), (3, .long 0), (2, .int (cA τ b2 x1.toNatClampNeg)), (0, .ref x0), (1, .int x1)]) dX5_moves_17 (by decide) rfl ?_
  refine xV_sub [3, 4, 2, 1, 0] rfl ?_
  obtain ⟨b10, hb10, hf⟩ := xo_bind hf
  refine itr_rule (P := fun s_ : Int32 × Int64 × Int32 × CC => xV (wC D P) K mX5_moves (xQ (wC D P) K Z) (g, s_.2.2.2) 19 [(0, .ref x0), (1, .int x1), (2, .int s_.1), (3, .long s_.2.1), (5, .int s_.2.2.1)] []) (fun s_ o_ hB_ hc_ he_ => ok_Bc_X5_moves_19 hB_ hc_ (fun e_ h_ => ?_)) 4096 _ hb10
  · have e9_ := he_ _ h_
    rw [e9_]
    refine xr_aload_n (pc := 74) 0 dX5_moves_74 rfl rfl ?_
    refine yc_getFs (pc := 75) 6 3 603 (gKo ht1 (by decide)) (by decide) (by decide) (by decide) rfl rfl hb2 q440 (ys_eq rfl) rfl dX5_moves_75 ?_
    refine xr_iload_n (pc := 78) 1 dX5_moves_78 rfl rfl ?_
    refine xr_iload_n (pc := 79) 2 dX5_moves_79 rfl rfl ?_
    obtain ⟨hi_, hf⟩ := xo_if hf
    refine yc_iast (pc := 80) ht3 hi_ dX5_moves_80 ?_
    rw [kr _ (Option.some.inj hf).symm]
    exact xr_vret (pc := 81) dX5_moves_81 rfl
theorem met_f_c_X5_moves (l : Launch) {D : CD} {P : CP} {g : CG} {x0 : Nat} {x1 : Int32} {τ : CC} {o_ : CC} (hf : f_c_X5_moves g x0 x1 τ = some o_) : xMet (wC D P) l yX5_moves (ws_ yX5_moves cX5_moves 6 none) 79 4740 (grc g) (grs g) [.ref x0, .int x1] (g, τ) (none, (g, o_)) := 
  xMet_of (by decide) (Nat.le_of_ble_eq_true rfl) KC_moved RPC_of (fun K _ _ _ => ok_f_c_X5_moves hf (fun _ h => by rw [h]))
abbrev mX5_pays : xM := (cX5_pays, 5, RX5, 5, 300, (some .int), "pays")
def Jc_X5_pays_79 (g : CG) (x0 : Nat) (x1 : Int32) (x2 : Int32) (x3 : Int32) (τ : CC) : Option ((Int32 × Int32 × CC) ⊕ ((Int32 × CC))) :=
  some (.inl (x2, x3 + 1, τ))
theorem ok_Jc_X5_pays_79 {D : CD} {P : CP} {K : xK} {g : CG} {Z : Option Value × CS} {x0 : Nat} {x1 : Int32} {x2 : Int32} {x3 : Int32} {τ : CC} {o_ : ((Int32 × Int32 × CC) ⊕ ((Int32 × CC)))} (hf : Jc_X5_pays_79 g x0 x1 x2 x3 τ = some o_) (kc : ∀ s_ : Int32 × Int32 × CC, o_ = .inl s_ → xV (wC D P) K mX5_pays (xQ (wC D P) K Z) (g, s_.2.2) 4 [(0, .ref x0), (1, .int x1), (2, .int s_.1), (3, .int s_.2.1)] []) (ke0 : ∀ e_ : Int32 × CC, o_ = .inr e_ → xV (wC D P) K mX5_pays (xQ (wC D P) K Z) (g, e_.2) 85 [(2, .int e_.1)] []) : xV (wC D P) K mX5_pays (xQ (wC D P) K Z) (g, τ) 79 [(0, .ref x0), (1, .int x1), (2, .int x2), (3, .int x3)] [] := by
  unfold Jc_X5_pays_79 at hf
  refine xr_iinc (pc := 79) (loc' := [(3, .int (x3 + 1)), (0, .ref x0), (1, .int x1), (2, .int x2)]) 3 dX5_pays_79 rfl xci_1 (by decide) rfl ?_
  refine xr_goto (pc := 82) 4 dX5_pays_82 (by decide) ?_
  refine xV_sub [1, 2, 3, 0] rfl ?_
  exact kc _ (Option.some.inj hf).symm
def Bc_X5_pays_4 (g : CG) (x0 : Nat) (x1 : Int32) (x2 : Int32) (x3 : Int32) (τ : CC) : Option ((Int32 × Int32 × CC) ⊕ ((Int32 × CC))) :=
  if gT g x0 = 6 then
  (gR g 610 x0).bind fun b2 =>
  if gT g b2 = 1 then
  xbd (f_c_X0_lords g b2 τ) fun r4 τ4 =>
  if r4 ≤ x3 then
  some (.inr (x2, τ4))
  else
  xbd (f_c_X0_lordOf g b2 x3 τ4) fun r5 τ5 =>
  if gT g r5 = 7 then
  xbd (f_c_X7_isOf g r5 x1 τ5) fun r7 τ7 =>
  if r7 = 0 then
  Jc_X5_pays_79 g x0 x1 x2 x3 τ7
  else
  xbd (f_c_X5_offer g x0 x3 τ7) fun r8 τ8 =>
  (gR g 604 x0).bind fun b9 =>
  if gT g b9 = 100 then
  if xin x3 (gN g b9) = true then
  if xin x3 (gN g b9) = true then
  (gR g 609 x0).bind fun b11 =>
  if gT g b11 = 100 then
  if xin x3 (gN g b11) = true then
  xbd (f_c_X0_lordOf g b2 x3 (uA τ8 b9 x3.toNatClampNeg ((cA τ8 b9 x3.toNatClampNeg) - r8))) fun r13 τ13 =>
  if gT g r13 = 7 then
  if xin x3 (gN g b11) = true then
  Jc_X5_pays_79 g x0 x1 (x2 + r8) x3 (uA τ13 b11 x3.toNatClampNeg ((cA (uA τ8 b9 x3.toNatClampNeg ((cA τ8 b9 x3.toNatClampNeg) - r8)) b11 x3.toNatClampNeg) + ((cI τ13 704 r13) - r8)))
  else none
  else none
  else none
  else none
  else none
  else none
  else none
  else none
  else none
  else none
theorem ok_Bc_X5_pays_4 {D : CD} {P : CP} {K : xK} {g : CG} {Z : Option Value × CS} {x0 : Nat} {x1 : Int32} {x2 : Int32} {x3 : Int32} {τ : CC} {o_ : ((Int32 × Int32 × CC) ⊕ ((Int32 × CC)))} (hf : Bc_X5_pays_4 g x0 x1 x2 x3 τ = some o_) (kc : ∀ s_ : Int32 × Int32 × CC, o_ = .inl s_ → xV (wC D P) K mX5_pays (xQ (wC D P) K Z) (g, s_.2.2) 4 [(0, .ref x0), (1, .int x1), (2, .int s_.1), (3, .int s_.2.1)] []) (ke0 : ∀ e_ : Int32 × CC, o_ = .inr e_ → xV (wC D P) K mX5_pays (xQ (wC D P) K Z) (g, e_.2) 85 [(2, .int e_.1)] []) : xV (wC D P) K mX5_pays (xQ (wC D P) K Z) (g, τ) 4 [(0, .ref x0), (1, .int x1), (2, .int x2), (3, .int x3)] [] := by
  unfold Bc_X5_pays_4 at hf
  refine xr_iload_n (pc := 4) 3 dX5_pays_4 rfl rfl ?_
  refine xr_aload_n (pc := 5) 0 dX5_pays_5 rfl rfl ?_
  obtain ⟨ht1, hf⟩ := xo_if hf
  obtain ⟨b2, hb2, hf⟩ := xo_bind hf
  refine yc_getFs (pc := 6) 6 10 610 (gKo ht1 (by decide)) (by decide) (by decide) (by decide) rfl rfl hb2 q454 (ys_eq rfl) rfl dX5_pays_6 ?_
  obtain ⟨ht3, hf⟩ := xo_if hf
  obtain ⟨r4, τ4, hτ4, hf⟩ := xo_bd hf
  refine call_f_c_X0_lords_X5_60 (pc := 9) hτ4 (gKo ht3 (by decide)) rfl (Nat.le_of_ble_eq_true rfl) (Nat.le_of_ble_eq_true rfl) (Nat.le_of_ble_eq_true rfl) dX5_pays_9 ?_
  refine xr_icmp_ge (pc := 12) 85 dX5_pays_12 (by decide) (fun c_ => ?_) (fun c_ => ?_)
  · have hf := xo_pos c_ hf
    refine xV_sub [2] rfl ?_
    exact ke0 _ (Option.some.inj hf).symm
  · have hf := xo_neg c_ hf
    refine xr_aload_n (pc := 15) 0 dX5_pays_15 rfl rfl ?_
    refine yc_getFs (pc := 16) 6 10 610 (gKo ht1 (by decide)) (by decide) (by decide) (by decide) rfl rfl hb2 q454 (ys_eq rfl) rfl dX5_pays_16 ?_
    refine xr_iload_n (pc := 19) 3 dX5_pays_19 rfl rfl ?_
    obtain ⟨r5, τ5, hτ5, hf⟩ := xo_bd hf
    refine call_f_c_X0_lordOf_X5_64 (pc := 20) hτ5 (gKo ht3 (by decide)) rfl (Nat.le_of_ble_eq_true rfl) (Nat.le_of_ble_eq_true rfl) (Nat.le_of_ble_eq_true rfl) dX5_pays_20 ?_
    refine xr_iload_n (pc := 23) 1 dX5_pays_23 rfl rfl ?_
    obtain ⟨ht6, hf⟩ := xo_if hf
    obtain ⟨r7, τ7, hτ7, hf⟩ := xo_bd hf
    refine call_f_c_X7_isOf_X5_98 (pc := 24) hτ7 (gKo ht6 (by decide)) rfl (Nat.le_of_ble_eq_true rfl) (Nat.le_of_ble_eq_true rfl) (Nat.le_of_ble_eq_true rfl) dX5_pays_24 ?_
    refine xr_if_ne (pc := 27) 33 dX5_pays_27 (by decide) (fun c_ => ?_) (fun c_ => ?_)
    · have hf := xo_pos c_ hf
      refine xr_goto (pc := 30) 79 dX5_pays_30 (by decide) ?_
      exact ok_Jc_X5_pays_79 hf kc ke0
    · have hf := xo_neg c_ hf
      refine xr_aload_n (pc := 33) 0 dX5_pays_33 rfl rfl ?_
      refine xr_iload_n (pc := 34) 3 dX5_pays_34 rfl rfl ?_
      obtain ⟨r8, τ8, hτ8, hf⟩ := xo_bd hf
      refine call_f_c_X5_offer_X5_102 (pc := 35) hτ8 (gKo ht1 (by decide)) rfl (Nat.le_of_ble_eq_true rfl) (Nat.le_of_ble_eq_true rfl) (Nat.le_of_ble_eq_true rfl) dX5_pays_35 ?_
      refine xr_istore (pc := 38) (loc' := [(4, .int r8), (0, .ref x0), (1, .int x1), (2, .int x2), (3, .int x3)]) dX5_pays_38 (by decide) rfl ?_
      refine xr_aload_n (pc := 40) 1 dX5_pays_40 rfl rfl ?_
      obtain ⟨b9, hb9, hf⟩ := xo_bind hf
      refine yc_getFs (pc := 41) 6 4 604 (gKo ht1 (by decide)) (by decide) (by decide) (by decide) rfl rfl hb9 q442 (ys_eq rfl) rfl dX5_pays_41 ?_
      refine xr_iload_n (pc := 44) 4 dX5_pays_44 rfl rfl ?_
      refine xr_dup2_11 (pc := 45) dX5_pays_45 rfl rfl ?_
      obtain ⟨ht10, hf⟩ := xo_if hf
      obtain ⟨hi_, hf⟩ := xo_if hf
      refine yc_iald (pc := 46) (gKo ht10 (by decide)) hi_ dX5_pays_46 ?_
      refine xr_iload (pc := 47) 0 dX5_pays_47 rfl ?_
      refine xr_isub (pc := 49) dX5_pays_49 ?_
      obtain ⟨hi_, hf⟩ := xo_if hf
      refine yc_iast (pc := 50) ht10 hi_ dX5_pays_50 ?_
      refine xr_iload_n (pc := 51) 3 dX5_pays_51 rfl rfl ?_
      refine xr_iload (pc := 52) 0 dX5_pays_52 rfl ?_
      refine xr_iadd (pc := 54) dX5_pays_54 ?_
      refine xr_istore_n (pc := 55) (loc' := [(2, .int (x2 + r8)), (4, .int r8), (0, .ref x0), (1, .int x1), (3, .int x3)]) dX5_pays_55 rfl (by decide) rfl ?_
      refine xr_aload_n (pc := 56) 2 dX5_pays_56 rfl rfl ?_
      obtain ⟨b11, hb11, hf⟩ := xo_bind hf
      refine yc_getFs (pc := 57) 6 9 609 (gKo ht1 (by decide)) (by decide) (by decide) (by decide) rfl rfl hb11 q452 (ys_eq rfl) rfl dX5_pays_57 ?_
      refine xr_iload_n (pc := 60) 4 dX5_pays_60 rfl rfl ?_
      refine xr_dup2_11 (pc := 61) dX5_pays_61 rfl rfl ?_
      obtain ⟨ht12, hf⟩ := xo_if hf
      obtain ⟨hi_, hf⟩ := xo_if hf
      refine yc_iald (pc := 62) (gKo ht12 (by decide)) hi_ dX5_pays_62 ?_
      refine xr_aload_n (pc := 63) 2 dX5_pays_63 rfl rfl ?_
      refine yc_getFs (pc := 64) 6 10 610 (gKo ht1 (by decide)) (by decide) (by decide) (by decide) rfl rfl hb2 q454 (ys_eq rfl) rfl dX5_pays_64 ?_
      refine xr_iload_n (pc := 67) 4 dX5_pays_67 rfl rfl ?_
      obtain ⟨r13, τ13, hτ13, hf⟩ := xo_bd hf
      refine call_f_c_X0_lordOf_X5_64 (pc := 68) hτ13 (gKo ht3 (by decide)) rfl (Nat.le_of_ble_eq_true rfl) (Nat.le_of_ble_eq_true rfl) (Nat.le_of_ble_eq_true rfl) dX5_pays_68 ?_
      obtain ⟨ht14, hf⟩ := xo_if hf
      refine yc_getIN (pc := 71) 7 4 704 (gKo ht14 (by decide)) (by decide) (by decide) (by decide) rfl rfl q881 (ys_eq rfl) rfl dX5_pays_71 ?_
      refine xr_iload (pc := 74) 1 dX5_pays_74 rfl ?_
      refine xr_isub (pc := 76) dX5_pays_76 ?_
      refine xr_iadd (pc := 77) dX5_pays_77 ?_
      obtain ⟨hi_, hf⟩ := xo_if hf
      refine yc_iast (pc := 78) ht12 hi_ dX5_pays_78 ?_
      refine xV_sub [2, 3, 0, 4] rfl ?_
      exact ok_Jc_X5_pays_79 hf kc ke0
def f_c_X5_pays (g : CG) (x0 : Nat) (x1 : Int32) (τ : CC) : Option (Int32 × CC) :=
  (itr (fun s_ : Int32 × Int32 × CC => Bc_X5_pays_4 g x0 x1 s_.1 s_.2.1 s_.2.2) 4096 (0, 0, τ)).bind fun b15 =>
  some ((b15.1, b15.2))
theorem ok_f_c_X5_pays {D : CD} {P : CP} {K : xK} {g : CG} {Z : Option Value × CS} {x0 : Nat} {x1 : Int32} {τ : CC} {o_ : (Int32 × CC)} (hf : f_c_X5_pays g x0 x1 τ = some o_) (kr : ∀ r_ : (Int32 × CC), o_ = r_ → Z = (some (.int r_.1), (g, r_.2))) : xV (wC D P) K mX5_pays (xQ (wC D P) K Z) (g, τ) 0 [(0, .ref x0), (1, .int x1)] [] := by
  unfold f_c_X5_pays at hf
  refine xr_iconst (pc := 0) dX5_pays_0 xci_0 ?_
  refine xr_istore_n (pc := 1) (loc' := [(2, .int 0), (0, .ref x0), (1, .int x1)]) dX5_pays_1 rfl (by decide) rfl ?_
  refine xr_iconst (pc := 2) dX5_pays_2 xci_0 ?_
  refine xr_istore_n (pc := 3) (loc' := [(3, .int 0), (2, .int 0), (0, .ref x0), (1, .int x1)]) dX5_pays_3 rfl (by decide) rfl ?_
  refine xV_sub [2, 3, 1, 0] rfl ?_
  obtain ⟨b15, hb15, hf⟩ := xo_bind hf
  refine itr_rule (P := fun s_ : Int32 × Int32 × CC => xV (wC D P) K mX5_pays (xQ (wC D P) K Z) (g, s_.2.2) 4 [(0, .ref x0), (1, .int x1), (2, .int s_.1), (3, .int s_.2.1)] []) (fun s_ o_ hB_ hc_ he_ => ok_Bc_X5_pays_4 hB_ hc_ (fun e_ h_ => ?_)) 4096 _ hb15
  · have e9_ := he_ _ h_
    rw [e9_]
    refine xr_iload_n (pc := 85) 0 dX5_pays_85 rfl rfl ?_
    rw [kr _ (Option.some.inj hf).symm]
    exact xr_iret (pc := 86) dX5_pays_86 rfl
theorem met_f_c_X5_pays (l : Launch) {D : CD} {P : CP} {g : CG} {x0 : Nat} {x1 : Int32} {τ : CC} {o_ : (Int32 × CC)} (hf : f_c_X5_pays g x0 x1 τ = some o_) : xMet (wC D P) l yX5_pays (ws_ yX5_pays cX5_pays 5 (some .int)) 5 300 (grc g) (grs g) [.ref x0, .int x1] (g, τ) (some (.int o_.1), (g, o_.2)) := 
  xMet_of (by decide) (Nat.le_of_ble_eq_true rfl) KC_moved RPC_of (fun K _ _ _ => ok_f_c_X5_pays hf (fun _ h => by rw [h]))
abbrev mX5_tells : xM := (cX5_tells, 5, RX5, 0, 0, none, "tells")
def Bc_X5_tells_19 (g : CG) (x0 : Nat) (x1 : Int32) (x2 : Int32) (x3 : Nat) (x4 : Int32) (τ : CC) : Option ((Int32 × CC) ⊕ ((CC))) :=
  if (40 : Int32) ≤ x4 then
  some (.inr τ)
  else
  if gT g x0 = 6 then
  (gR g 608 x0).bind fun b6 =>
  if gT g b6 = 107 then
  if xin x4 (gN g b6) = true then
  (cP τ b6 x4.toNatClampNeg).bind fun b8 =>
  if gT g b8 = 100 then
  if xin (x4 - 1) (gN g b6) = true then
  some (.inl (x4 + 1, uP τ b6 (x4 - 1).toNatClampNeg (some b8)))
  else none
  else none
  else none
  else none
  else none
theorem ok_Bc_X5_tells_19 {D : CD} {P : CP} {K : xK} {g : CG} {Z : Option Value × CS} {x0 : Nat} {x1 : Int32} {x2 : Int32} {x3 : Nat} {x4 : Int32} {τ : CC} {o_ : ((Int32 × CC) ⊕ ((CC)))} (hf : Bc_X5_tells_19 g x0 x1 x2 x3 x4 τ = some o_) (kc : ∀ s_ : Int32 × CC, o_ = .inl s_ → xV (wC D P) K mX5_tells (xQ (wC D P) K Z) (g, s_.2) 19 [(0, .ref x0), (1, .int x1), (2, .int x2), (3, .ref x3), (4, .int s_.1)] []) (ke0 : ∀ e_ : CC, o_ = .inr e_ → xV (wC D P) K mX5_tells (xQ (wC D P) K Z) (g, e_) 48 [(0, .ref x0), (1, .int x1), (2, .int x2), (3, .ref x3)] []) : xV (wC D P) K mX5_tells (xQ (wC D P) K Z) (g, τ) 19 [(0, .ref x0), (1, .int x1), (2, .int x2), (3, .ref x3), (4, .int x4)] [] := by
  unfold Bc_X5_tells_19 at hf
  refine xr_iload (pc := 19) 4 dX5_tells_19 rfl ?_
  refine xr_bipush (pc := 21) dX5_tells_21 xcb_40 ?_
  refine xr_icmp_ge (pc := 23) 48 dX5_tells_23 (by decide) (fun c_ => ?_) (fun c_ => ?_)
  · have hf := xo_pos c_ hf
    refine xV_sub [0, 1, 2, 3] rfl ?_
    exact ke0 _ (Option.some.inj hf).symm
  · have hf := xo_neg c_ hf
    refine xr_aload_n (pc := 26) 0 dX5_tells_26 rfl rfl ?_
    obtain ⟨ht5, hf⟩ := xo_if hf
    obtain ⟨b6, hb6, hf⟩ := xo_bind hf
    refine yc_getFs (pc := 27) 6 8 608 (gKo ht5 (by decide)) (by decide) (by decide) (by decide) rfl rfl hb6 q450 (ys_eq rfl) rfl dX5_tells_27 ?_
    refine xr_iload (pc := 30) 4 dX5_tells_30 rfl ?_
    refine xr_iconst (pc := 32) dX5_tells_32 xci_1 ?_
    refine xr_isub (pc := 33) dX5_tells_33 ?_
    refine xr_aload_n (pc := 34) 0 dX5_tells_34 rfl rfl ?_
    refine yc_getFs (pc := 35) 6 8 608 (gKo ht5 (by decide)) (by decide) (by decide) (by decide) rfl rfl hb6 q450 (ys_eq rfl) rfl dX5_tells_35 ?_
    refine xr_iload (pc := 38) 4 dX5_tells_38 rfl ?_
    obtain ⟨ht7, hf⟩ := xo_if hf
    obtain ⟨hi_, hf⟩ := xo_if hf
    obtain ⟨b8, hb8, hf⟩ := xo_bind hf
    refine yc_aalds (pc := 40) 107 (gKo ht7 (by decide)) (by decide) (by decide) rfl rfl hi_ hb8 dX5_tells_40 ?_
    obtain ⟨ht9, hf⟩ := xo_if hf
    obtain ⟨hi_, hf⟩ := xo_if hf
    refine yc_aast (pc := 41) 107 100 ht7 (by decide) (by decide) rfl rfl (gKo ht9 (by decide)) rfl hi_ dX5_tells_41 ?_
    refine xr_iinc (pc := 42) (loc' := [(4, .int (x4 + 1)), (0, .ref x0), (1, .int x1), (2, .int x2), (3, .ref x3)]) 4 dX5_tells_42 rfl xci_1 (by decide) rfl ?_
    refine xr_goto (pc := 45) 19 dX5_tells_45 (by decide) ?_
    refine xV_sub [1, 2, 3, 4, 0] rfl ?_
    exact kc _ (Option.some.inj hf).symm
def Jc_X5_tells_66 (g : CG) (x0 : Nat) (x1 : Int32) (x2 : Int32) (τ : CC) : Option CC :=
  if gT g x0 = 6 then
  (gR g 608 x0).bind fun b13 =>
  if gT g b13 = 107 then
  if xin (cI τ 602 x0) (gN g b13) = true then
  (cP τ b13 (cI τ 602 x0).toNatClampNeg).bind fun b15 =>
  if gT g b15 = 100 then
  if xin 0 (gN g b15) = true then
  if xin (cI (uA τ b15 (0 : Int32).toNatClampNeg (cI τ 600 x0)) 602 x0) (gN g b13) = true then
  (cP (uA τ b15 (0 : Int32).toNatClampNeg (cI τ 600 x0)) b13 (cI (uA τ b15 (0 : Int32).toNatClampNeg (cI τ 600 x0)) 602 x0).toNatClampNeg).bind fun b17 =>
  if gT g b17 = 100 then
  if xin 1 (gN g b17) = true then
  if xin (cI (uA (uA τ b15 (0 : Int32).toNatClampNeg (cI τ 600 x0)) b17 (1 : Int32).toNatClampNeg x1) 602 x0) (gN g b13) = true then
  (cP (uA (uA τ b15 (0 : Int32).toNatClampNeg (cI τ 600 x0)) b17 (1 : Int32).toNatClampNeg x1) b13 (cI (uA (uA τ b15 (0 : Int32).toNatClampNeg (cI τ 600 x0)) b17 (1 : Int32).toNatClampNeg x1) 602 x0).toNatClampNeg).bind fun b19 =>
  if gT g b19 = 100 then
  if xin 2 (gN g b19) = true then
  some (uI (uA (uA (uA τ b15 (0 : Int32).toNatClampNeg (cI τ 600 x0)) b17 (1 : Int32).toNatClampNeg x1) b19 (2 : Int32).toNatClampNeg x2) 602 x0 ((cI (uA (uA (uA τ b15 (0 : Int32).toNatClampNeg (cI τ 600 x0)) b17 (1 : Int32).toNatClampNeg x1) b19 (2 : Int32).toNatClampNeg x2) 602 x0) + 1))
  else none
  else none
  else none
  else none
  else none
  else none
  else none
  else none
  else none
  else none
  else none
theorem ok_Jc_X5_tells_66 {D : CD} {P : CP} {K : xK} {g : CG} {Z : Option Value × CS} {x0 : Nat} {x1 : Int32} {x2 : Int32} {τ : CC} {o_ : CC} (hf : Jc_X5_tells_66 g x0 x1 x2 τ = some o_) (kr : ∀ r_ : CC, o_ = r_ → Z = (none, (g, r_))) : xV (wC D P) K mX5_tells (xQ (wC D P) K Z) (g, τ) 66 [(0, .ref x0), (1, .int x1), (2, .int x2)] [] := by
  unfold Jc_X5_tells_66 at hf
  refine xr_aload_n (pc := 66) 0 dX5_tells_66 rfl rfl ?_
  obtain ⟨ht12, hf⟩ := xo_if hf
  obtain ⟨b13, hb13, hf⟩ := xo_bind hf
  refine yc_getFs (pc := 67) 6 8 608 (gKo ht12 (by decide)) (by decide) (by decide) (by decide) rfl rfl hb13 q450 (ys_eq rfl) rfl dX5_tells_67 ?_
  refine xr_aload_n (pc := 70) 0 dX5_tells_70 rfl rfl ?_
  refine yc_getI (pc := 71) 6 2 602 (gKo ht12 (by decide)) (by decide) (by decide) (by decide) rfl rfl q438 (ys_eq rfl) rfl dX5_tells_71 ?_
  obtain ⟨ht14, hf⟩ := xo_if hf
  obtain ⟨hi_, hf⟩ := xo_if hf
  obtain ⟨b15, hb15, hf⟩ := xo_bind hf
  refine yc_aalds (pc := 74) 107 (gKo ht14 (by decide)) (by decide) (by decide) rfl rfl hi_ hb15 dX5_tells_74 ?_
  refine xr_iconst (pc := 75) dX5_tells_75 xci_0 ?_
  refine xr_aload_n (pc := 76) 0 dX5_tells_76 rfl rfl ?_
  refine yc_getI (pc := 77) 6 0 600 (gKo ht12 (by decide)) (by decide) (by decide) (by decide) rfl rfl q434 (ys_eq rfl) rfl dX5_tells_77 ?_
  obtain ⟨ht16, hf⟩ := xo_if hf
  obtain ⟨hi_, hf⟩ := xo_if hf
  refine yc_iast (pc := 80) ht16 hi_ dX5_tells_80 ?_
  refine xr_aload_n (pc := 81) 0 dX5_tells_81 rfl rfl ?_
  refine yc_getFs (pc := 82) 6 8 608 (gKo ht12 (by decide)) (by decide) (by decide) (by decide) rfl rfl hb13 q450 (ys_eq rfl) rfl dX5_tells_82 ?_
  refine xr_aload_n (pc := 85) 0 dX5_tells_85 rfl rfl ?_
  refine yc_getI (pc := 86) 6 2 602 (gKo ht12 (by decide)) (by decide) (by decide) (by decide) rfl rfl q438 (ys_eq rfl) rfl dX5_tells_86 ?_
  obtain ⟨hi_, hf⟩ := xo_if hf
  obtain ⟨b17, hb17, hf⟩ := xo_bind hf
  refine yc_aalds (pc := 89) 107 (gKo ht14 (by decide)) (by decide) (by decide) rfl rfl hi_ hb17 dX5_tells_89 ?_
  refine xr_iconst (pc := 90) dX5_tells_90 xci_1 ?_
  refine xr_iload_n (pc := 91) 1 dX5_tells_91 rfl rfl ?_
  obtain ⟨ht18, hf⟩ := xo_if hf
  obtain ⟨hi_, hf⟩ := xo_if hf
  refine yc_iast (pc := 92) ht18 hi_ dX5_tells_92 ?_
  refine xr_aload_n (pc := 93) 0 dX5_tells_93 rfl rfl ?_
  refine yc_getFs (pc := 94) 6 8 608 (gKo ht12 (by decide)) (by decide) (by decide) (by decide) rfl rfl hb13 q450 (ys_eq rfl) rfl dX5_tells_94 ?_
  refine xr_aload_n (pc := 97) 0 dX5_tells_97 rfl rfl ?_
  refine yc_getI (pc := 98) 6 2 602 (gKo ht12 (by decide)) (by decide) (by decide) (by decide) rfl rfl q438 (ys_eq rfl) rfl dX5_tells_98 ?_
  obtain ⟨hi_, hf⟩ := xo_if hf
  obtain ⟨b19, hb19, hf⟩ := xo_bind hf
  refine yc_aalds (pc := 101) 107 (gKo ht14 (by decide)) (by decide) (by decide) rfl rfl hi_ hb19 dX5_tells_101 ?_
  refine xr_iconst (pc := 102) dX5_tells_102 xci_2 ?_
  refine xr_iload_n (pc := 103) 2 dX5_tells_103 rfl rfl ?_
  obtain ⟨ht20, hf⟩ := xo_if hf
  obtain ⟨hi_, hf⟩ := xo_if hf
  refine yc_iast (pc := 104) ht20 hi_ dX5_tells_104 ?_
  refine xr_aload_n (pc := 105) 0 dX5_tells_105 rfl rfl ?_
  refine xr_dup (pc := 106) dX5_tells_106 rfl ?_
  refine yc_getI (pc := 107) 6 2 602 (gKo ht12 (by decide)) (by decide) (by decide) (by decide) rfl rfl q438 (ys_eq rfl) rfl dX5_tells_107 ?_
  refine xr_iconst (pc := 110) dX5_tells_110 xci_1 ?_
  refine xr_iadd (pc := 111) dX5_tells_111 ?_
  refine yc_putI (pc := 112) 6 2 602 ht12 (by decide) (by decide) (by decide) rfl rfl rfl (ty := .int) (by decide +kernel) rfl rfl q438 (ys_eq rfl) rfl dX5_tells_112 ?_
  rw [kr _ (Option.some.inj hf).symm]
  exact xr_vret (pc := 115) dX5_tells_115 rfl
def f_c_X5_tells (g : CG) (x0 : Nat) (x1 : Int32) (x2 : Int32) (τ : CC) : Option CC :=
  if gT g x0 = 6 then
  if (cI τ 602 x0) = 40 then
  (gR g 608 x0).bind fun b2 =>
  if gT g b2 = 107 then
  if xin 0 (gN g b2) = true then
  (cP τ b2 (0 : Int32).toNatClampNeg).bind fun b4 =>
  (itr (fun s_ : Int32 × CC => Bc_X5_tells_19 g x0 x1 x2 b4 s_.1 s_.2) 4096 (1, τ)).bind fun b10 =>
  if gT g b4 = 100 then
  if xin 39 (gN g b2) = true then
  Jc_X5_tells_66 g x0 x1 x2 (uI (uP b10 b2 (39 : Int32).toNatClampNeg (some b4)) 602 x0 ((cI (uP b10 b2 (39 : Int32).toNatClampNeg (some b4)) 602 x0) - 1))
  else none
  else none
  else none
  else none
  else
  Jc_X5_tells_66 g x0 x1 x2 τ
  else none
theorem ok_f_c_X5_tells {D : CD} {P : CP} {K : xK} {g : CG} {Z : Option Value × CS} {x0 : Nat} {x1 : Int32} {x2 : Int32} {τ : CC} {o_ : CC} (hf : f_c_X5_tells g x0 x1 x2 τ = some o_) (kr : ∀ r_ : CC, o_ = r_ → Z = (none, (g, r_))) : xV (wC D P) K mX5_tells (xQ (wC D P) K Z) (g, τ) 0 [(0, .ref x0), (1, .int x1), (2, .int x2)] [] := by
  unfold f_c_X5_tells at hf
  refine xr_aload_n (pc := 0) 0 dX5_tells_0 rfl rfl ?_
  obtain ⟨ht1, hf⟩ := xo_if hf
  refine yc_getI (pc := 1) 6 2 602 (gKo ht1 (by decide)) (by decide) (by decide) (by decide) rfl rfl q438 (ys_eq rfl) rfl dX5_tells_1 ?_
  refine xr_bipush (pc := 4) dX5_tells_4 xcb_40 ?_
  refine xr_icmp_ne (pc := 6) 66 dX5_tells_6 (by decide) (fun c_ => ?_) (fun c_ => ?_)
  · have hf := xo_pos c_ hf
    refine xr_aload_n (pc := 9) 0 dX5_tells_9 rfl rfl ?_
    obtain ⟨b2, hb2, hf⟩ := xo_bind hf
    refine yc_getFs (pc := 10) 6 8 608 (gKo ht1 (by decide)) (by decide) (by decide) (by decide) rfl rfl hb2 q450 (ys_eq rfl) rfl dX5_tells_10 ?_
    refine xr_iconst (pc := 13) dX5_tells_13 xci_0 ?_
    obtain ⟨ht3, hf⟩ := xo_if hf
    obtain ⟨hi_, hf⟩ := xo_if hf
    obtain ⟨b4, hb4, hf⟩ := xo_bind hf
    refine yc_aalds (pc := 14) 107 (gKo ht3 (by decide)) (by decide) (by decide) rfl rfl hi_ hb4 dX5_tells_14 ?_
    refine xr_astore_n (pc := 15) (loc' := [(3, .ref b4), (0, .ref x0), (1, .int x1), (2, .int x2)]) dX5_tells_15 rfl (by decide) rfl ?_
    refine xr_iconst (pc := 16) dX5_tells_16 xci_1 ?_
    refine xr_istore (pc := 17) (loc' := [(4, .int 1), (3, .ref b4), (0, .ref x0), (1, .int x1), (2, .int x2)]) dX5_tells_17 (by decide) rfl ?_
    refine xV_sub [2, 3, 4, 1, 0] rfl ?_
    obtain ⟨b10, hb10, hf⟩ := xo_bind hf
    refine itr_rule (P := fun s_ : Int32 × CC => xV (wC D P) K mX5_tells (xQ (wC D P) K Z) (g, s_.2) 19 [(0, .ref x0), (1, .int x1), (2, .int x2), (3, .ref b4), (4, .int s_.1)] []) (fun s_ o_ hB_ hc_ he_ => ok_Bc_X5_tells_19 hB_ hc_ (fun e_ h_ => ?_)) 4096 _ hb10
    · have e9_ := he_ _ h_
      rw [e9_]
      refine xr_aload_n (pc := 48) 0 dX5_tells_48 rfl rfl ?_
      refine yc_getFs (pc := 49) 6 8 608 (gKo ht1 (by decide)) (by decide) (by decide) (by decide) rfl rfl hb2 q450 (ys_eq rfl) rfl dX5_tells_49 ?_
      refine xr_bipush (pc := 52) dX5_tells_52 xcb_39 ?_
      refine xr_aload_n (pc := 54) 3 dX5_tells_54 rfl rfl ?_
      obtain ⟨ht11, hf⟩ := xo_if hf
      obtain ⟨hi_, hf⟩ := xo_if hf
      refine yc_aast (pc := 55) 107 100 ht3 (by decide) (by decide) rfl rfl (gKo ht11 (by decide)) rfl hi_ dX5_tells_55 ?_
      refine xr_aload_n (pc := 56) 0 dX5_tells_56 rfl rfl ?_
      refine xr_dup (pc := 57) dX5_tells_57 rfl ?_
      refine yc_getI (pc := 58) 6 2 602 (gKo ht1 (by decide)) (by decide) (by decide) (by decide) rfl rfl q438 (ys_eq rfl) rfl dX5_tells_58 ?_
      refine xr_iconst (pc := 61) dX5_tells_61 xci_1 ?_
      refine xr_isub (pc := 62) dX5_tells_62 ?_
      refine yc_putI (pc := 63) 6 2 602 ht1 (by decide) (by decide) (by decide) rfl rfl rfl (ty := .int) (by decide +kernel) rfl rfl q438 (ys_eq rfl) rfl dX5_tells_63 ?_
      refine xV_sub [0, 1, 2] rfl ?_
      exact ok_Jc_X5_tells_66 hf kr
  · have hf := xo_neg c_ hf
    exact ok_Jc_X5_tells_66 hf kr
theorem met_f_c_X5_tells (l : Launch) {D : CD} {P : CP} {g : CG} {x0 : Nat} {x1 : Int32} {x2 : Int32} {τ : CC} {o_ : CC} (hf : f_c_X5_tells g x0 x1 x2 τ = some o_) : xMet (wC D P) l yX5_tells (ws_ yX5_tells cX5_tells 5 none) 0 0 (grc g) (grs g) [.ref x0, .int x1, .int x2] (g, τ) (none, (g, o_)) := 
  xMet_of (by decide) (Nat.le_of_ble_eq_true rfl) KC_moved RPC_of (fun K _ _ _ => ok_f_c_X5_tells hf (fun _ h => by rw [h]))
theorem hd_f_c_X5_moves : yX5_moves.cls ≠ "java/lang/invoke/MethodHandle" ∧ yX5_moves.cls ≠ "java/lang/invoke/VarHandle" ∧ (parseMethodDescriptor yX5_moves.desc).map (fun d => d.parameters.length) = some 1 := by decide +kernel
theorem call_f_c_X5_moves_X5_169 {D : CD} {P : CP} {K : xK} {M : xM} {Q : State → Prop} {g : CG} {c : CC} {x0 : Nat} {x1 : Int32} {pc : Nat} {loc : List (Nat × Value)} {st : List Value} {c1 : CC} (hf : f_c_X5_moves g x0 x1 c = some c1) (hr : gK g x0 = 6) (ho : M.2.2.1 = RX5) (hfr : 80 ≤ M.2.2.2.1) (hlo : 4765 ≤ M.2.2.2.2.1) (hcat : (st.map fun v => v.category).sum ≤ 8) (d : decode M.1 pc = .ok (.invokevirtual 169, 3)) (k : xV (wC D P) K M Q (g, c1) (pc + 3) loc st) : xV (wC D P) K M Q (g, c) pc loc (.int x1 :: .ref x0 :: st) :=
  yc_callV (As := [.int x1]) (rest := st) (met_f_c_X5_moves K.2.1 hf) (lw_V q1494 q1496 qs45 q185 q1497) ⟨rfl, hd_f_c_X5_moves⟩ ho hfr hlo rfl hr (by decide) (by decide) rfl rfl hcat d k
theorem hd_f_c_X5_pays : yX5_pays.cls ≠ "java/lang/invoke/MethodHandle" ∧ yX5_pays.cls ≠ "java/lang/invoke/VarHandle" ∧ (parseMethodDescriptor yX5_pays.desc).map (fun d => d.parameters.length) = some 1 := by decide +kernel
theorem call_f_c_X5_pays_X5_173 {D : CD} {P : CP} {K : xK} {M : xM} {Q : State → Prop} {g : CG} {c : CC} {x0 : Nat} {x1 : Int32} {pc : Nat} {loc : List (Nat × Value)} {st : List Value} {r : Int32} {c1 : CC} (hf : f_c_X5_pays g x0 x1 c = some (r, c1)) (hr : gK g x0 = 6) (ho : M.2.2.1 = RX5) (hfr : 6 ≤ M.2.2.2.1) (hlo : 324 ≤ M.2.2.2.2.1) (hcat : (st.map fun v => v.category).sum ≤ 8) (d : decode M.1 pc = .ok (.invokevirtual 173, 3)) (k : xV (wC D P) K M Q (g, c1) (pc + 3) loc (.int r :: st)) : xV (wC D P) K M Q (g, c) pc loc (.int x1 :: .ref x0 :: st) :=
  yc_callV (As := [.int x1]) (rest := st) (met_f_c_X5_pays K.2.1 hf) (lw_V q1505 q1507 qs47 q185 q1508) ⟨rfl, hd_f_c_X5_pays⟩ ho hfr hlo rfl hr (by decide) (by decide) rfl rfl hcat d k
theorem call_f_c_X5_bends_X5_176 {D : CD} {P : CP} {K : xK} {M : xM} {Q : State → Prop} {g : CG} {c : CC} {x0 : Nat} {pc : Nat} {loc : List (Nat × Value)} {st : List Value} {r : Int32} {c1 : CC} (hf : f_c_X5_bends g x0 c = some (r, c1)) (hr : gK g x0 = 6) (ho : M.2.2.1 = RX5) (hfr : 81 ≤ M.2.2.2.1) (hlo : 4822 ≤ M.2.2.2.2.1) (hcat : (st.map fun v => v.category).sum ≤ 8) (d : decode M.1 pc = .ok (.invokevirtual 176, 3)) (k : xV (wC D P) K M Q (g, c1) (pc + 3) loc (.int r :: st)) : xV (wC D P) K M Q (g, c) pc loc (.ref x0 :: st) :=
  yc_callV (As := []) (rest := st) (met_f_c_X5_bends K.2.1 hf) (lw_V q1510 q1274 q1275 q185 q1276) ⟨rfl, hd_f_c_X5_bends⟩ ho hfr hlo rfl hr (by decide) (by decide) rfl rfl hcat d k
theorem hd_f_c_X5_tells : yX5_tells.cls ≠ "java/lang/invoke/MethodHandle" ∧ yX5_tells.cls ≠ "java/lang/invoke/VarHandle" ∧ (parseMethodDescriptor yX5_tells.desc).map (fun d => d.parameters.length) = some 2 := by decide +kernel
theorem call_f_c_X5_tells_X5_179 {D : CD} {P : CP} {K : xK} {M : xM} {Q : State → Prop} {g : CG} {c : CC} {x0 : Nat} {x1 : Int32} {x2 : Int32} {pc : Nat} {loc : List (Nat × Value)} {st : List Value} {c1 : CC} (hf : f_c_X5_tells g x0 x1 x2 c = some c1) (hr : gK g x0 = 6) (ho : M.2.2.1 = RX5) (hfr : 1 ≤ M.2.2.2.1) (hlo : 24 ≤ M.2.2.2.2.1) (hcat : (st.map fun v => v.category).sum ≤ 8) (d : decode M.1 pc = .ok (.invokevirtual 179, 3)) (k : xV (wC D P) K M Q (g, c1) (pc + 3) loc st) : xV (wC D P) K M Q (g, c) pc loc (.int x2 :: .int x1 :: .ref x0 :: st) :=
  yc_callV (As := [.int x1, .int x2]) (rest := st) (met_f_c_X5_tells K.2.1 hf) (lw_V q1511 q1513 qs48 q185 q1514) ⟨rfl, hd_f_c_X5_tells⟩ ho hfr hlo rfl hr (by decide) (by decide) rfl rfl hcat d k
abbrev mX5_passes : xM := (cX5_passes, 3, RX5, 81, 4860, (some .int), "passes")
def Bc_X5_passes_2 (g : CG) (x0 : Nat) (x1 : Int32) (τ : CC) : Option ((Int32 × CC) ⊕ ((CC))) :=
  if gT g x0 = 6 then
  (gR g 610 x0).bind fun b2 =>
  if gT g b2 = 1 then
  xbd (f_c_X0_columns g b2 τ) fun r4 τ4 =>
  if r4 ≤ x1 then
  some (.inr τ4)
  else
  (f_c_X5_moves g x0 x1 τ4).bind fun τ5 =>
  some (.inl (x1 + 1, τ5))
  else none
  else none
theorem ok_Bc_X5_passes_2 {D : CD} {P : CP} {K : xK} {g : CG} {Z : Option Value × CS} {x0 : Nat} {x1 : Int32} {τ : CC} {o_ : ((Int32 × CC) ⊕ ((CC)))} (hf : Bc_X5_passes_2 g x0 x1 τ = some o_) (kc : ∀ s_ : Int32 × CC, o_ = .inl s_ → xV (wC D P) K mX5_passes (xQ (wC D P) K Z) (g, s_.2) 2 [(0, .ref x0), (1, .int s_.1)] []) (ke0 : ∀ e_ : CC, o_ = .inr e_ → xV (wC D P) K mX5_passes (xQ (wC D P) K Z) (g, e_) 24 [(0, .ref x0)] []) : xV (wC D P) K mX5_passes (xQ (wC D P) K Z) (g, τ) 2 [(0, .ref x0), (1, .int x1)] [] := by
  unfold Bc_X5_passes_2 at hf
  refine xr_iload_n (pc := 2) 1 dX5_passes_2 rfl rfl ?_
  refine xr_aload_n (pc := 3) 0 dX5_passes_3 rfl rfl ?_
  obtain ⟨ht1, hf⟩ := xo_if hf
  obtain ⟨b2, hb2, hf⟩ := xo_bind hf
  refine yc_getFs (pc := 4) 6 10 610 (gKo ht1 (by decide)) (by decide) (by decide) (by decide) rfl rfl hb2 q454 (ys_eq rfl) rfl dX5_passes_4 ?_
  obtain ⟨ht3, hf⟩ := xo_if hf
  obtain ⟨r4, τ4, hτ4, hf⟩ := xo_bd hf
  refine call_f_c_X0_columns_X5_78 (pc := 7) hτ4 (gKo ht3 (by decide)) rfl (Nat.le_of_ble_eq_true rfl) (Nat.le_of_ble_eq_true rfl) (Nat.le_of_ble_eq_true rfl) dX5_passes_7 ?_
  refine xr_icmp_ge (pc := 10) 24 dX5_passes_10 (by decide) (fun c_ => ?_) (fun c_ => ?_)
  · have hf := xo_pos c_ hf
    refine xV_sub [0] rfl ?_
    exact ke0 _ (Option.some.inj hf).symm
  · have hf := xo_neg c_ hf
    refine xr_aload_n (pc := 13) 0 dX5_passes_13 rfl rfl ?_
    refine xr_iload_n (pc := 14) 1 dX5_passes_14 rfl rfl ?_
    obtain ⟨τ5, hτ5, hf⟩ := xo_bind hf
    refine call_f_c_X5_moves_X5_169 (pc := 15) hτ5 (gKo ht1 (by decide)) rfl (Nat.le_of_ble_eq_true rfl) (Nat.le_of_ble_eq_true rfl) (Nat.le_of_ble_eq_true rfl) dX5_passes_15 ?_
    refine xr_iinc (pc := 18) (loc' := [(1, .int (x1 + 1)), (0, .ref x0)]) 1 dX5_passes_18 rfl xci_1 (by decide) rfl ?_
    refine xr_goto (pc := 21) 2 dX5_passes_21 (by decide) ?_
    refine xV_sub [1, 0] rfl ?_
    exact kc _ (Option.some.inj hf).symm
def Bc_X5_passes_26 (g : CG) (x0 : Nat) (x1 : Int32) (τ : CC) : Option ((Int32 × CC) ⊕ ((CC))) :=
  if gT g x0 = 6 then
  (gR g 610 x0).bind fun b8 =>
  if gT g b8 = 1 then
  xbd (f_c_X0_columns g b8 τ) fun r10 τ10 =>
  if r10 ≤ x1 then
  some (.inr τ10)
  else
  (gR g 607 x0).bind fun b11 =>
  if gT g b11 = 105 then
  if xin x1 (gN g b11) = true then
  (gR g 603 x0).bind fun b13 =>
  if gT g b13 = 100 then
  if xin x1 (gN g b13) = true then
  if xin x1 (gN g b11) = true then
  if xin x1 (gN g b13) = true then
  if gT g (gA g b11 x1.toNatClampNeg) = 100 then
  if xin (cA τ10 b13 x1.toNatClampNeg) (gN g (gA g b11 x1.toNatClampNeg)) = true then
  xbd (f_c_J12_min g 99 ((cA τ10 (gA g b11 x1.toNatClampNeg) (cA τ10 b13 x1.toNatClampNeg).toNatClampNeg) + 1) τ10) fun r16 τ16 =>
  if xin (cA τ10 b13 x1.toNatClampNeg) (gN g (gA g b11 x1.toNatClampNeg)) = true then
  some (.inl (x1 + 1, uA τ16 (gA g b11 x1.toNatClampNeg) (cA τ10 b13 x1.toNatClampNeg).toNatClampNeg r16))
  else none
  else none
  else none
  else none
  else none
  else none
  else none
  else none
  else none
  else none
  else none
theorem ok_Bc_X5_passes_26 {D : CD} {P : CP} {K : xK} {g : CG} {Z : Option Value × CS} {x0 : Nat} {x1 : Int32} {τ : CC} {o_ : ((Int32 × CC) ⊕ ((CC)))} (hf : Bc_X5_passes_26 g x0 x1 τ = some o_) (kc : ∀ s_ : Int32 × CC, o_ = .inl s_ → xV (wC D P) K mX5_passes (xQ (wC D P) K Z) (g, s_.2) 26 [(0, .ref x0), (1, .int s_.1)] []) (ke0 : ∀ e_ : CC, o_ = .inr e_ → xV (wC D P) K mX5_passes (xQ (wC D P) K Z) (g, e_) 76 [(0, .ref x0)] []) : xV (wC D P) K mX5_passes (xQ (wC D P) K Z) (g, τ) 26 [(0, .ref x0), (1, .int x1)] [] := by
  unfold Bc_X5_passes_26 at hf
  refine xr_iload_n (pc := 26) 1 dX5_passes_26 rfl rfl ?_
  refine xr_aload_n (pc := 27) 0 dX5_passes_27 rfl rfl ?_
  obtain ⟨ht7, hf⟩ := xo_if hf
  obtain ⟨b8, hb8, hf⟩ := xo_bind hf
  refine yc_getFs (pc := 28) 6 10 610 (gKo ht7 (by decide)) (by decide) (by decide) (by decide) rfl rfl hb8 q454 (ys_eq rfl) rfl dX5_passes_28 ?_
  obtain ⟨ht9, hf⟩ := xo_if hf
  obtain ⟨r10, τ10, hτ10, hf⟩ := xo_bd hf
  refine call_f_c_X0_columns_X5_78 (pc := 31) hτ10 (gKo ht9 (by decide)) rfl (Nat.le_of_ble_eq_true rfl) (Nat.le_of_ble_eq_true rfl) (Nat.le_of_ble_eq_true rfl) dX5_passes_31 ?_
  refine xr_icmp_ge (pc := 34) 76 dX5_passes_34 (by decide) (fun c_ => ?_) (fun c_ => ?_)
  · have hf := xo_pos c_ hf
    refine xV_sub [0] rfl ?_
    exact ke0 _ (Option.some.inj hf).symm
  · have hf := xo_neg c_ hf
    refine xr_aload_n (pc := 37) 0 dX5_passes_37 rfl rfl ?_
    obtain ⟨b11, hb11, hf⟩ := xo_bind hf
    refine yc_getFs (pc := 38) 6 7 607 (gKo ht7 (by decide)) (by decide) (by decide) (by decide) rfl rfl hb11 q448 (ys_eq rfl) rfl dX5_passes_38 ?_
    refine xr_iload_n (pc := 41) 1 dX5_passes_41 rfl rfl ?_
    obtain ⟨ht12, hf⟩ := xo_if hf
    obtain ⟨hi_, hf⟩ := xo_if hf
    refine yc_aaldF (pc := 42) 105 (gKo ht12 (by decide)) (by decide) (by decide) rfl rfl hi_ dX5_passes_42 ?_
    refine xr_aload_n (pc := 43) 0 dX5_passes_43 rfl rfl ?_
    obtain ⟨b13, hb13, hf⟩ := xo_bind hf
    refine yc_getFs (pc := 44) 6 3 603 (gKo ht7 (by decide)) (by decide) (by decide) (by decide) rfl rfl hb13 q440 (ys_eq rfl) rfl dX5_passes_44 ?_
    refine xr_iload_n (pc := 47) 1 dX5_passes_47 rfl rfl ?_
    obtain ⟨ht14, hf⟩ := xo_if hf
    obtain ⟨hi_, hf⟩ := xo_if hf
    refine yc_iald (pc := 48) (gKo ht14 (by decide)) hi_ dX5_passes_48 ?_
    refine xr_bipush (pc := 49) dX5_passes_49 xcb_99 ?_
    refine xr_aload_n (pc := 51) 0 dX5_passes_51 rfl rfl ?_
    refine yc_getFs (pc := 52) 6 7 607 (gKo ht7 (by decide)) (by decide) (by decide) (by decide) rfl rfl hb11 q448 (ys_eq rfl) rfl dX5_passes_52 ?_
    refine xr_iload_n (pc := 55) 1 dX5_passes_55 rfl rfl ?_
    obtain ⟨hi_, hf⟩ := xo_if hf
    refine yc_aaldF (pc := 56) 105 (gKo ht12 (by decide)) (by decide) (by decide) rfl rfl hi_ dX5_passes_56 ?_
    refine xr_aload_n (pc := 57) 0 dX5_passes_57 rfl rfl ?_
    refine yc_getFs (pc := 58) 6 3 603 (gKo ht7 (by decide)) (by decide) (by decide) (by decide) rfl rfl hb13 q440 (ys_eq rfl) rfl dX5_passes_58 ?_
    refine xr_iload_n (pc := 61) 1 dX5_passes_61 rfl rfl ?_
    obtain ⟨hi_, hf⟩ := xo_if hf
    refine yc_iald (pc := 62) (gKo ht14 (by decide)) hi_ dX5_passes_62 ?_
    obtain ⟨ht15, hf⟩ := xo_if hf
    obtain ⟨hi_, hf⟩ := xo_if hf
    refine yc_iald (pc := 63) (gKo ht15 (by decide)) hi_ dX5_passes_63 ?_
    refine xr_iconst (pc := 64) dX5_passes_64 xci_1 ?_
    refine xr_iadd (pc := 65) dX5_passes_65 ?_
    obtain ⟨r16, τ16, hτ16, hf⟩ := xo_bd hf
    refine call_f_c_J12_min_X5_81 (pc := 66) hτ16 rfl (Nat.le_of_ble_eq_true rfl) (Nat.le_of_ble_eq_true rfl) (Nat.le_of_ble_eq_true rfl) dX5_passes_66 ?_
    obtain ⟨hi_, hf⟩ := xo_if hf
    refine yc_iast (pc := 69) ht15 hi_ dX5_passes_69 ?_
    refine xr_iinc (pc := 70) (loc' := [(1, .int (x1 + 1)), (0, .ref x0)]) 1 dX5_passes_70 rfl xci_1 (by decide) rfl ?_
    refine xr_goto (pc := 73) 26 dX5_passes_73 (by decide) ?_
    refine xV_sub [1, 0] rfl ?_
    exact kc _ (Option.some.inj hf).symm
def Jc_X5_passes_109 (g : CG) (x0 : Nat) (x2 : Int32) (s0 : Int32) (s1 : Int32) (τ : CC) : Option ((Int32 × Int32 × CC) ⊕ ((Int32 × CC))) :=
  some (.inl (s1 + s0, x2 + 1, τ))
theorem ok_Jc_X5_passes_109 {D : CD} {P : CP} {K : xK} {g : CG} {Z : Option Value × CS} {x0 : Nat} {x2 : Int32} {s0 : Int32} {s1 : Int32} {τ : CC} {o_ : ((Int32 × Int32 × CC) ⊕ ((Int32 × CC)))} (hf : Jc_X5_passes_109 g x0 x2 s0 s1 τ = some o_) (kc : ∀ s_ : Int32 × Int32 × CC, o_ = .inl s_ → xV (wC D P) K mX5_passes (xQ (wC D P) K Z) (g, s_.2.2) 80 [(0, .ref x0), (1, .int s_.1), (2, .int s_.2.1)] []) (ke0 : ∀ e_ : Int32 × CC, o_ = .inr e_ → xV (wC D P) K mX5_passes (xQ (wC D P) K Z) (g, e_.2) 117 [(0, .ref x0), (1, .int e_.1)] []) : xV (wC D P) K mX5_passes (xQ (wC D P) K Z) (g, τ) 109 [(0, .ref x0), (2, .int x2)] [.int s0, .int s1] := by
  unfold Jc_X5_passes_109 at hf
  refine xr_iadd (pc := 109) dX5_passes_109 ?_
  refine xr_istore_n (pc := 110) (loc' := [(1, .int (s1 + s0)), (0, .ref x0), (2, .int x2)]) dX5_passes_110 rfl (by decide) rfl ?_
  refine xr_iinc (pc := 111) (loc' := [(2, .int (x2 + 1)), (1, .int (s1 + s0)), (0, .ref x0)]) 2 dX5_passes_111 rfl xci_1 (by decide) rfl ?_
  refine xr_goto (pc := 114) 80 dX5_passes_114 (by decide) ?_
  refine xV_sub [2, 1, 0] rfl ?_
  exact kc _ (Option.some.inj hf).symm
def Bc_X5_passes_80 (g : CG) (x0 : Nat) (x1 : Int32) (x2 : Int32) (τ : CC) : Option ((Int32 × Int32 × CC) ⊕ ((Int32 × CC))) :=
  if gT g x0 = 6 then
  (gR g 610 x0).bind fun b19 =>
  if gT g b19 = 1 then
  xbd (f_c_X0_columns g b19 τ) fun r21 τ21 =>
  if r21 ≤ x2 then
  some (.inr (x1, τ21))
  else
  xbd (f_c_X5_isBend g x0 x2 τ21) fun r22 τ22 =>
  if r22 = 0 then
  Jc_X5_passes_109 g x0 x2 0 x1 τ22
  else
  xbd (f_c_X5_pays g x0 x2 τ22) fun r23 τ23 =>
  Jc_X5_passes_109 g x0 x2 r23 x1 τ23
  else none
  else none
theorem ok_Bc_X5_passes_80 {D : CD} {P : CP} {K : xK} {g : CG} {Z : Option Value × CS} {x0 : Nat} {x1 : Int32} {x2 : Int32} {τ : CC} {o_ : ((Int32 × Int32 × CC) ⊕ ((Int32 × CC)))} (hf : Bc_X5_passes_80 g x0 x1 x2 τ = some o_) (kc : ∀ s_ : Int32 × Int32 × CC, o_ = .inl s_ → xV (wC D P) K mX5_passes (xQ (wC D P) K Z) (g, s_.2.2) 80 [(0, .ref x0), (1, .int s_.1), (2, .int s_.2.1)] []) (ke0 : ∀ e_ : Int32 × CC, o_ = .inr e_ → xV (wC D P) K mX5_passes (xQ (wC D P) K Z) (g, e_.2) 117 [(0, .ref x0), (1, .int e_.1)] []) : xV (wC D P) K mX5_passes (xQ (wC D P) K Z) (g, τ) 80 [(0, .ref x0), (1, .int x1), (2, .int x2)] [] := by
  unfold Bc_X5_passes_80 at hf
  refine xr_iload_n (pc := 80) 2 dX5_passes_80 rfl rfl ?_
  refine xr_aload_n (pc := 81) 0 dX5_passes_81 rfl rfl ?_
  obtain ⟨ht18, hf⟩ := xo_if hf
  obtain ⟨b19, hb19, hf⟩ := xo_bind hf
  refine yc_getFs (pc := 82) 6 10 610 (gKo ht18 (by decide)) (by decide) (by decide) (by decide) rfl rfl hb19 q454 (ys_eq rfl) rfl dX5_passes_82 ?_
  obtain ⟨ht20, hf⟩ := xo_if hf
  obtain ⟨r21, τ21, hτ21, hf⟩ := xo_bd hf
  refine call_f_c_X0_columns_X5_78 (pc := 85) hτ21 (gKo ht20 (by decide)) rfl (Nat.le_of_ble_eq_true rfl) (Nat.le_of_ble_eq_true rfl) (Nat.le_of_ble_eq_true rfl) dX5_passes_85 ?_
  refine xr_icmp_ge (pc := 88) 117 dX5_passes_88 (by decide) (fun c_ => ?_) (fun c_ => ?_)
  · have hf := xo_pos c_ hf
    refine xV_sub [0, 1] rfl ?_
    exact ke0 _ (Option.some.inj hf).symm
  · have hf := xo_neg c_ hf
    refine xr_iload_n (pc := 91) 1 dX5_passes_91 rfl rfl ?_
    refine xr_aload_n (pc := 92) 0 dX5_passes_92 rfl rfl ?_
    refine xr_iload_n (pc := 93) 2 dX5_passes_93 rfl rfl ?_
    obtain ⟨r22, τ22, hτ22, hf⟩ := xo_bd hf
    refine call_f_c_X5_isBend_X5_138 (pc := 94) hτ22 (gKo ht18 (by decide)) rfl (Nat.le_of_ble_eq_true rfl) (Nat.le_of_ble_eq_true rfl) (Nat.le_of_ble_eq_true rfl) dX5_passes_94 ?_
    refine xr_if_eq (pc := 97) 108 dX5_passes_97 (by decide) (fun c_ => ?_) (fun c_ => ?_)
    · have hf := xo_pos c_ hf
      refine xr_iconst (pc := 108) dX5_passes_108 xci_0 ?_
      refine xV_sub [0, 2] rfl ?_
      exact ok_Jc_X5_passes_109 hf kc ke0
    · have hf := xo_neg c_ hf
      refine xr_aload_n (pc := 100) 0 dX5_passes_100 rfl rfl ?_
      refine xr_iload_n (pc := 101) 2 dX5_passes_101 rfl rfl ?_
      obtain ⟨r23, τ23, hτ23, hf⟩ := xo_bd hf
      refine call_f_c_X5_pays_X5_173 (pc := 102) hτ23 (gKo ht18 (by decide)) rfl (Nat.le_of_ble_eq_true rfl) (Nat.le_of_ble_eq_true rfl) (Nat.le_of_ble_eq_true rfl) dX5_passes_102 ?_
      refine xr_goto (pc := 105) 109 dX5_passes_105 (by decide) ?_
      refine xV_sub [0, 2] rfl ?_
      exact ok_Jc_X5_passes_109 hf kc ke0
def f_c_X5_passes (g : CG) (x0 : Nat) (τ : CC) : Option (Int32 × CC) :=
  (itr (fun s_ : Int32 × CC => Bc_X5_passes_2 g x0 s_.1 s_.2) 4096 (0, τ)).bind fun b6 =>
  (itr (fun s_ : Int32 × CC => Bc_X5_passes_26 g x0 s_.1 s_.2) 4096 (0, b6)).bind fun b17 =>
  (itr (fun s_ : Int32 × Int32 × CC => Bc_X5_passes_80 g x0 s_.1 s_.2.1 s_.2.2) 4096 (0, 0, b17)).bind fun b24 =>
  if gT g x0 = 6 then
  xbd (f_c_J12_min g 999999 ((cI b24.2 601 x0) + b24.1) b24.2) fun r26 τ26 =>
  xbd (f_c_X5_bends g x0 (uI τ26 601 x0 r26)) fun r27 τ27 =>
  (f_c_X5_tells g x0 r27 b24.1 τ27).bind fun τ28 =>
  some ((b24.1, uI τ28 600 x0 ((cI τ28 600 x0) + 1)))
  else none
theorem ok_f_c_X5_passes {D : CD} {P : CP} {K : xK} {g : CG} {Z : Option Value × CS} {x0 : Nat} {τ : CC} {o_ : (Int32 × CC)} (hf : f_c_X5_passes g x0 τ = some o_) (kr : ∀ r_ : (Int32 × CC), o_ = r_ → Z = (some (.int r_.1), (g, r_.2))) : xV (wC D P) K mX5_passes (xQ (wC D P) K Z) (g, τ) 0 [(0, .ref x0)] [] := by
  unfold f_c_X5_passes at hf
  refine xr_iconst (pc := 0) dX5_passes_0 xci_0 ?_
  refine xr_istore_n (pc := 1) (loc' := [(1, .int 0), (0, .ref x0)]) dX5_passes_1 rfl (by decide) rfl ?_
  refine xV_sub [1, 0] rfl ?_
  obtain ⟨b6, hb6, hf⟩ := xo_bind hf
  refine itr_rule (P := fun s_ : Int32 × CC => xV (wC D P) K mX5_passes (xQ (wC D P) K Z) (g, s_.2) 2 [(0, .ref x0), (1, .int s_.1)] []) (fun s_ o_ hB_ hc_ he_ => ok_Bc_X5_passes_2 hB_ hc_ (fun e_ h_ => ?_)) 4096 _ hb6
  · have e9_ := he_ _ h_
    rw [e9_]
    refine xr_iconst (pc := 24) dX5_passes_24 xci_0 ?_
    refine xr_istore_n (pc := 25) (loc' := [(1, .int 0), (0, .ref x0)]) dX5_passes_25 rfl (by decide) rfl ?_
    refine xV_sub [1, 0] rfl ?_
    obtain ⟨b17, hb17, hf⟩ := xo_bind hf
    refine itr_rule (P := fun s_ : Int32 × CC => xV (wC D P) K mX5_passes (xQ (wC D P) K Z) (g, s_.2) 26 [(0, .ref x0), (1, .int s_.1)] []) (fun s_ o_ hB_ hc_ he_ => ok_Bc_X5_passes_26 hB_ hc_ (fun e_ h_ => ?_)) 4096 _ hb17
    · have e9_ := he_ _ h_
      rw [e9_]
      refine xr_iconst (pc := 76) dX5_passes_76 xci_0 ?_
      refine xr_istore_n (pc := 77) (loc' := [(1, .int 0), (0, .ref x0)]) dX5_passes_77 rfl (by decide) rfl ?_
      refine xr_iconst (pc := 78) dX5_passes_78 xci_0 ?_
      refine xr_istore_n (pc := 79) (loc' := [(2, .int 0), (1, .int 0), (0, .ref x0)]) dX5_passes_79 rfl (by decide) rfl ?_
      refine xV_sub [2, 1, 0] rfl ?_
      obtain ⟨b24, hb24, hf⟩ := xo_bind hf
      refine itr_rule (P := fun s_ : Int32 × Int32 × CC => xV (wC D P) K mX5_passes (xQ (wC D P) K Z) (g, s_.2.2) 80 [(0, .ref x0), (1, .int s_.1), (2, .int s_.2.1)] []) (fun s_ o_ hB_ hc_ he_ => ok_Bc_X5_passes_80 hB_ hc_ (fun e_ h_ => ?_)) 4096 _ hb24
      · have e9_ := he_ _ h_
        rw [e9_]
        refine xr_aload_n (pc := 117) 0 dX5_passes_117 rfl rfl ?_
        refine xr_ldc (pc := 118) q1509 dX5_passes_118 ?_
        refine xr_aload_n (pc := 120) 0 dX5_passes_120 rfl rfl ?_
        obtain ⟨ht25, hf⟩ := xo_if hf
        refine yc_getI (pc := 121) 6 1 601 (gKo ht25 (by decide)) (by decide) (by decide) (by decide) rfl rfl q436 (ys_eq rfl) rfl dX5_passes_121 ?_
        refine xr_iload_n (pc := 124) 1 dX5_passes_124 rfl rfl ?_
        refine xr_iadd (pc := 125) dX5_passes_125 ?_
        obtain ⟨r26, τ26, hτ26, hf⟩ := xo_bd hf
        refine call_f_c_J12_min_X5_81 (pc := 126) hτ26 rfl (Nat.le_of_ble_eq_true rfl) (Nat.le_of_ble_eq_true rfl) (Nat.le_of_ble_eq_true rfl) dX5_passes_126 ?_
        refine yc_putI (pc := 129) 6 1 601 ht25 (by decide) (by decide) (by decide) rfl rfl rfl (ty := .int) (by decide +kernel) rfl rfl q436 (ys_eq rfl) rfl dX5_passes_129 ?_
        refine xr_aload_n (pc := 132) 0 dX5_passes_132 rfl rfl ?_
        refine xr_aload_n (pc := 133) 0 dX5_passes_133 rfl rfl ?_
        obtain ⟨r27, τ27, hτ27, hf⟩ := xo_bd hf
        refine call_f_c_X5_bends_X5_176 (pc := 134) hτ27 (gKo ht25 (by decide)) rfl (Nat.le_of_ble_eq_true rfl) (Nat.le_of_ble_eq_true rfl) (Nat.le_of_ble_eq_true rfl) dX5_passes_134 ?_
        refine xr_iload_n (pc := 137) 1 dX5_passes_137 rfl rfl ?_
        obtain ⟨τ28, hτ28, hf⟩ := xo_bind hf
        refine call_f_c_X5_tells_X5_179 (pc := 138) hτ28 (gKo ht25 (by decide)) rfl (Nat.le_of_ble_eq_true rfl) (Nat.le_of_ble_eq_true rfl) (Nat.le_of_ble_eq_true rfl) dX5_passes_138 ?_
        refine xr_aload_n (pc := 141) 0 dX5_passes_141 rfl rfl ?_
        refine xr_dup (pc := 142) dX5_passes_142 rfl ?_
        refine yc_getI (pc := 143) 6 0 600 (gKo ht25 (by decide)) (by decide) (by decide) (by decide) rfl rfl q434 (ys_eq rfl) rfl dX5_passes_143 ?_
        refine xr_iconst (pc := 146) dX5_passes_146 xci_1 ?_
        refine xr_iadd (pc := 147) dX5_passes_147 ?_
        refine yc_putI (pc := 148) 6 0 600 ht25 (by decide) (by decide) (by decide) rfl rfl rfl (ty := .int) (by decide +kernel) rfl rfl q434 (ys_eq rfl) rfl dX5_passes_148 ?_
        refine xr_iload_n (pc := 151) 1 dX5_passes_151 rfl rfl ?_
        rw [kr _ (Option.some.inj hf).symm]
        exact xr_iret (pc := 152) dX5_passes_152 rfl
theorem met_f_c_X5_passes (l : Launch) {D : CD} {P : CP} {g : CG} {x0 : Nat} {τ : CC} {o_ : (Int32 × CC)} (hf : f_c_X5_passes g x0 τ = some o_) : xMet (wC D P) l yX5_passes (ws_ yX5_passes cX5_passes 3 (some .int)) 81 4860 (grc g) (grs g) [.ref x0] (g, τ) (some (.int o_.1), (g, o_.2)) := 
  xMet_of (by decide) (Nat.le_of_ble_eq_true rfl) KC_moved RPC_of (fun K _ _ _ => ok_f_c_X5_passes hf (fun _ h => by rw [h]))
theorem hd_f_c_X5_passes : yX5_passes.cls ≠ "java/lang/invoke/MethodHandle" ∧ yX5_passes.cls ≠ "java/lang/invoke/VarHandle" ∧ (parseMethodDescriptor yX5_passes.desc).map (fun d => d.parameters.length) = some 0 := by decide +kernel
theorem call_f_c_X5_passes_X5_183 {D : CD} {P : CP} {K : xK} {M : xM} {Q : State → Prop} {g : CG} {c : CC} {x0 : Nat} {pc : Nat} {loc : List (Nat × Value)} {st : List Value} {r : Int32} {c1 : CC} (hf : f_c_X5_passes g x0 c = some (r, c1)) (hr : gK g x0 = 6) (ho : M.2.2.1 = RX5) (hfr : 82 ≤ M.2.2.2.1) (hlo : 4882 ≤ M.2.2.2.2.1) (hcat : (st.map fun v => v.category).sum ≤ 8) (d : decode M.1 pc = .ok (.invokevirtual 183, 3)) (k : xV (wC D P) K M Q (g, c1) (pc + 3) loc (.int r :: st)) : xV (wC D P) K M Q (g, c) pc loc (.ref x0 :: st) :=
  yc_callV (As := []) (rest := st) (met_f_c_X5_passes K.2.1 hf) (lw_V q1490 q1491 q1492 q185 q1493) ⟨rfl, hd_f_c_X5_passes⟩ ho hfr hlo rfl hr (by decide) (by decide) rfl rfl hcat d k
abbrev mX5_seasons : xM := (cX5_seasons, 3, RX5, 82, 4920, (some (.object "BentRiver$State")), "seasons")
def Bc_X5_seasons_2 (g : CG) (x0 : Nat) (x1 : Int32) (x2 : Int32) (τ : CC) : Option ((Int32 × CC) ⊕ ((CC))) :=
  if x1 ≤ x2 then
  some (.inr τ)
  else
  if gT g x0 = 6 then
  xbd (f_c_X5_passes g x0 τ) fun r2 τ2 =>
  some (.inl (x2 + 1, τ2))
  else none
theorem ok_Bc_X5_seasons_2 {D : CD} {P : CP} {K : xK} {g : CG} {Z : Option Value × CS} {x0 : Nat} {x1 : Int32} {x2 : Int32} {τ : CC} {o_ : ((Int32 × CC) ⊕ ((CC)))} (hf : Bc_X5_seasons_2 g x0 x1 x2 τ = some o_) (kc : ∀ s_ : Int32 × CC, o_ = .inl s_ → xV (wC D P) K mX5_seasons (xQ (wC D P) K Z) (g, s_.2) 2 [(0, .ref x0), (1, .int x1), (2, .int s_.1)] []) (ke0 : ∀ e_ : CC, o_ = .inr e_ → xV (wC D P) K mX5_seasons (xQ (wC D P) K Z) (g, e_) 18 [(0, .ref x0)] []) : xV (wC D P) K mX5_seasons (xQ (wC D P) K Z) (g, τ) 2 [(0, .ref x0), (1, .int x1), (2, .int x2)] [] := by
  unfold Bc_X5_seasons_2 at hf
  refine xr_iload_n (pc := 2) 2 dX5_seasons_2 rfl rfl ?_
  refine xr_iload_n (pc := 3) 1 dX5_seasons_3 rfl rfl ?_
  refine xr_icmp_ge (pc := 4) 18 dX5_seasons_4 (by decide) (fun c_ => ?_) (fun c_ => ?_)
  · have hf := xo_pos c_ hf
    refine xV_sub [0] rfl ?_
    exact ke0 _ (Option.some.inj hf).symm
  · have hf := xo_neg c_ hf
    refine xr_aload_n (pc := 7) 0 dX5_seasons_7 rfl rfl ?_
    obtain ⟨ht1, hf⟩ := xo_if hf
    obtain ⟨r2, τ2, hτ2, hf⟩ := xo_bd hf
    refine call_f_c_X5_passes_X5_183 (pc := 8) hτ2 (gKo ht1 (by decide)) rfl (Nat.le_of_ble_eq_true rfl) (Nat.le_of_ble_eq_true rfl) (Nat.le_of_ble_eq_true rfl) dX5_seasons_8 ?_
    refine xr_pop (pc := 11) dX5_seasons_11 rfl ?_
    refine xr_iinc (pc := 12) (loc' := [(2, .int (x2 + 1)), (0, .ref x0), (1, .int x1)]) 2 dX5_seasons_12 rfl xci_1 (by decide) rfl ?_
    refine xr_goto (pc := 15) 2 dX5_seasons_15 (by decide) ?_
    refine xV_sub [1, 2, 0] rfl ?_
    exact kc _ (Option.some.inj hf).symm
def f_c_X5_seasons (g : CG) (x0 : Nat) (x1 : Int32) (τ : CC) : Option (Nat × CC) :=
  (itr (fun s_ : Int32 × CC => Bc_X5_seasons_2 g x0 x1 s_.1 s_.2) 4096 (0, τ)).bind fun b3 =>
  some ((x0, b3))
theorem ok_f_c_X5_seasons {D : CD} {P : CP} {K : xK} {g : CG} {Z : Option Value × CS} {x0 : Nat} {x1 : Int32} {τ : CC} {o_ : (Nat × CC)} (hf : f_c_X5_seasons g x0 x1 τ = some o_) (kr : ∀ r_ : (Nat × CC), o_ = r_ → Z = (some (.ref r_.1), (g, r_.2))) : xV (wC D P) K mX5_seasons (xQ (wC D P) K Z) (g, τ) 0 [(0, .ref x0), (1, .int x1)] [] := by
  unfold f_c_X5_seasons at hf
  refine xr_iconst (pc := 0) dX5_seasons_0 xci_0 ?_
  refine xr_istore_n (pc := 1) (loc' := [(2, .int 0), (0, .ref x0), (1, .int x1)]) dX5_seasons_1 rfl (by decide) rfl ?_
  refine xV_sub [1, 2, 0] rfl ?_
  obtain ⟨b3, hb3, hf⟩ := xo_bind hf
  refine itr_rule (P := fun s_ : Int32 × CC => xV (wC D P) K mX5_seasons (xQ (wC D P) K Z) (g, s_.2) 2 [(0, .ref x0), (1, .int x1), (2, .int s_.1)] []) (fun s_ o_ hB_ hc_ he_ => ok_Bc_X5_seasons_2 hB_ hc_ (fun e_ h_ => ?_)) 4096 _ hb3
  · have e9_ := he_ _ h_
    rw [e9_]
    refine xr_aload_n (pc := 18) 0 dX5_seasons_18 rfl rfl ?_
    rw [kr _ (Option.some.inj hf).symm]
    exact xr_aret (pc := 19) dX5_seasons_19 rfl (Or.inl ⟨_, rfl⟩)
theorem met_f_c_X5_seasons (l : Launch) {D : CD} {P : CP} {g : CG} {x0 : Nat} {x1 : Int32} {τ : CC} {o_ : (Nat × CC)} (hf : f_c_X5_seasons g x0 x1 τ = some o_) : xMet (wC D P) l yX5_seasons (ws_ yX5_seasons cX5_seasons 3 (some (.object "BentRiver$State"))) 82 4920 (grc g) (grs g) [.ref x0, .int x1] (g, τ) (some (.ref o_.1), (g, o_.2)) := 
  xMet_of (by decide) (Nat.le_of_ble_eq_true rfl) KC_moved RPC_of (fun K _ _ _ => ok_f_c_X5_seasons hf (fun _ h => by rw [h]))
theorem hd_f_c_X0_isAhead : yX0_isAhead.cls ≠ "java/lang/invoke/MethodHandle" ∧ yX0_isAhead.cls ≠ "java/lang/invoke/VarHandle" ∧ (parseMethodDescriptor yX0_isAhead.desc).map (fun d => d.parameters.length) = some 3 := by decide +kernel
theorem call_f_c_X0_isAhead_X0_289 {D : CD} {P : CP} {K : xK} {M : xM} {Q : State → Prop} {g : CG} {c : CC} {x0 : Nat} {x1 : Int32} {x2 : Int32} {x3 : Int32} {pc : Nat} {loc : List (Nat × Value)} {st : List Value} {r : Int32} {c1 : CC} (hf : f_c_X0_isAhead g x0 x1 x2 x3 c = some (r, c1)) (hr : gK g x0 = 1) (ho : M.2.2.1 = RX0) (hfr : 2 ≤ M.2.2.2.1) (hlo : 83 ≤ M.2.2.2.2.1) (hcat : (st.map fun v => v.category).sum ≤ 8) (d : decode M.1 pc = .ok (.invokevirtual 289, 3)) (k : xV (wC D P) K M Q (g, c1) (pc + 3) loc (.int r :: st)) : xV (wC D P) K M Q (g, c) pc loc (.int x3 :: .int x2 :: .int x1 :: .ref x0 :: st) :=
  yc_callV (As := [.int x1, .int x2, .int x3]) (rest := st) (met_f_c_X0_isAhead K.2.1 hf) (lw_V q1474 q1476 qs43 q174 q1477) ⟨rfl, hd_f_c_X0_isAhead⟩ ho hfr hlo rfl hr (by decide) (by decide) rfl rfl hcat d k
theorem hd_f_c_X5_copy : yX5_copy.cls ≠ "java/lang/invoke/MethodHandle" ∧ yX5_copy.cls ≠ "java/lang/invoke/VarHandle" ∧ (parseMethodDescriptor yX5_copy.desc).map (fun d => d.parameters.length) = some 1 := by decide +kernel
theorem call_f_c_X5_copy_X0_292 {D : CD} {P : CP} {K : xK} {M : xM} {Q : State → Prop} {g : CG} {c : CC} {x0 : Nat} {x1 : Nat} {pc : Nat} {loc : List (Nat × Value)} {st : List Value} {r : Nat} {c1 : CC} (hf : f_c_X5_copy g x0 x1 c = some (r, c1)) (hr : gK g x0 = 6) (ho : M.2.2.1 = RX0) (hfr : 1 ≤ M.2.2.2.1) (hlo : 23 ≤ M.2.2.2.2.1) (hcat : (st.map fun v => v.category).sum ≤ 8) (d : decode M.1 pc = .ok (.invokevirtual 292, 3)) (k : xV (wC D P) K M Q (g, c1) (pc + 3) loc (.ref r :: st)) : xV (wC D P) K M Q (g, c) pc loc (.ref x1 :: .ref x0 :: st) :=
  yc_callV (As := [.ref x1]) (rest := st) (met_f_c_X5_copy K.2.1 hf) (lw_V q1482 q1483 q1484 q185 q1485) ⟨rfl, hd_f_c_X5_copy⟩ ho hfr hlo rfl hr (by decide) (by decide) rfl rfl hcat d k
theorem hd_f_c_X5_seasons : yX5_seasons.cls ≠ "java/lang/invoke/MethodHandle" ∧ yX5_seasons.cls ≠ "java/lang/invoke/VarHandle" ∧ (parseMethodDescriptor yX5_seasons.desc).map (fun d => d.parameters.length) = some 1 := by decide +kernel
theorem call_f_c_X5_seasons_X0_296 {D : CD} {P : CP} {K : xK} {M : xM} {Q : State → Prop} {g : CG} {c : CC} {x0 : Nat} {x1 : Int32} {pc : Nat} {loc : List (Nat × Value)} {st : List Value} {r : Nat} {c1 : CC} (hf : f_c_X5_seasons g x0 x1 c = some (r, c1)) (hr : gK g x0 = 6) (ho : M.2.2.1 = RX0) (hfr : 83 ≤ M.2.2.2.1) (hlo : 4942 ≤ M.2.2.2.2.1) (hcat : (st.map fun v => v.category).sum ≤ 8) (d : decode M.1 pc = .ok (.invokevirtual 296, 3)) (k : xV (wC D P) K M Q (g, c1) (pc + 3) loc (.ref r :: st)) : xV (wC D P) K M Q (g, c) pc loc (.int x1 :: .ref x0 :: st) :=
  yc_callV (As := [.int x1]) (rest := st) (met_f_c_X5_seasons K.2.1 hf) (lw_V q1486 q1487 q1488 q185 q1489) ⟨rfl, hd_f_c_X5_seasons⟩ ho hfr hlo rfl hr (by decide) (by decide) rfl rfl hcat d k
abbrev mX0_later : xM := (cX0_later, 3, RX0, 83, 4980, (some .int), "later")
def Jc_X0_later_42 (g : CG) (τ : CC) : Option (Int32 × CC) :=
  some (((-1), τ))
theorem ok_Jc_X0_later_42 {D : CD} {P : CP} {K : xK} {g : CG} {Z : Option Value × CS} {τ : CC} {o_ : (Int32 × CC)} (hf : Jc_X0_later_42 g τ = some o_) (kr : ∀ r_ : (Int32 × CC), o_ = r_ → Z = (some (.int r_.1), (g, r_.2))) : xV (wC D P) K mX0_later (xQ (wC D P) K Z) (g, τ) 42 [] [] := by
  unfold Jc_X0_later_42 at hf
  refine xr_iconst (pc := 42) dX0_later_42 xci_m1 ?_
  rw [kr _ (Option.some.inj hf).symm]
  exact xr_iret (pc := 43) dX0_later_43 rfl
def f_c_X0_later (g : CG) (x0 : Nat) (x1 : Int32) (x2 : Int32) (τ : CC) : Option (Int32 × CC) :=
  if gT g x0 = 1 then
  xbd (f_c_X0_isColumn g x0 x1 τ) fun r2 τ2 =>
  if r2 = 0 then
  Jc_X0_later_42 g τ2
  else
  xbd (f_c_X0_isAhead g x0 x2 0 60 τ2) fun r3 τ3 =>
  if r3 = 0 then
  Jc_X0_later_42 g τ3
  else
  (gR g 110 x0).bind fun b4 =>
  (gR g 109 x0).bind fun b5 =>
  if gT g b4 = 6 then
  xbd (f_c_X5_copy g b4 b5 τ3) fun r7 τ7 =>
  if gT g r7 = 6 then
  xbd (f_c_X5_seasons g r7 x2 τ7) fun r9 τ9 =>
  if gT g r9 = 6 then
  (gR g 603 r9).bind fun b11 =>
  if gT g b11 = 100 then
  if xin x1 (gN g b11) = true then
  some ((cA τ9 b11 x1.toNatClampNeg, τ9))
  else none
  else none
  else none
  else none
  else none
  else none
theorem ok_f_c_X0_later {D : CD} {P : CP} {K : xK} {g : CG} {Z : Option Value × CS} {x0 : Nat} {x1 : Int32} {x2 : Int32} {τ : CC} {o_ : (Int32 × CC)} (hf : f_c_X0_later g x0 x1 x2 τ = some o_) (kr : ∀ r_ : (Int32 × CC), o_ = r_ → Z = (some (.int r_.1), (g, r_.2))) : xV (wC D P) K mX0_later (xQ (wC D P) K Z) (g, τ) 0 [(0, .ref x0), (1, .int x1), (2, .int x2)] [] := by
  unfold f_c_X0_later at hf
  refine xr_aload_n (pc := 0) 0 dX0_later_0 rfl rfl ?_
  refine xr_iload_n (pc := 1) 1 dX0_later_1 rfl rfl ?_
  obtain ⟨ht1, hf⟩ := xo_if hf
  obtain ⟨r2, τ2, hτ2, hf⟩ := xo_bd hf
  refine call_f_c_X0_isColumn_X0_171 (pc := 2) hτ2 (gKo ht1 (by decide)) rfl (Nat.le_of_ble_eq_true rfl) (Nat.le_of_ble_eq_true rfl) (Nat.le_of_ble_eq_true rfl) dX0_later_2 ?_
  refine xr_if_eq (pc := 5) 42 dX0_later_5 (by decide) (fun c_ => ?_) (fun c_ => ?_)
  · have hf := xo_pos c_ hf
    refine xV_sub [] rfl ?_
    exact ok_Jc_X0_later_42 hf kr
  · have hf := xo_neg c_ hf
    refine xr_aload_n (pc := 8) 0 dX0_later_8 rfl rfl ?_
    refine xr_iload_n (pc := 9) 2 dX0_later_9 rfl rfl ?_
    refine xr_iconst (pc := 10) dX0_later_10 xci_0 ?_
    refine xr_bipush (pc := 11) dX0_later_11 xcb_60 ?_
    obtain ⟨r3, τ3, hτ3, hf⟩ := xo_bd hf
    refine call_f_c_X0_isAhead_X0_289 (pc := 13) hτ3 (gKo ht1 (by decide)) rfl (Nat.le_of_ble_eq_true rfl) (Nat.le_of_ble_eq_true rfl) (Nat.le_of_ble_eq_true rfl) dX0_later_13 ?_
    refine xr_if_eq (pc := 16) 42 dX0_later_16 (by decide) (fun c_ => ?_) (fun c_ => ?_)
    · have hf := xo_pos c_ hf
      refine xV_sub [] rfl ?_
      exact ok_Jc_X0_later_42 hf kr
    · have hf := xo_neg c_ hf
      refine xr_aload_n (pc := 19) 0 dX0_later_19 rfl rfl ?_
      obtain ⟨b4, hb4, hf⟩ := xo_bind hf
      refine yc_getFs (pc := 20) 1 10 110 (gKo ht1 (by decide)) (by decide) (by decide) (by decide) rfl rfl hb4 q496 (ys_eq rfl) rfl dX0_later_20 ?_
      refine xr_aload_n (pc := 23) 0 dX0_later_23 rfl rfl ?_
      obtain ⟨b5, hb5, hf⟩ := xo_bind hf
      refine yc_getFs (pc := 24) 1 9 109 (gKo ht1 (by decide)) (by decide) (by decide) (by decide) rfl rfl hb5 q495 (ys_eq rfl) rfl dX0_later_24 ?_
      obtain ⟨ht6, hf⟩ := xo_if hf
      obtain ⟨r7, τ7, hτ7, hf⟩ := xo_bd hf
      refine call_f_c_X5_copy_X0_292 (pc := 27) hτ7 (gKo ht6 (by decide)) rfl (Nat.le_of_ble_eq_true rfl) (Nat.le_of_ble_eq_true rfl) (Nat.le_of_ble_eq_true rfl) dX0_later_27 ?_
      refine xr_iload_n (pc := 30) 2 dX0_later_30 rfl rfl ?_
      obtain ⟨ht8, hf⟩ := xo_if hf
      obtain ⟨r9, τ9, hτ9, hf⟩ := xo_bd hf
      refine call_f_c_X5_seasons_X0_296 (pc := 31) hτ9 (gKo ht8 (by decide)) rfl (Nat.le_of_ble_eq_true rfl) (Nat.le_of_ble_eq_true rfl) (Nat.le_of_ble_eq_true rfl) dX0_later_31 ?_
      obtain ⟨ht10, hf⟩ := xo_if hf
      obtain ⟨b11, hb11, hf⟩ := xo_bind hf
      refine yc_getFsN (pc := 34) 6 3 603 (gKo ht10 (by decide)) (by decide) (by decide) (by decide) rfl rfl hb11 q441 (ys_eq rfl) rfl dX0_later_34 ?_
      refine xr_iload_n (pc := 37) 1 dX0_later_37 rfl rfl ?_
      obtain ⟨ht12, hf⟩ := xo_if hf
      obtain ⟨hi_, hf⟩ := xo_if hf
      refine yc_iald (pc := 38) (gKo ht12 (by decide)) hi_ dX0_later_38 ?_
      refine xr_goto (pc := 39) 43 dX0_later_39 (by decide) ?_
      rw [kr _ (Option.some.inj hf).symm]
      exact xr_iret (pc := 43) dX0_later_43 rfl
theorem met_f_c_X0_later (l : Launch) {D : CD} {P : CP} {g : CG} {x0 : Nat} {x1 : Int32} {x2 : Int32} {τ : CC} {o_ : (Int32 × CC)} (hf : f_c_X0_later g x0 x1 x2 τ = some o_) : xMet (wC D P) l yX0_later (ws_ yX0_later cX0_later 3 (some .int)) 83 4980 (grc g) (grs g) [.ref x0, .int x1, .int x2] (g, τ) (some (.int o_.1), (g, o_.2)) := 
  xMet_of (by decide) (Nat.le_of_ble_eq_true rfl) KC_moved RPC_of (fun K _ _ _ => ok_f_c_X0_later hf (fun _ h => by rw [h]))
abbrev mX0_sums : xM := (cX0_sums, 5, RX0, 83, 4980, (some .int), "sums")
def Bc_X0_sums_70 (g : CG) (x0 : Nat) (x3 : Int32) (x4 : Int32) (τ : CC) : Option ((Int32 × Int32 × CC) ⊕ ((Int32 × CC))) :=
  if gT g x0 = 1 then
  xbd (f_c_X0_lords g x0 τ) fun r11 τ11 =>
  if r11 ≤ x4 then
  some (.inr (x3, τ11))
  else
  (gR g 110 x0).bind fun b12 =>
  if gT g b12 = 6 then
  (gR g 604 b12).bind fun b14 =>
  if gT g b14 = 100 then
  if xin x4 (gN g b14) = true then
  some (.inl (x3 + (cA τ11 b14 x4.toNatClampNeg), x4 + 1, τ11))
  else none
  else none
  else none
  else none
theorem ok_Bc_X0_sums_70 {D : CD} {P : CP} {K : xK} {g : CG} {Z : Option Value × CS} {x0 : Nat} {x3 : Int32} {x4 : Int32} {τ : CC} {o_ : ((Int32 × Int32 × CC) ⊕ ((Int32 × CC)))} (hf : Bc_X0_sums_70 g x0 x3 x4 τ = some o_) (kc : ∀ s_ : Int32 × Int32 × CC, o_ = .inl s_ → xV (wC D P) K mX0_sums (xQ (wC D P) K Z) (g, s_.2.2) 70 [(0, .ref x0), (3, .int s_.1), (4, .int s_.2.1)] []) (ke0 : ∀ e_ : Int32 × CC, o_ = .inr e_ → xV (wC D P) K mX0_sums (xQ (wC D P) K Z) (g, e_.2) 98 [(3, .int e_.1)] []) : xV (wC D P) K mX0_sums (xQ (wC D P) K Z) (g, τ) 70 [(0, .ref x0), (3, .int x3), (4, .int x4)] [] := by
  unfold Bc_X0_sums_70 at hf
  refine xr_iload (pc := 70) 2 dX0_sums_70 rfl ?_
  refine xr_aload_n (pc := 72) 0 dX0_sums_72 rfl rfl ?_
  obtain ⟨ht10, hf⟩ := xo_if hf
  obtain ⟨r11, τ11, hτ11, hf⟩ := xo_bd hf
  refine call_f_c_X0_lords_X0_180 (pc := 73) hτ11 (gKo ht10 (by decide)) rfl (Nat.le_of_ble_eq_true rfl) (Nat.le_of_ble_eq_true rfl) (Nat.le_of_ble_eq_true rfl) dX0_sums_73 ?_
  refine xr_icmp_ge (pc := 76) 98 dX0_sums_76 (by decide) (fun c_ => ?_) (fun c_ => ?_)
  · have hf := xo_pos c_ hf
    refine xV_sub [1] rfl ?_
    exact ke0 _ (Option.some.inj hf).symm
  · have hf := xo_neg c_ hf
    refine xr_iload_n (pc := 79) 1 dX0_sums_79 rfl rfl ?_
    refine xr_aload_n (pc := 80) 0 dX0_sums_80 rfl rfl ?_
    obtain ⟨b12, hb12, hf⟩ := xo_bind hf
    refine yc_getFs (pc := 81) 1 10 110 (gKo ht10 (by decide)) (by decide) (by decide) (by decide) rfl rfl hb12 q496 (ys_eq rfl) rfl dX0_sums_81 ?_
    obtain ⟨ht13, hf⟩ := xo_if hf
    obtain ⟨b14, hb14, hf⟩ := xo_bind hf
    refine yc_getFsN (pc := 84) 6 4 604 (gKo ht13 (by decide)) (by decide) (by decide) (by decide) rfl rfl hb14 q443 (ys_eq rfl) rfl dX0_sums_84 ?_
    refine xr_iload (pc := 87) 2 dX0_sums_87 rfl ?_
    obtain ⟨ht15, hf⟩ := xo_if hf
    obtain ⟨hi_, hf⟩ := xo_if hf
    refine yc_iald (pc := 89) (gKo ht15 (by decide)) hi_ dX0_sums_89 ?_
    refine xr_iadd (pc := 90) dX0_sums_90 ?_
    refine xr_istore_n (pc := 91) (loc' := [(3, .int (x3 + (cA τ11 b14 x4.toNatClampNeg))), (0, .ref x0), (4, .int x4)]) dX0_sums_91 rfl (by decide) rfl ?_
    refine xr_iinc (pc := 92) (loc' := [(4, .int (x4 + 1)), (3, .int (x3 + (cA τ11 b14 x4.toNatClampNeg))), (0, .ref x0)]) 2 dX0_sums_92 rfl xci_1 (by decide) rfl ?_
    refine xr_goto (pc := 95) 70 dX0_sums_95 (by decide) ?_
    refine xV_sub [2, 1, 0] rfl ?_
    exact kc _ (Option.some.inj hf).symm
def f_c_X0_sums (g : CG) (x0 : Nat) (x1 : Int32) (x2 : Int32) (τ : CC) : Option (Int32 × CC) :=
  if gT g x0 = 1 then
  xbd (f_c_X0_isAhead g x0 x1 0 60 τ) fun r2 τ2 =>
  if r2 = 0 then
  some (((-1), τ2))
  else
  xbd (f_c_X0_is g x2 0 2 τ2) fun r3 τ3 =>
  if r3 = 0 then
  some (((-1), τ3))
  else
  (gR g 110 x0).bind fun b4 =>
  (gR g 109 x0).bind fun b5 =>
  if gT g b4 = 6 then
  xbd (f_c_X5_copy g b4 b5 τ3) fun r7 τ7 =>
  if gT g r7 = 6 then
  xbd (f_c_X5_seasons g r7 x1 τ7) fun r9 τ9 =>
  if (2 : Int32) ≤ x2 then
  (itr (fun s_ : Int32 × Int32 × CC => Bc_X0_sums_70 g x0 s_.1 s_.2.1 s_.2.2) 4096 (0, 0, τ9)).bind fun b16 =>
  some ((b16.1, b16.2))
  else
  if x2 = 0 then
  xbd (f_c_X5_bends g b4 τ9) fun r17 τ17 =>
  some ((r17, τ17))
  else
  some ((cI τ9 601 b4, τ9))
  else none
  else none
  else none
theorem ok_f_c_X0_sums {D : CD} {P : CP} {K : xK} {g : CG} {Z : Option Value × CS} {x0 : Nat} {x1 : Int32} {x2 : Int32} {τ : CC} {o_ : (Int32 × CC)} (hf : f_c_X0_sums g x0 x1 x2 τ = some o_) (kr : ∀ r_ : (Int32 × CC), o_ = r_ → Z = (some (.int r_.1), (g, r_.2))) : xV (wC D P) K mX0_sums (xQ (wC D P) K Z) (g, τ) 0 [(0, .ref x0), (1, .int x1), (2, .int x2)] [] := by
  unfold f_c_X0_sums at hf
  refine xr_aload_n (pc := 0) 0 dX0_sums_0 rfl rfl ?_
  refine xr_iload_n (pc := 1) 1 dX0_sums_1 rfl rfl ?_
  refine xr_iconst (pc := 2) dX0_sums_2 xci_0 ?_
  refine xr_bipush (pc := 3) dX0_sums_3 xcb_60 ?_
  obtain ⟨ht1, hf⟩ := xo_if hf
  obtain ⟨r2, τ2, hτ2, hf⟩ := xo_bd hf
  refine call_f_c_X0_isAhead_X0_289 (pc := 5) hτ2 (gKo ht1 (by decide)) rfl (Nat.le_of_ble_eq_true rfl) (Nat.le_of_ble_eq_true rfl) (Nat.le_of_ble_eq_true rfl) dX0_sums_5 ?_
  refine xr_if_eq (pc := 8) 20 dX0_sums_8 (by decide) (fun c_ => ?_) (fun c_ => ?_)
  · have hf := xo_pos c_ hf
    refine xr_iconst (pc := 20) dX0_sums_20 xci_m1 ?_
    rw [kr _ (Option.some.inj hf).symm]
    exact xr_iret (pc := 21) dX0_sums_21 rfl
  · have hf := xo_neg c_ hf
    refine xr_iload_n (pc := 11) 2 dX0_sums_11 rfl rfl ?_
    refine xr_iconst (pc := 12) dX0_sums_12 xci_0 ?_
    refine xr_iconst (pc := 13) dX0_sums_13 xci_2 ?_
    obtain ⟨r3, τ3, hτ3, hf⟩ := xo_bd hf
    refine call_f_c_X0_is_X0_176 (pc := 14) hτ3 rfl (Nat.le_of_ble_eq_true rfl) (Nat.le_of_ble_eq_true rfl) (Nat.le_of_ble_eq_true rfl) dX0_sums_14 ?_
    refine xr_if_ne (pc := 17) 22 dX0_sums_17 (by decide) (fun c_ => ?_) (fun c_ => ?_)
    · have hf := xo_pos c_ hf
      refine xr_iconst (pc := 20) dX0_sums_20 xci_m1 ?_
      rw [kr _ (Option.some.inj hf).symm]
      exact xr_iret (pc := 21) dX0_sums_21 rfl
    · have hf := xo_neg c_ hf
      refine xr_aload_n (pc := 22) 0 dX0_sums_22 rfl rfl ?_
      obtain ⟨b4, hb4, hf⟩ := xo_bind hf
      refine yc_getFs (pc := 23) 1 10 110 (gKo ht1 (by decide)) (by decide) (by decide) (by decide) rfl rfl hb4 q496 (ys_eq rfl) rfl dX0_sums_23 ?_
      refine xr_aload_n (pc := 26) 0 dX0_sums_26 rfl rfl ?_
      obtain ⟨b5, hb5, hf⟩ := xo_bind hf
      refine yc_getFs (pc := 27) 1 9 109 (gKo ht1 (by decide)) (by decide) (by decide) (by decide) rfl rfl hb5 q495 (ys_eq rfl) rfl dX0_sums_27 ?_
      obtain ⟨ht6, hf⟩ := xo_if hf
      obtain ⟨r7, τ7, hτ7, hf⟩ := xo_bd hf
      refine call_f_c_X5_copy_X0_292 (pc := 30) hτ7 (gKo ht6 (by decide)) rfl (Nat.le_of_ble_eq_true rfl) (Nat.le_of_ble_eq_true rfl) (Nat.le_of_ble_eq_true rfl) dX0_sums_30 ?_
      refine xr_iload_n (pc := 33) 1 dX0_sums_33 rfl rfl ?_
      obtain ⟨ht8, hf⟩ := xo_if hf
      obtain ⟨r9, τ9, hτ9, hf⟩ := xo_bd hf
      refine call_f_c_X5_seasons_X0_296 (pc := 34) hτ9 (gKo ht8 (by decide)) rfl (Nat.le_of_ble_eq_true rfl) (Nat.le_of_ble_eq_true rfl) (Nat.le_of_ble_eq_true rfl) dX0_sums_34 ?_
      refine xr_pop (pc := 37) dX0_sums_37 rfl ?_
      refine xr_iload_n (pc := 38) 2 dX0_sums_38 rfl rfl ?_
      refine xr_iconst (pc := 39) dX0_sums_39 xci_2 ?_
      refine xr_icmp_ge (pc := 40) 65 dX0_sums_40 (by decide) (fun c_ => ?_) (fun c_ => ?_)
      · have hf := xo_pos c_ hf
        refine xr_iconst (pc := 65) dX0_sums_65 xci_0 ?_
        refine xr_istore_n (pc := 66) (loc' := [(3, .int 0), (0, .ref x0), (1, .int x1), (2, .int x2)]) dX0_sums_66 rfl (by decide) rfl ?_
        refine xr_iconst (pc := 67) dX0_sums_67 xci_0 ?_
        refine xr_istore (pc := 68) (loc' := [(4, .int 0), (3, .int 0), (0, .ref x0), (1, .int x1), (2, .int x2)]) dX0_sums_68 (by decide) rfl ?_
        refine xV_sub [2, 1, 0] rfl ?_
        obtain ⟨b16, hb16, hf⟩ := xo_bind hf
        refine itr_rule (P := fun s_ : Int32 × Int32 × CC => xV (wC D P) K mX0_sums (xQ (wC D P) K Z) (g, s_.2.2) 70 [(0, .ref x0), (3, .int s_.1), (4, .int s_.2.1)] []) (fun s_ o_ hB_ hc_ he_ => ok_Bc_X0_sums_70 hB_ hc_ (fun e_ h_ => ?_)) 4096 _ hb16
        · have e9_ := he_ _ h_
          rw [e9_]
          refine xr_iload_n (pc := 98) 0 dX0_sums_98 rfl rfl ?_
          rw [kr _ (Option.some.inj hf).symm]
          exact xr_iret (pc := 99) dX0_sums_99 rfl
      · have hf := xo_neg c_ hf
        refine xr_iload_n (pc := 43) 2 dX0_sums_43 rfl rfl ?_
        refine xr_if_ne (pc := 44) 57 dX0_sums_44 (by decide) (fun c_ => ?_) (fun c_ => ?_)
        · have hf := xo_pos c_ hf
          refine xr_aload_n (pc := 47) 0 dX0_sums_47 rfl rfl ?_
          refine yc_getFs (pc := 48) 1 10 110 (gKo ht1 (by decide)) (by decide) (by decide) (by decide) rfl rfl hb4 q496 (ys_eq rfl) rfl dX0_sums_48 ?_
          obtain ⟨r17, τ17, hτ17, hf⟩ := xo_bd hf
          refine call_f_c_X5_bends_X0_215 (pc := 51) hτ17 (gKo ht6 (by decide)) rfl (Nat.le_of_ble_eq_true rfl) (Nat.le_of_ble_eq_true rfl) (Nat.le_of_ble_eq_true rfl) dX0_sums_51 ?_
          refine xr_goto (pc := 54) 64 dX0_sums_54 (by decide) ?_
          rw [kr _ (Option.some.inj hf).symm]
          exact xr_iret (pc := 64) dX0_sums_64 rfl
        · have hf := xo_neg c_ hf
          refine xr_aload_n (pc := 57) 0 dX0_sums_57 rfl rfl ?_
          refine yc_getFs (pc := 58) 1 10 110 (gKo ht1 (by decide)) (by decide) (by decide) (by decide) rfl rfl hb4 q496 (ys_eq rfl) rfl dX0_sums_58 ?_
          refine yc_getIN (pc := 61) 6 1 601 (gKo ht6 (by decide)) (by decide) (by decide) (by decide) rfl rfl q437 (ys_eq rfl) rfl dX0_sums_61 ?_
          rw [kr _ (Option.some.inj hf).symm]
          exact xr_iret (pc := 64) dX0_sums_64 rfl
theorem met_f_c_X0_sums (l : Launch) {D : CD} {P : CP} {g : CG} {x0 : Nat} {x1 : Int32} {x2 : Int32} {τ : CC} {o_ : (Int32 × CC)} (hf : f_c_X0_sums g x0 x1 x2 τ = some o_) : xMet (wC D P) l yX0_sums (ws_ yX0_sums cX0_sums 5 (some .int)) 83 4980 (grc g) (grs g) [.ref x0, .int x1, .int x2] (g, τ) (some (.int o_.1), (g, o_.2)) := 
  xMet_of (by decide) (Nat.le_of_ble_eq_true rfl) KC_moved RPC_of (fun K _ _ _ => ok_f_c_X0_sums hf (fun _ h => by rw [h]))
theorem call_f_c_X5_passes_X0_300 {D : CD} {P : CP} {K : xK} {M : xM} {Q : State → Prop} {g : CG} {c : CC} {x0 : Nat} {pc : Nat} {loc : List (Nat × Value)} {st : List Value} {r : Int32} {c1 : CC} (hf : f_c_X5_passes g x0 c = some (r, c1)) (hr : gK g x0 = 6) (ho : M.2.2.1 = RX0) (hfr : 82 ≤ M.2.2.2.1) (hlo : 4882 ≤ M.2.2.2.2.1) (hcat : (st.map fun v => v.category).sum ≤ 8) (d : decode M.1 pc = .ok (.invokevirtual 300, 3)) (k : xV (wC D P) K M Q (g, c1) (pc + 3) loc (.int r :: st)) : xV (wC D P) K M Q (g, c) pc loc (.ref x0 :: st) :=
  yc_callV (As := []) (rest := st) (met_f_c_X5_passes K.2.1 hf) (lw_V q1523 q1491 q1492 q185 q1493) ⟨rfl, hd_f_c_X5_passes⟩ ho hfr hlo rfl hr (by decide) (by decide) rfl rfl hcat d k
abbrev mX0_straight : xM := (cX0_straight, 2, RX0, 82, 4920, (some .int), "straight")
def Bc_X0_straight_14 (g : CG) (x0 : Nat) (x1 : Int32) (τ : CC) : Option ((Int32 × CC) ⊕ ((CC) ⊕ ((Int32 × CC)))) :=
  if gT g x0 = 1 then
  xbd (f_c_X0_isAhead g x0 x1 0 60 τ) fun r7 τ7 =>
  if r7 = 0 then
  some (.inr (.inl τ7))
  else
  (gR g 110 x0).bind fun b8 =>
  if gT g b8 = 6 then
  xbd (f_c_X5_bends g b8 τ7) fun r10 τ10 =>
  if r10 = 0 then
  some (.inr (.inr (x1, τ10)))
  else
  xbd (f_c_X5_passes g b8 τ10) fun r11 τ11 =>
  some (.inl (x1 + 1, τ11))
  else none
  else none
theorem ok_Bc_X0_straight_14 {D : CD} {P : CP} {K : xK} {g : CG} {Z : Option Value × CS} {x0 : Nat} {x1 : Int32} {τ : CC} {o_ : ((Int32 × CC) ⊕ ((CC) ⊕ ((Int32 × CC))))} (hf : Bc_X0_straight_14 g x0 x1 τ = some o_) (kc : ∀ s_ : Int32 × CC, o_ = .inl s_ → xV (wC D P) K mX0_straight (xQ (wC D P) K Z) (g, s_.2) 14 [(0, .ref x0), (1, .int s_.1)] []) (ke0 : ∀ e_ : CC, o_ = .inr (.inl e_) → xV (wC D P) K mX0_straight (xQ (wC D P) K Z) (g, e_) 51 [] []) (kr : ∀ r_ : (Int32 × CC), o_ = .inr (.inr r_) → Z = (some (.int r_.1), (g, r_.2))) : xV (wC D P) K mX0_straight (xQ (wC D P) K Z) (g, τ) 14 [(0, .ref x0), (1, .int x1)] [] := by
  unfold Bc_X0_straight_14 at hf
  refine xr_aload_n (pc := 14) 0 dX0_straight_14 rfl rfl ?_
  refine xr_iload_n (pc := 15) 1 dX0_straight_15 rfl rfl ?_
  refine xr_iconst (pc := 16) dX0_straight_16 xci_0 ?_
  refine xr_bipush (pc := 17) dX0_straight_17 xcb_60 ?_
  obtain ⟨ht6, hf⟩ := xo_if hf
  obtain ⟨r7, τ7, hτ7, hf⟩ := xo_bd hf
  refine call_f_c_X0_isAhead_X0_289 (pc := 19) hτ7 (gKo ht6 (by decide)) rfl (Nat.le_of_ble_eq_true rfl) (Nat.le_of_ble_eq_true rfl) (Nat.le_of_ble_eq_true rfl) dX0_straight_19 ?_
  refine xr_if_eq (pc := 22) 51 dX0_straight_22 (by decide) (fun c_ => ?_) (fun c_ => ?_)
  · have hf := xo_pos c_ hf
    refine xV_sub [] rfl ?_
    exact ke0 _ (Option.some.inj hf).symm
  · have hf := xo_neg c_ hf
    refine xr_aload_n (pc := 25) 0 dX0_straight_25 rfl rfl ?_
    obtain ⟨b8, hb8, hf⟩ := xo_bind hf
    refine yc_getFs (pc := 26) 1 10 110 (gKo ht6 (by decide)) (by decide) (by decide) (by decide) rfl rfl hb8 q496 (ys_eq rfl) rfl dX0_straight_26 ?_
    obtain ⟨ht9, hf⟩ := xo_if hf
    obtain ⟨r10, τ10, hτ10, hf⟩ := xo_bd hf
    refine call_f_c_X5_bends_X0_215 (pc := 29) hτ10 (gKo ht9 (by decide)) rfl (Nat.le_of_ble_eq_true rfl) (Nat.le_of_ble_eq_true rfl) (Nat.le_of_ble_eq_true rfl) dX0_straight_29 ?_
    refine xr_if_ne (pc := 32) 37 dX0_straight_32 (by decide) (fun c_ => ?_) (fun c_ => ?_)
    · have hf := xo_pos c_ hf
      refine xr_iload_n (pc := 35) 1 dX0_straight_35 rfl rfl ?_
      rw [kr _ (Option.some.inj hf).symm]
      exact xr_iret (pc := 36) dX0_straight_36 rfl
    · have hf := xo_neg c_ hf
      refine xr_aload_n (pc := 37) 0 dX0_straight_37 rfl rfl ?_
      refine yc_getFs (pc := 38) 1 10 110 (gKo ht6 (by decide)) (by decide) (by decide) (by decide) rfl rfl hb8 q496 (ys_eq rfl) rfl dX0_straight_38 ?_
      obtain ⟨r11, τ11, hτ11, hf⟩ := xo_bd hf
      refine call_f_c_X5_passes_X0_300 (pc := 41) hτ11 (gKo ht9 (by decide)) rfl (Nat.le_of_ble_eq_true rfl) (Nat.le_of_ble_eq_true rfl) (Nat.le_of_ble_eq_true rfl) dX0_straight_41 ?_
      refine xr_pop (pc := 44) dX0_straight_44 rfl ?_
      refine xr_iinc (pc := 45) (loc' := [(1, .int (x1 + 1)), (0, .ref x0)]) 1 dX0_straight_45 rfl xci_1 (by decide) rfl ?_
      refine xr_goto (pc := 48) 14 dX0_straight_48 (by decide) ?_
      refine xV_sub [1, 0] rfl ?_
      exact kc _ (Option.some.inj hf).symm
def f_c_X0_straight (g : CG) (x0 : Nat) (τ : CC) : Option (Int32 × CC) :=
  if gT g x0 = 1 then
  (gR g 110 x0).bind fun b2 =>
  (gR g 109 x0).bind fun b3 =>
  if gT g b2 = 6 then
  xbd (f_c_X5_copy g b2 b3 τ) fun r5 τ5 =>
  (itr (fun s_ : Int32 × CC => Bc_X0_straight_14 g x0 s_.1 s_.2) 4096 (0, τ5)).bind fun b12 =>
  (Sum.elim (fun e13 => some (((-1), e13))) (fun r_ => some r_)) b12
  else none
  else none
theorem ok_f_c_X0_straight {D : CD} {P : CP} {K : xK} {g : CG} {Z : Option Value × CS} {x0 : Nat} {τ : CC} {o_ : (Int32 × CC)} (hf : f_c_X0_straight g x0 τ = some o_) (kr : ∀ r_ : (Int32 × CC), o_ = r_ → Z = (some (.int r_.1), (g, r_.2))) : xV (wC D P) K mX0_straight (xQ (wC D P) K Z) (g, τ) 0 [(0, .ref x0)] [] := by
  unfold f_c_X0_straight at hf
  refine xr_aload_n (pc := 0) 0 dX0_straight_0 rfl rfl ?_
  obtain ⟨ht1, hf⟩ := xo_if hf
  obtain ⟨b2, hb2, hf⟩ := xo_bind hf
  refine yc_getFs (pc := 1) 1 10 110 (gKo ht1 (by decide)) (by decide) (by decide) (by decide) rfl rfl hb2 q496 (ys_eq rfl) rfl dX0_straight_1 ?_
  refine xr_aload_n (pc := 4) 0 dX0_straight_4 rfl rfl ?_
  obtain ⟨b3, hb3, hf⟩ := xo_bind hf
  refine yc_getFs (pc := 5) 1 9 109 (gKo ht1 (by decide)) (by decide) (by decide) (by decide) rfl rfl hb3 q495 (ys_eq rfl) rfl dX0_straight_5 ?_
  obtain ⟨ht4, hf⟩ := xo_if hf
  obtain ⟨r5, τ5, hτ5, hf⟩ := xo_bd hf
  refine call_f_c_X5_copy_X0_292 (pc := 8) hτ5 (gKo ht4 (by decide)) rfl (Nat.le_of_ble_eq_true rfl) (Nat.le_of_ble_eq_true rfl) (Nat.le_of_ble_eq_true rfl) dX0_straight_8 ?_
  refine xr_pop (pc := 11) dX0_straight_11 rfl ?_
  refine xr_iconst (pc := 12) dX0_straight_12 xci_0 ?_
  refine xr_istore_n (pc := 13) (loc' := [(1, .int 0), (0, .ref x0)]) dX0_straight_13 rfl (by decide) rfl ?_
  refine xV_sub [1, 0] rfl ?_
  obtain ⟨b12, hb12, hf⟩ := xo_bind hf
  refine itr_rule (P := fun s_ : Int32 × CC => xV (wC D P) K mX0_straight (xQ (wC D P) K Z) (g, s_.2) 14 [(0, .ref x0), (1, .int s_.1)] []) (fun s_ o_ hB_ hc_ he_ => ok_Bc_X0_straight_14 hB_ hc_ (fun e13 h_ => ?_) (fun r_ h_ => ?_)) 4096 _ hb12
  · have e9_ := he_ _ h_
    subst e9_
    have hf := xo_inl hf
    refine xr_iconst (pc := 51) dX0_straight_51 xci_m1 ?_
    rw [kr _ (Option.some.inj hf).symm]
    exact xr_iret (pc := 52) dX0_straight_52 rfl
  · have e9_ := he_ _ h_
    subst e9_
    have hf := xo_inr hf
    exact kr _ (Option.some.inj hf).symm
theorem met_f_c_X0_straight (l : Launch) {D : CD} {P : CP} {g : CG} {x0 : Nat} {τ : CC} {o_ : (Int32 × CC)} (hf : f_c_X0_straight g x0 τ = some o_) : xMet (wC D P) l yX0_straight (ws_ yX0_straight cX0_straight 2 (some .int)) 82 4920 (grc g) (grs g) [.ref x0] (g, τ) (some (.int o_.1), (g, o_.2)) := 
  xMet_of (by decide) (Nat.le_of_ble_eq_true rfl) KC_moved RPC_of (fun K _ _ _ => ok_f_c_X0_straight hf (fun _ h => by rw [h]))
abbrev mX0_places : xM := (cX0_places, 1, RX0, 1, 60, (some .int), "places")
def f_c_X0_places (g : CG) (x0 : Nat) (τ : CC) : Option (Int32 × CC) :=
  if gT g x0 = 1 then
  xbd (f_c_X0_columns g x0 τ) fun r2 τ2 =>
  (cR τ2 100 x0).bind fun b3 =>
  if gT g b3 = 2 then
  some ((r2 * (cI τ2 202 b3), τ2))
  else none
  else none
theorem ok_f_c_X0_places {D : CD} {P : CP} {K : xK} {g : CG} {Z : Option Value × CS} {x0 : Nat} {τ : CC} {o_ : (Int32 × CC)} (hf : f_c_X0_places g x0 τ = some o_) (kr : ∀ r_ : (Int32 × CC), o_ = r_ → Z = (some (.int r_.1), (g, r_.2))) : xV (wC D P) K mX0_places (xQ (wC D P) K Z) (g, τ) 0 [(0, .ref x0)] [] := by
  unfold f_c_X0_places at hf
  refine xr_aload_n (pc := 0) 0 dX0_places_0 rfl rfl ?_
  obtain ⟨ht1, hf⟩ := xo_if hf
  obtain ⟨r2, τ2, hτ2, hf⟩ := xo_bd hf
  refine call_f_c_X0_columns_X0_169 (pc := 1) hτ2 (gKo ht1 (by decide)) rfl (Nat.le_of_ble_eq_true rfl) (Nat.le_of_ble_eq_true rfl) (Nat.le_of_ble_eq_true rfl) dX0_places_1 ?_
  refine xr_aload_n (pc := 4) 0 dX0_places_4 rfl rfl ?_
  obtain ⟨b3, hb3, hf⟩ := xo_bind hf
  refine yc_getRs (pc := 5) 1 0 100 (gKo ht1 (by decide)) (by decide) (by decide) (by decide) rfl rfl hb3 q484 (ys_eq rfl) rfl dX0_places_5 ?_
  obtain ⟨ht4, hf⟩ := xo_if hf
  refine yc_getIN (pc := 8) 2 2 202 (gKo ht4 (by decide)) (by decide) (by decide) (by decide) rfl rfl q263 (ys_eq rfl) rfl dX0_places_8 ?_
  refine xr_imul (pc := 11) dX0_places_11 ?_
  rw [kr _ (Option.some.inj hf).symm]
  exact xr_iret (pc := 12) dX0_places_12 rfl
theorem met_f_c_X0_places (l : Launch) {D : CD} {P : CP} {g : CG} {x0 : Nat} {τ : CC} {o_ : (Int32 × CC)} (hf : f_c_X0_places g x0 τ = some o_) : xMet (wC D P) l yX0_places (ws_ yX0_places cX0_places 1 (some .int)) 1 60 (grc g) (grs g) [.ref x0] (g, τ) (some (.int o_.1), (g, o_.2)) := 
  xMet_of (by decide) (Nat.le_of_ble_eq_true rfl) KC_moved RPC_of (fun K _ _ _ => ok_f_c_X0_places hf (fun _ h => by rw [h]))
abbrev mX0_plants : xM := (cX0_plants, 3, RX0, 0, 0, none, "plants")
def f_c_X0_plants (g : CG) (x0 : Nat) (x1 : Nat) (x2 : Int32) (τ : CC) : Option CC :=
  if gT g x1 = 6 then
  (gR g 606 x1).bind fun b2 =>
  if gT g x0 = 1 then
  (cR τ 100 x0).bind fun b4 =>
  if gT g b4 = 2 then
  if ¬ (cI τ 202 b4) = 0 then
  if gT g b2 = 105 then
  if xin (x2 / (cI τ 202 b4)) (gN g b2) = true then
  (cR τ 100 x0).bind fun b7 =>
  if gT g b7 = 2 then
  if ¬ (cI τ 202 b7) = 0 then
  if gT g (gA g b2 (x2 / (cI τ 202 b4)).toNatClampNeg) = 100 then
  if xin (x2 - x2 / (cI τ 202 b7) * (cI τ 202 b7)) (gN g (gA g b2 (x2 / (cI τ 202 b4)).toNatClampNeg)) = true then
  if xin (x2 - x2 / (cI τ 202 b7) * (cI τ 202 b7)) (gN g (gA g b2 (x2 / (cI τ 202 b4)).toNatClampNeg)) = true then
  some (uA τ (gA g b2 (x2 / (cI τ 202 b4)).toNatClampNeg) (x2 - x2 / (cI τ 202 b7) * (cI τ 202 b7)).toNatClampNeg ((cA τ (gA g b2 (x2 / (cI τ 202 b4)).toNatClampNeg) (x2 - x2 / (cI τ 202 b7) * (cI τ 202 b7)).toNatClampNeg) + 1))
  else none
  else none
  else none
  else none
  else none
  else none
  else none
  else none
  else none
  else none
  else none
theorem ok_f_c_X0_plants {D : CD} {P : CP} {K : xK} {g : CG} {Z : Option Value × CS} {x0 : Nat} {x1 : Nat} {x2 : Int32} {τ : CC} {o_ : CC} (hf : f_c_X0_plants g x0 x1 x2 τ = some o_) (kr : ∀ r_ : CC, o_ = r_ → Z = (none, (g, r_))) : xV (wC D P) K mX0_plants (xQ (wC D P) K Z) (g, τ) 0 [(0, .ref x0), (1, .ref x1), (2, .int x2)] [] := by
  unfold f_c_X0_plants at hf
  refine xr_aload_n (pc := 0) 1 dX0_plants_0 rfl rfl ?_
  obtain ⟨ht1, hf⟩ := xo_if hf
  obtain ⟨b2, hb2, hf⟩ := xo_bind hf
  refine yc_getFsN (pc := 1) 6 6 606 (gKo ht1 (by decide)) (by decide) (by decide) (by decide) rfl rfl hb2 q447 (ys_eq rfl) rfl dX0_plants_1 ?_
  refine xr_iload_n (pc := 4) 2 dX0_plants_4 rfl rfl ?_
  refine xr_aload_n (pc := 5) 0 dX0_plants_5 rfl rfl ?_
  obtain ⟨ht3, hf⟩ := xo_if hf
  obtain ⟨b4, hb4, hf⟩ := xo_bind hf
  refine yc_getRs (pc := 6) 1 0 100 (gKo ht3 (by decide)) (by decide) (by decide) (by decide) rfl rfl hb4 q484 (ys_eq rfl) rfl dX0_plants_6 ?_
  obtain ⟨ht5, hf⟩ := xo_if hf
  refine yc_getIN (pc := 9) 2 2 202 (gKo ht5 (by decide)) (by decide) (by decide) (by decide) rfl rfl q263 (ys_eq rfl) rfl dX0_plants_9 ?_
  obtain ⟨hz_, hf⟩ := xo_if hf
  refine xr_idiv (pc := 12) dX0_plants_12 hz_ ?_
  obtain ⟨ht6, hf⟩ := xo_if hf
  obtain ⟨hi_, hf⟩ := xo_if hf
  refine yc_aaldF (pc := 13) 105 (gKo ht6 (by decide)) (by decide) (by decide) rfl rfl hi_ dX0_plants_13 ?_
  refine xr_iload_n (pc := 14) 2 dX0_plants_14 rfl rfl ?_
  refine xr_aload_n (pc := 15) 0 dX0_plants_15 rfl rfl ?_
  obtain ⟨b7, hb7, hf⟩ := xo_bind hf
  refine yc_getRs (pc := 16) 1 0 100 (gKo ht3 (by decide)) (by decide) (by decide) (by decide) rfl rfl hb7 q484 (ys_eq rfl) rfl dX0_plants_16 ?_
  obtain ⟨ht8, hf⟩ := xo_if hf
  refine yc_getIN (pc := 19) 2 2 202 (gKo ht8 (by decide)) (by decide) (by decide) (by decide) rfl rfl q263 (ys_eq rfl) rfl dX0_plants_19 ?_
  obtain ⟨hz_, hf⟩ := xo_if hf
  refine xr_irem (pc := 22) dX0_plants_22 hz_ ?_
  refine xr_dup2_11 (pc := 23) dX0_plants_23 rfl rfl ?_
  obtain ⟨ht9, hf⟩ := xo_if hf
  obtain ⟨hi_, hf⟩ := xo_if hf
  refine yc_iald (pc := 24) (gKo ht9 (by decide)) hi_ dX0_plants_24 ?_
  refine xr_iconst (pc := 25) dX0_plants_25 xci_1 ?_
  refine xr_iadd (pc := 26) dX0_plants_26 ?_
  obtain ⟨hi_, hf⟩ := xo_if hf
  refine yc_iast (pc := 27) ht9 hi_ dX0_plants_27 ?_
  rw [kr _ (Option.some.inj hf).symm]
  exact xr_vret (pc := 28) dX0_plants_28 rfl
theorem met_f_c_X0_plants (l : Launch) {D : CD} {P : CP} {g : CG} {x0 : Nat} {x1 : Nat} {x2 : Int32} {τ : CC} {o_ : CC} (hf : f_c_X0_plants g x0 x1 x2 τ = some o_) : xMet (wC D P) l yX0_plants (ws_ yX0_plants cX0_plants 3 none) 0 0 (grc g) (grs g) [.ref x0, .ref x1, .int x2] (g, τ) (none, (g, o_)) := 
  xMet_of (by decide) (Nat.le_of_ble_eq_true rfl) KC_moved RPC_of (fun K _ _ _ => ok_f_c_X0_plants hf (fun _ h => by rw [h]))
abbrev mX0_isFull : xM := (cX0_isFull, 3, RX0, 0, 0, (some .boolean), "isFull")
def f_c_X0_isFull (g : CG) (x0 : Nat) (x1 : Nat) (x2 : Int32) (τ : CC) : Option (Int32 × CC) :=
  if gT g x1 = 6 then
  (gR g 606 x1).bind fun b2 =>
  if gT g x0 = 1 then
  (cR τ 100 x0).bind fun b4 =>
  if gT g b4 = 2 then
  if ¬ (cI τ 202 b4) = 0 then
  if gT g b2 = 105 then
  if xin (x2 / (cI τ 202 b4)) (gN g b2) = true then
  (cR τ 100 x0).bind fun b7 =>
  if gT g b7 = 2 then
  if ¬ (cI τ 202 b7) = 0 then
  if gT g (gA g b2 (x2 / (cI τ 202 b4)).toNatClampNeg) = 100 then
  if xin (x2 - x2 / (cI τ 202 b7) * (cI τ 202 b7)) (gN g (gA g b2 (x2 / (cI τ 202 b4)).toNatClampNeg)) = true then
  if (cA τ (gA g b2 (x2 / (cI τ 202 b4)).toNatClampNeg) (x2 - x2 / (cI τ 202 b7) * (cI τ 202 b7)).toNatClampNeg) < 9 then
  some ((0, τ))
  else
  some ((1, τ))
  else none
  else none
  else none
  else none
  else none
  else none
  else none
  else none
  else none
  else none
theorem ok_f_c_X0_isFull {D : CD} {P : CP} {K : xK} {g : CG} {Z : Option Value × CS} {x0 : Nat} {x1 : Nat} {x2 : Int32} {τ : CC} {o_ : (Int32 × CC)} (hf : f_c_X0_isFull g x0 x1 x2 τ = some o_) (kr : ∀ r_ : (Int32 × CC), o_ = r_ → Z = (some (.int r_.1), (g, r_.2))) : xV (wC D P) K mX0_isFull (xQ (wC D P) K Z) (g, τ) 0 [(0, .ref x0), (1, .ref x1), (2, .int x2)] [] := by
  unfold f_c_X0_isFull at hf
  refine xr_aload_n (pc := 0) 1 dX0_isFull_0 rfl rfl ?_
  obtain ⟨ht1, hf⟩ := xo_if hf
  obtain ⟨b2, hb2, hf⟩ := xo_bind hf
  refine yc_getFsN (pc := 1) 6 6 606 (gKo ht1 (by decide)) (by decide) (by decide) (by decide) rfl rfl hb2 q447 (ys_eq rfl) rfl dX0_isFull_1 ?_
  refine xr_iload_n (pc := 4) 2 dX0_isFull_4 rfl rfl ?_
  refine xr_aload_n (pc := 5) 0 dX0_isFull_5 rfl rfl ?_
  obtain ⟨ht3, hf⟩ := xo_if hf
  obtain ⟨b4, hb4, hf⟩ := xo_bind hf
  refine yc_getRs (pc := 6) 1 0 100 (gKo ht3 (by decide)) (by decide) (by decide) (by decide) rfl rfl hb4 q484 (ys_eq rfl) rfl dX0_isFull_6 ?_
  obtain ⟨ht5, hf⟩ := xo_if hf
  refine yc_getIN (pc := 9) 2 2 202 (gKo ht5 (by decide)) (by decide) (by decide) (by decide) rfl rfl q263 (ys_eq rfl) rfl dX0_isFull_9 ?_
  obtain ⟨hz_, hf⟩ := xo_if hf
  refine xr_idiv (pc := 12) dX0_isFull_12 hz_ ?_
  obtain ⟨ht6, hf⟩ := xo_if hf
  obtain ⟨hi_, hf⟩ := xo_if hf
  refine yc_aaldF (pc := 13) 105 (gKo ht6 (by decide)) (by decide) (by decide) rfl rfl hi_ dX0_isFull_13 ?_
  refine xr_iload_n (pc := 14) 2 dX0_isFull_14 rfl rfl ?_
  refine xr_aload_n (pc := 15) 0 dX0_isFull_15 rfl rfl ?_
  obtain ⟨b7, hb7, hf⟩ := xo_bind hf
  refine yc_getRs (pc := 16) 1 0 100 (gKo ht3 (by decide)) (by decide) (by decide) (by decide) rfl rfl hb7 q484 (ys_eq rfl) rfl dX0_isFull_16 ?_
  obtain ⟨ht8, hf⟩ := xo_if hf
  refine yc_getIN (pc := 19) 2 2 202 (gKo ht8 (by decide)) (by decide) (by decide) (by decide) rfl rfl q263 (ys_eq rfl) rfl dX0_isFull_19 ?_
  obtain ⟨hz_, hf⟩ := xo_if hf
  refine xr_irem (pc := 22) dX0_isFull_22 hz_ ?_
  obtain ⟨ht9, hf⟩ := xo_if hf
  obtain ⟨hi_, hf⟩ := xo_if hf
  refine yc_iald (pc := 23) (gKo ht9 (by decide)) hi_ dX0_isFull_23 ?_
  refine xr_bipush (pc := 24) dX0_isFull_24 xcb_9 ?_
  refine xr_icmp_lt (pc := 26) 33 dX0_isFull_26 (by decide) (fun c_ => ?_) (fun c_ => ?_)
  · have hf := xo_pos c_ hf
    refine xr_iconst (pc := 33) dX0_isFull_33 xci_0 ?_
    rw [kr _ (Option.some.inj hf).symm]
    exact xr_zret (pc := 34) dX0_isFull_34 rfl xz_0
  · have hf := xo_neg c_ hf
    refine xr_iconst (pc := 29) dX0_isFull_29 xci_1 ?_
    refine xr_goto (pc := 30) 34 dX0_isFull_30 (by decide) ?_
    rw [kr _ (Option.some.inj hf).symm]
    exact xr_zret (pc := 34) dX0_isFull_34 rfl xz_1
theorem met_f_c_X0_isFull (l : Launch) {D : CD} {P : CP} {g : CG} {x0 : Nat} {x1 : Nat} {x2 : Int32} {τ : CC} {o_ : (Int32 × CC)} (hf : f_c_X0_isFull g x0 x1 x2 τ = some o_) : xMet (wC D P) l yX0_isFull (ws_ yX0_isFull cX0_isFull 3 (some .boolean)) 0 0 (grc g) (grs g) [.ref x0, .ref x1, .int x2] (g, τ) (some (.int o_.1), (g, o_.2)) := 
  xMet_of (by decide) (Nat.le_of_ble_eq_true rfl) KC_moved RPC_of (fun K _ _ _ => ok_f_c_X0_isFull hf (fun _ h => by rw [h]))
theorem hd_f_c_X0_plants : yX0_plants.cls ≠ "java/lang/invoke/MethodHandle" ∧ yX0_plants.cls ≠ "java/lang/invoke/VarHandle" ∧ (parseMethodDescriptor yX0_plants.desc).map (fun d => d.parameters.length) = some 2 := by decide +kernel
theorem call_f_c_X0_plants_X0_310 {D : CD} {P : CP} {K : xK} {M : xM} {Q : State → Prop} {g : CG} {c : CC} {x0 : Nat} {x1 : Nat} {x2 : Int32} {pc : Nat} {loc : List (Nat × Value)} {st : List Value} {c1 : CC} (hf : f_c_X0_plants g x0 x1 x2 c = some c1) (hr : gK g x0 = 1) (ho : M.2.2.1 = RX0) (hfr : 1 ≤ M.2.2.2.1) (hlo : 22 ≤ M.2.2.2.2.1) (hcat : (st.map fun v => v.category).sum ≤ 8) (d : decode M.1 pc = .ok (.invokevirtual 310, 3)) (k : xV (wC D P) K M Q (g, c1) (pc + 3) loc st) : xV (wC D P) K M Q (g, c) pc loc (.int x2 :: .ref x1 :: .ref x0 :: st) :=
  yc_callV (As := [.ref x1, .int x2]) (rest := st) (met_f_c_X0_plants K.2.1 hf) (lw_V q1540 q1542 qs52 q174 q1543) ⟨rfl, hd_f_c_X0_plants⟩ ho hfr hlo rfl hr (by decide) (by decide) rfl rfl hcat d k
theorem hd_f_c_X0_isFull : yX0_isFull.cls ≠ "java/lang/invoke/MethodHandle" ∧ yX0_isFull.cls ≠ "java/lang/invoke/VarHandle" ∧ (parseMethodDescriptor yX0_isFull.desc).map (fun d => d.parameters.length) = some 2 := by decide +kernel
theorem call_f_c_X0_isFull_X0_306 {D : CD} {P : CP} {K : xK} {M : xM} {Q : State → Prop} {g : CG} {c : CC} {x0 : Nat} {x1 : Nat} {x2 : Int32} {pc : Nat} {loc : List (Nat × Value)} {st : List Value} {r : Int32} {c1 : CC} (hf : f_c_X0_isFull g x0 x1 x2 c = some (r, c1)) (hr : gK g x0 = 1) (ho : M.2.2.1 = RX0) (hfr : 1 ≤ M.2.2.2.1) (hlo : 22 ≤ M.2.2.2.2.1) (hcat : (st.map fun v => v.category).sum ≤ 8) (d : decode M.1 pc = .ok (.invokevirtual 306, 3)) (k : xV (wC D P) K M Q (g, c1) (pc + 3) loc (.int r :: st)) : xV (wC D P) K M Q (g, c) pc loc (.int x2 :: .ref x1 :: .ref x0 :: st) :=
  yc_callV (As := [.ref x1, .int x2]) (rest := st) (met_f_c_X0_isFull K.2.1 hf) (lw_V q1536 q1538 qs51 q174 q1539) ⟨rfl, hd_f_c_X0_isFull⟩ ho hfr hlo rfl hr (by decide) (by decide) rfl rfl hcat d k
theorem hd_f_c_X0_places : yX0_places.cls ≠ "java/lang/invoke/MethodHandle" ∧ yX0_places.cls ≠ "java/lang/invoke/VarHandle" ∧ (parseMethodDescriptor yX0_places.desc).map (fun d => d.parameters.length) = some 0 := by decide +kernel
theorem call_f_c_X0_places_X0_303 {D : CD} {P : CP} {K : xK} {M : xM} {Q : State → Prop} {g : CG} {c : CC} {x0 : Nat} {pc : Nat} {loc : List (Nat × Value)} {st : List Value} {r : Int32} {c1 : CC} (hf : f_c_X0_places g x0 c = some (r, c1)) (hr : gK g x0 = 1) (ho : M.2.2.1 = RX0) (hfr : 2 ≤ M.2.2.2.1) (hlo : 80 ≤ M.2.2.2.2.1) (hcat : (st.map fun v => v.category).sum ≤ 8) (d : decode M.1 pc = .ok (.invokevirtual 303, 3)) (k : xV (wC D P) K M Q (g, c1) (pc + 3) loc (.int r :: st)) : xV (wC D P) K M Q (g, c) pc loc (.ref x0 :: st) :=
  yc_callV (As := []) (rest := st) (met_f_c_X0_places K.2.1 hf) (lw_V q1532 q1534 qs50 q174 q1535) ⟨rfl, hd_f_c_X0_places⟩ ho hfr hlo rfl hr (by decide) (by decide) rfl rfl hcat d k
abbrev mX0_runsBy : xM := (cX0_runsBy, 8, RX0, 83, 4980, (some .boolean), "runsBy")
def Jc_X0_runsBy_190 (g : CG) (x0 : Nat) (x1 : Int32) (x2 : Int32) (x3 : Int32) (x4 : Int32) (x5 : Int32) (x6 : Int32) (τ : CC) : Option ((Int32 × CC) ⊕ ((CC) ⊕ ((Int32 × CC)))) :=
  some (.inl (x6 + 1, τ))
theorem ok_Jc_X0_runsBy_190 {D : CD} {P : CP} {K : xK} {g : CG} {Z : Option Value × CS} {x0 : Nat} {x1 : Int32} {x2 : Int32} {x3 : Int32} {x4 : Int32} {x5 : Int32} {x6 : Int32} {τ : CC} {o_ : ((Int32 × CC) ⊕ ((CC) ⊕ ((Int32 × CC))))} (hf : Jc_X0_runsBy_190 g x0 x1 x2 x3 x4 x5 x6 τ = some o_) (kc : ∀ s_ : Int32 × CC, o_ = .inl s_ → xV (wC D P) K mX0_runsBy (xQ (wC D P) K Z) (g, s_.2) 33 [(0, .ref x0), (1, .int x1), (2, .int x2), (3, .int x3), (4, .int x4), (5, .int x5), (6, .int s_.1)] []) (ke0 : ∀ e_ : CC, o_ = .inr (.inl e_) → xV (wC D P) K mX0_runsBy (xQ (wC D P) K Z) (g, e_) 196 [(0, .ref x0), (1, .int x1), (2, .int x2), (3, .int x3), (4, .int x4), (5, .int x5)] []) (kr : ∀ r_ : (Int32 × CC), o_ = .inr (.inr r_) → Z = (some (.int r_.1), (g, r_.2))) : xV (wC D P) K mX0_runsBy (xQ (wC D P) K Z) (g, τ) 190 [(0, .ref x0), (1, .int x1), (2, .int x2), (3, .int x3), (4, .int x4), (5, .int x5), (6, .int x6)] [] := by
  unfold Jc_X0_runsBy_190 at hf
  refine xr_iinc (pc := 190) (loc' := [(6, .int (x6 + 1)), (0, .ref x0), (1, .int x1), (2, .int x2), (3, .int x3), (4, .int x4), (5, .int x5)]) 6 dX0_runsBy_190 rfl xci_1 (by decide) rfl ?_
  refine xr_goto (pc := 193) 33 dX0_runsBy_193 (by decide) ?_
  refine xV_sub [1, 2, 3, 4, 5, 6, 0] rfl ?_
  exact kc _ (Option.some.inj hf).symm
def Jc_X0_runsBy_146 (g : CG) (x0 : Nat) (x1 : Int32) (x2 : Int32) (x3 : Int32) (x4 : Int32) (x5 : Int32) (x6 : Int32) (x7 : Int32) (τ : CC) : Option ((Int32 × CC) ⊕ ((CC) ⊕ ((Int32 × CC)))) :=
  if x7 = 0 then
  Jc_X0_runsBy_190 g x0 x1 x2 x3 x4 x5 x6 τ
  else
  if gT g x0 = 1 then
  (gR g 110 x0).bind fun b7 =>
  if gT g b7 = 6 then
  xbd (f_c_X5_seasons g b7 x4 τ) fun r9 τ9 =>
  if gT g r9 = 6 then
  (gR g 603 r9).bind fun b11 =>
  if gT g b11 = 100 then
  if xin x2 (gN g b11) = true then
  if (cA τ9 b11 x2.toNatClampNeg) = x3 then
  (gR g 111 x0).bind fun b13 =>
  if gT g b13 = 100 then
  if xin 0 (gN g b13) = true then
  if xin 1 (gN g b13) = true then
  some (.inr (.inr (1, uA (uA τ9 b13 (0 : Int32).toNatClampNeg x5) b13 (1 : Int32).toNatClampNeg x6)))
  else none
  else none
  else none
  else
  Jc_X0_runsBy_190 g x0 x1 x2 x3 x4 x5 x6 τ9
  else none
  else none
  else none
  else none
  else none
theorem ok_Jc_X0_runsBy_146 {D : CD} {P : CP} {K : xK} {g : CG} {Z : Option Value × CS} {x0 : Nat} {x1 : Int32} {x2 : Int32} {x3 : Int32} {x4 : Int32} {x5 : Int32} {x6 : Int32} {x7 : Int32} {τ : CC} {o_ : ((Int32 × CC) ⊕ ((CC) ⊕ ((Int32 × CC))))} (hf : Jc_X0_runsBy_146 g x0 x1 x2 x3 x4 x5 x6 x7 τ = some o_) (kc : ∀ s_ : Int32 × CC, o_ = .inl s_ → xV (wC D P) K mX0_runsBy (xQ (wC D P) K Z) (g, s_.2) 33 [(0, .ref x0), (1, .int x1), (2, .int x2), (3, .int x3), (4, .int x4), (5, .int x5), (6, .int s_.1)] []) (ke0 : ∀ e_ : CC, o_ = .inr (.inl e_) → xV (wC D P) K mX0_runsBy (xQ (wC D P) K Z) (g, e_) 196 [(0, .ref x0), (1, .int x1), (2, .int x2), (3, .int x3), (4, .int x4), (5, .int x5)] []) (kr : ∀ r_ : (Int32 × CC), o_ = .inr (.inr r_) → Z = (some (.int r_.1), (g, r_.2))) : xV (wC D P) K mX0_runsBy (xQ (wC D P) K Z) (g, τ) 146 [(0, .ref x0), (1, .int x1), (2, .int x2), (3, .int x3), (4, .int x4), (5, .int x5), (6, .int x6), (7, .int x7)] [] := by
  unfold Jc_X0_runsBy_146 at hf
  refine xr_iload (pc := 146) 7 dX0_runsBy_146 rfl ?_
  refine xr_if_eq (pc := 148) 190 dX0_runsBy_148 (by decide) (fun c_ => ?_) (fun c_ => ?_)
  · have hf := xo_pos c_ hf
    refine xV_sub [0, 1, 2, 3, 4, 5, 6] rfl ?_
    exact ok_Jc_X0_runsBy_190 hf kc ke0 kr
  · have hf := xo_neg c_ hf
    refine xr_aload_n (pc := 151) 0 dX0_runsBy_151 rfl rfl ?_
    obtain ⟨ht6, hf⟩ := xo_if hf
    obtain ⟨b7, hb7, hf⟩ := xo_bind hf
    refine yc_getFs (pc := 152) 1 10 110 (gKo ht6 (by decide)) (by decide) (by decide) (by decide) rfl rfl hb7 q496 (ys_eq rfl) rfl dX0_runsBy_152 ?_
    refine xr_iload (pc := 155) 4 dX0_runsBy_155 rfl ?_
    obtain ⟨ht8, hf⟩ := xo_if hf
    obtain ⟨r9, τ9, hτ9, hf⟩ := xo_bd hf
    refine call_f_c_X5_seasons_X0_296 (pc := 157) hτ9 (gKo ht8 (by decide)) rfl (Nat.le_of_ble_eq_true rfl) (Nat.le_of_ble_eq_true rfl) (Nat.le_of_ble_eq_true rfl) dX0_runsBy_157 ?_
    obtain ⟨ht10, hf⟩ := xo_if hf
    obtain ⟨b11, hb11, hf⟩ := xo_bind hf
    refine yc_getFsN (pc := 160) 6 3 603 (gKo ht10 (by decide)) (by decide) (by decide) (by decide) rfl rfl hb11 q441 (ys_eq rfl) rfl dX0_runsBy_160 ?_
    refine xr_iload_n (pc := 163) 2 dX0_runsBy_163 rfl rfl ?_
    obtain ⟨ht12, hf⟩ := xo_if hf
    obtain ⟨hi_, hf⟩ := xo_if hf
    refine yc_iald (pc := 164) (gKo ht12 (by decide)) hi_ dX0_runsBy_164 ?_
    refine xr_iload_n (pc := 165) 3 dX0_runsBy_165 rfl rfl ?_
    refine xr_icmp_eq (pc := 166) 172 dX0_runsBy_166 (by decide) (fun c_ => ?_) (fun c_ => ?_)
    · have hf := xo_pos c_ hf
      refine xr_aload_n (pc := 172) 0 dX0_runsBy_172 rfl rfl ?_
      obtain ⟨b13, hb13, hf⟩ := xo_bind hf
      refine yc_getFs (pc := 173) 1 11 111 (gKo ht6 (by decide)) (by decide) (by decide) (by decide) rfl rfl hb13 q497 (ys_eq rfl) rfl dX0_runsBy_173 ?_
      refine xr_iconst (pc := 176) dX0_runsBy_176 xci_0 ?_
      refine xr_iload (pc := 177) 5 dX0_runsBy_177 rfl ?_
      obtain ⟨ht14, hf⟩ := xo_if hf
      obtain ⟨hi_, hf⟩ := xo_if hf
      refine yc_iast (pc := 179) ht14 hi_ dX0_runsBy_179 ?_
      refine xr_aload_n (pc := 180) 0 dX0_runsBy_180 rfl rfl ?_
      refine yc_getFs (pc := 181) 1 11 111 (gKo ht6 (by decide)) (by decide) (by decide) (by decide) rfl rfl hb13 q497 (ys_eq rfl) rfl dX0_runsBy_181 ?_
      refine xr_iconst (pc := 184) dX0_runsBy_184 xci_1 ?_
      refine xr_iload (pc := 185) 6 dX0_runsBy_185 rfl ?_
      obtain ⟨hi_, hf⟩ := xo_if hf
      refine yc_iast (pc := 187) ht14 hi_ dX0_runsBy_187 ?_
      refine xr_iconst (pc := 188) dX0_runsBy_188 xci_1 ?_
      rw [kr _ (Option.some.inj hf).symm]
      exact xr_zret (pc := 189) dX0_runsBy_189 rfl xz_1
    · have hf := xo_neg c_ hf
      refine xr_goto (pc := 169) 190 dX0_runsBy_169 (by decide) ?_
      refine xV_sub [0, 1, 2, 3, 4, 5, 6] rfl ?_
      exact ok_Jc_X0_runsBy_190 hf kc ke0 kr
def Jc_X0_runsBy_129 (g : CG) (x0 : Nat) (x1 : Int32) (x2 : Int32) (x3 : Int32) (x4 : Int32) (x5 : Int32) (x6 : Int32) (s0 : Int32) (τ : CC) : Option ((Int32 × CC) ⊕ ((CC) ⊕ ((Int32 × CC)))) :=
  if x1 ≤ 1 then
  Jc_X0_runsBy_146 g x0 x1 x2 x3 x4 x5 x6 s0 τ
  else
  if gT g x0 = 1 then
  (gR g 110 x0).bind fun b16 =>
  (f_c_X0_plants g x0 b16 x6 τ).bind fun τ17 =>
  Jc_X0_runsBy_146 g x0 x1 x2 x3 x4 x5 x6 s0 τ17
  else none
theorem ok_Jc_X0_runsBy_129 {D : CD} {P : CP} {K : xK} {g : CG} {Z : Option Value × CS} {x0 : Nat} {x1 : Int32} {x2 : Int32} {x3 : Int32} {x4 : Int32} {x5 : Int32} {x6 : Int32} {s0 : Int32} {τ : CC} {o_ : ((Int32 × CC) ⊕ ((CC) ⊕ ((Int32 × CC))))} (hf : Jc_X0_runsBy_129 g x0 x1 x2 x3 x4 x5 x6 s0 τ = some o_) (kc : ∀ s_ : Int32 × CC, o_ = .inl s_ → xV (wC D P) K mX0_runsBy (xQ (wC D P) K Z) (g, s_.2) 33 [(0, .ref x0), (1, .int x1), (2, .int x2), (3, .int x3), (4, .int x4), (5, .int x5), (6, .int s_.1)] []) (ke0 : ∀ e_ : CC, o_ = .inr (.inl e_) → xV (wC D P) K mX0_runsBy (xQ (wC D P) K Z) (g, e_) 196 [(0, .ref x0), (1, .int x1), (2, .int x2), (3, .int x3), (4, .int x4), (5, .int x5)] []) (kr : ∀ r_ : (Int32 × CC), o_ = .inr (.inr r_) → Z = (some (.int r_.1), (g, r_.2))) : xV (wC D P) K mX0_runsBy (xQ (wC D P) K Z) (g, τ) 129 [(0, .ref x0), (1, .int x1), (2, .int x2), (3, .int x3), (4, .int x4), (5, .int x5), (6, .int x6)] [.int s0] := by
  unfold Jc_X0_runsBy_129 at hf
  refine xr_istore (pc := 129) (loc' := [(7, .int s0), (0, .ref x0), (1, .int x1), (2, .int x2), (3, .int x3), (4, .int x4), (5, .int x5), (6, .int x6)]) dX0_runsBy_129 (by decide) rfl ?_
  refine xr_iload_n (pc := 131) 2 dX0_runsBy_131 rfl rfl ?_
  refine xr_iconst (pc := 132) dX0_runsBy_132 xci_1 ?_
  refine xr_icmp_le (pc := 133) 146 dX0_runsBy_133 (by decide) (fun c_ => ?_) (fun c_ => ?_)
  · have hf := xo_pos c_ hf
    refine xV_sub [1, 2, 3, 4, 5, 6, 7, 0] rfl ?_
    exact ok_Jc_X0_runsBy_146 hf kc ke0 kr
  · have hf := xo_neg c_ hf
    refine xr_aload_n (pc := 136) 1 dX0_runsBy_136 rfl rfl ?_
    refine xr_aload_n (pc := 137) 1 dX0_runsBy_137 rfl rfl ?_
    obtain ⟨ht15, hf⟩ := xo_if hf
    obtain ⟨b16, hb16, hf⟩ := xo_bind hf
    refine yc_getFs (pc := 138) 1 10 110 (gKo ht15 (by decide)) (by decide) (by decide) (by decide) rfl rfl hb16 q496 (ys_eq rfl) rfl dX0_runsBy_138 ?_
    refine xr_iload (pc := 141) 7 dX0_runsBy_141 rfl ?_
    obtain ⟨τ17, hτ17, hf⟩ := xo_bind hf
    refine call_f_c_X0_plants_X0_310 (pc := 143) hτ17 (gKo ht15 (by decide)) rfl (Nat.le_of_ble_eq_true rfl) (Nat.le_of_ble_eq_true rfl) (Nat.le_of_ble_eq_true rfl) dX0_runsBy_143 ?_
    refine xV_sub [1, 2, 3, 4, 5, 6, 7, 0] rfl ?_
    exact ok_Jc_X0_runsBy_146 hf kc ke0 kr
def Jc_X0_runsBy_128 (g : CG) (x0 : Nat) (x1 : Int32) (x2 : Int32) (x3 : Int32) (x4 : Int32) (x5 : Int32) (x6 : Int32) (τ : CC) : Option ((Int32 × CC) ⊕ ((CC) ⊕ ((Int32 × CC)))) :=
  Jc_X0_runsBy_129 g x0 x1 x2 x3 x4 x5 x6 0 τ
theorem ok_Jc_X0_runsBy_128 {D : CD} {P : CP} {K : xK} {g : CG} {Z : Option Value × CS} {x0 : Nat} {x1 : Int32} {x2 : Int32} {x3 : Int32} {x4 : Int32} {x5 : Int32} {x6 : Int32} {τ : CC} {o_ : ((Int32 × CC) ⊕ ((CC) ⊕ ((Int32 × CC))))} (hf : Jc_X0_runsBy_128 g x0 x1 x2 x3 x4 x5 x6 τ = some o_) (kc : ∀ s_ : Int32 × CC, o_ = .inl s_ → xV (wC D P) K mX0_runsBy (xQ (wC D P) K Z) (g, s_.2) 33 [(0, .ref x0), (1, .int x1), (2, .int x2), (3, .int x3), (4, .int x4), (5, .int x5), (6, .int s_.1)] []) (ke0 : ∀ e_ : CC, o_ = .inr (.inl e_) → xV (wC D P) K mX0_runsBy (xQ (wC D P) K Z) (g, e_) 196 [(0, .ref x0), (1, .int x1), (2, .int x2), (3, .int x3), (4, .int x4), (5, .int x5)] []) (kr : ∀ r_ : (Int32 × CC), o_ = .inr (.inr r_) → Z = (some (.int r_.1), (g, r_.2))) : xV (wC D P) K mX0_runsBy (xQ (wC D P) K Z) (g, τ) 128 [(0, .ref x0), (1, .int x1), (2, .int x2), (3, .int x3), (4, .int x4), (5, .int x5), (6, .int x6)] [] := by
  unfold Jc_X0_runsBy_128 at hf
  refine xr_iconst (pc := 128) dX0_runsBy_128 xci_0 ?_
  exact ok_Jc_X0_runsBy_129 hf kc ke0 kr
def Jc_X0_runsBy_124 (g : CG) (x0 : Nat) (x1 : Int32) (x2 : Int32) (x3 : Int32) (x4 : Int32) (x5 : Int32) (x6 : Int32) (τ : CC) : Option ((Int32 × CC) ⊕ ((CC) ⊕ ((Int32 × CC)))) :=
  Jc_X0_runsBy_129 g x0 x1 x2 x3 x4 x5 x6 1 τ
theorem ok_Jc_X0_runsBy_124 {D : CD} {P : CP} {K : xK} {g : CG} {Z : Option Value × CS} {x0 : Nat} {x1 : Int32} {x2 : Int32} {x3 : Int32} {x4 : Int32} {x5 : Int32} {x6 : Int32} {τ : CC} {o_ : ((Int32 × CC) ⊕ ((CC) ⊕ ((Int32 × CC))))} (hf : Jc_X0_runsBy_124 g x0 x1 x2 x3 x4 x5 x6 τ = some o_) (kc : ∀ s_ : Int32 × CC, o_ = .inl s_ → xV (wC D P) K mX0_runsBy (xQ (wC D P) K Z) (g, s_.2) 33 [(0, .ref x0), (1, .int x1), (2, .int x2), (3, .int x3), (4, .int x4), (5, .int x5), (6, .int s_.1)] []) (ke0 : ∀ e_ : CC, o_ = .inr (.inl e_) → xV (wC D P) K mX0_runsBy (xQ (wC D P) K Z) (g, e_) 196 [(0, .ref x0), (1, .int x1), (2, .int x2), (3, .int x3), (4, .int x4), (5, .int x5)] []) (kr : ∀ r_ : (Int32 × CC), o_ = .inr (.inr r_) → Z = (some (.int r_.1), (g, r_.2))) : xV (wC D P) K mX0_runsBy (xQ (wC D P) K Z) (g, τ) 124 [(0, .ref x0), (1, .int x1), (2, .int x2), (3, .int x3), (4, .int x4), (5, .int x5), (6, .int x6)] [] := by
  unfold Jc_X0_runsBy_124 at hf
  refine xr_iconst (pc := 124) dX0_runsBy_124 xci_1 ?_
  refine xr_goto (pc := 125) 129 dX0_runsBy_125 (by decide) ?_
  exact ok_Jc_X0_runsBy_129 hf kc ke0 kr
def Jc_X0_runsBy_101 (g : CG) (x0 : Nat) (x1 : Int32) (x2 : Int32) (x3 : Int32) (x4 : Int32) (x5 : Int32) (x6 : Int32) (x7 : Int32) (τ : CC) : Option ((Int32 × CC) ⊕ ((CC) ⊕ ((Int32 × CC)))) :=
  if x7 = 0 then
  Jc_X0_runsBy_128 g x0 x1 x2 x3 x4 x5 x6 τ
  else
  if x1 < 2 then
  Jc_X0_runsBy_124 g x0 x1 x2 x3 x4 x5 x6 τ
  else
  if gT g x0 = 1 then
  (gR g 110 x0).bind fun b19 =>
  xbd (f_c_X0_isFull g x0 b19 x6 τ) fun r20 τ20 =>
  if r20 = 0 then
  Jc_X0_runsBy_124 g x0 x1 x2 x3 x4 x5 x6 τ20
  else
  Jc_X0_runsBy_128 g x0 x1 x2 x3 x4 x5 x6 τ20
  else none
theorem ok_Jc_X0_runsBy_101 {D : CD} {P : CP} {K : xK} {g : CG} {Z : Option Value × CS} {x0 : Nat} {x1 : Int32} {x2 : Int32} {x3 : Int32} {x4 : Int32} {x5 : Int32} {x6 : Int32} {x7 : Int32} {τ : CC} {o_ : ((Int32 × CC) ⊕ ((CC) ⊕ ((Int32 × CC))))} (hf : Jc_X0_runsBy_101 g x0 x1 x2 x3 x4 x5 x6 x7 τ = some o_) (kc : ∀ s_ : Int32 × CC, o_ = .inl s_ → xV (wC D P) K mX0_runsBy (xQ (wC D P) K Z) (g, s_.2) 33 [(0, .ref x0), (1, .int x1), (2, .int x2), (3, .int x3), (4, .int x4), (5, .int x5), (6, .int s_.1)] []) (ke0 : ∀ e_ : CC, o_ = .inr (.inl e_) → xV (wC D P) K mX0_runsBy (xQ (wC D P) K Z) (g, e_) 196 [(0, .ref x0), (1, .int x1), (2, .int x2), (3, .int x3), (4, .int x4), (5, .int x5)] []) (kr : ∀ r_ : (Int32 × CC), o_ = .inr (.inr r_) → Z = (some (.int r_.1), (g, r_.2))) : xV (wC D P) K mX0_runsBy (xQ (wC D P) K Z) (g, τ) 101 [(0, .ref x0), (1, .int x1), (2, .int x2), (3, .int x3), (4, .int x4), (5, .int x5), (6, .int x6), (7, .int x7)] [] := by
  unfold Jc_X0_runsBy_101 at hf
  refine xr_iload (pc := 101) 7 dX0_runsBy_101 rfl ?_
  refine xr_if_eq (pc := 103) 128 dX0_runsBy_103 (by decide) (fun c_ => ?_) (fun c_ => ?_)
  · have hf := xo_pos c_ hf
    refine xV_sub [0, 1, 2, 3, 4, 5, 6] rfl ?_
    exact ok_Jc_X0_runsBy_128 hf kc ke0 kr
  · have hf := xo_neg c_ hf
    refine xr_iload_n (pc := 106) 1 dX0_runsBy_106 rfl rfl ?_
    refine xr_iconst (pc := 107) dX0_runsBy_107 xci_2 ?_
    refine xr_icmp_lt (pc := 108) 124 dX0_runsBy_108 (by decide) (fun c_ => ?_) (fun c_ => ?_)
    · have hf := xo_pos c_ hf
      refine xV_sub [0, 1, 2, 3, 4, 5, 6] rfl ?_
      exact ok_Jc_X0_runsBy_124 hf kc ke0 kr
    · have hf := xo_neg c_ hf
      refine xr_aload_n (pc := 111) 0 dX0_runsBy_111 rfl rfl ?_
      refine xr_aload_n (pc := 112) 0 dX0_runsBy_112 rfl rfl ?_
      obtain ⟨ht18, hf⟩ := xo_if hf
      obtain ⟨b19, hb19, hf⟩ := xo_bind hf
      refine yc_getFs (pc := 113) 1 10 110 (gKo ht18 (by decide)) (by decide) (by decide) (by decide) rfl rfl hb19 q496 (ys_eq rfl) rfl dX0_runsBy_113 ?_
      refine xr_iload (pc := 116) 6 dX0_runsBy_116 rfl ?_
      obtain ⟨r20, τ20, hτ20, hf⟩ := xo_bd hf
      refine call_f_c_X0_isFull_X0_306 (pc := 118) hτ20 (gKo ht18 (by decide)) rfl (Nat.le_of_ble_eq_true rfl) (Nat.le_of_ble_eq_true rfl) (Nat.le_of_ble_eq_true rfl) dX0_runsBy_118 ?_
      refine xr_if_ne (pc := 121) 128 dX0_runsBy_121 (by decide) (fun c_ => ?_) (fun c_ => ?_)
      · have hf := xo_pos c_ hf
        refine xV_sub [0, 1, 2, 3, 4, 5, 6] rfl ?_
        exact ok_Jc_X0_runsBy_124 hf kc ke0 kr
      · have hf := xo_neg c_ hf
        refine xV_sub [0, 1, 2, 3, 4, 5, 6] rfl ?_
        exact ok_Jc_X0_runsBy_128 hf kc ke0 kr
def Jc_X0_runsBy_85 (g : CG) (x0 : Nat) (x1 : Int32) (x2 : Int32) (x3 : Int32) (x4 : Int32) (x5 : Int32) (x6 : Int32) (s0 : Int32) (τ : CC) : Option ((Int32 × CC) ⊕ ((CC) ⊕ ((Int32 × CC)))) :=
  if x1 ≤ 0 then
  Jc_X0_runsBy_101 g x0 x1 x2 x3 x4 x5 x6 s0 τ
  else
  if gT g x0 = 1 then
  (gR g 110 x0).bind fun b22 =>
  (f_c_X0_plants g x0 b22 x5 τ).bind fun τ23 =>
  Jc_X0_runsBy_101 g x0 x1 x2 x3 x4 x5 x6 s0 τ23
  else none
theorem ok_Jc_X0_runsBy_85 {D : CD} {P : CP} {K : xK} {g : CG} {Z : Option Value × CS} {x0 : Nat} {x1 : Int32} {x2 : Int32} {x3 : Int32} {x4 : Int32} {x5 : Int32} {x6 : Int32} {s0 : Int32} {τ : CC} {o_ : ((Int32 × CC) ⊕ ((CC) ⊕ ((Int32 × CC))))} (hf : Jc_X0_runsBy_85 g x0 x1 x2 x3 x4 x5 x6 s0 τ = some o_) (kc : ∀ s_ : Int32 × CC, o_ = .inl s_ → xV (wC D P) K mX0_runsBy (xQ (wC D P) K Z) (g, s_.2) 33 [(0, .ref x0), (1, .int x1), (2, .int x2), (3, .int x3), (4, .int x4), (5, .int x5), (6, .int s_.1)] []) (ke0 : ∀ e_ : CC, o_ = .inr (.inl e_) → xV (wC D P) K mX0_runsBy (xQ (wC D P) K Z) (g, e_) 196 [(0, .ref x0), (1, .int x1), (2, .int x2), (3, .int x3), (4, .int x4), (5, .int x5)] []) (kr : ∀ r_ : (Int32 × CC), o_ = .inr (.inr r_) → Z = (some (.int r_.1), (g, r_.2))) : xV (wC D P) K mX0_runsBy (xQ (wC D P) K Z) (g, τ) 85 [(0, .ref x0), (1, .int x1), (2, .int x2), (3, .int x3), (4, .int x4), (5, .int x5), (6, .int x6)] [.int s0] := by
  unfold Jc_X0_runsBy_85 at hf
  refine xr_istore (pc := 85) (loc' := [(7, .int s0), (0, .ref x0), (1, .int x1), (2, .int x2), (3, .int x3), (4, .int x4), (5, .int x5), (6, .int x6)]) dX0_runsBy_85 (by decide) rfl ?_
  refine xr_iload_n (pc := 87) 2 dX0_runsBy_87 rfl rfl ?_
  refine xr_if_le (pc := 88) 101 dX0_runsBy_88 (by decide) (fun c_ => ?_) (fun c_ => ?_)
  · have hf := xo_pos c_ hf
    refine xV_sub [1, 2, 3, 4, 5, 6, 7, 0] rfl ?_
    exact ok_Jc_X0_runsBy_101 hf kc ke0 kr
  · have hf := xo_neg c_ hf
    refine xr_aload_n (pc := 91) 1 dX0_runsBy_91 rfl rfl ?_
    refine xr_aload_n (pc := 92) 1 dX0_runsBy_92 rfl rfl ?_
    obtain ⟨ht21, hf⟩ := xo_if hf
    obtain ⟨b22, hb22, hf⟩ := xo_bind hf
    refine yc_getFs (pc := 93) 1 10 110 (gKo ht21 (by decide)) (by decide) (by decide) (by decide) rfl rfl hb22 q496 (ys_eq rfl) rfl dX0_runsBy_93 ?_
    refine xr_iload (pc := 96) 6 dX0_runsBy_96 rfl ?_
    obtain ⟨τ23, hτ23, hf⟩ := xo_bind hf
    refine call_f_c_X0_plants_X0_310 (pc := 98) hτ23 (gKo ht21 (by decide)) rfl (Nat.le_of_ble_eq_true rfl) (Nat.le_of_ble_eq_true rfl) (Nat.le_of_ble_eq_true rfl) dX0_runsBy_98 ?_
    refine xV_sub [1, 2, 3, 4, 5, 6, 7, 0] rfl ?_
    exact ok_Jc_X0_runsBy_101 hf kc ke0 kr
def Jc_X0_runsBy_80 (g : CG) (x0 : Nat) (x1 : Int32) (x2 : Int32) (x3 : Int32) (x4 : Int32) (x5 : Int32) (x6 : Int32) (τ : CC) : Option ((Int32 × CC) ⊕ ((CC) ⊕ ((Int32 × CC)))) :=
  Jc_X0_runsBy_85 g x0 x1 x2 x3 x4 x5 x6 1 τ
theorem ok_Jc_X0_runsBy_80 {D : CD} {P : CP} {K : xK} {g : CG} {Z : Option Value × CS} {x0 : Nat} {x1 : Int32} {x2 : Int32} {x3 : Int32} {x4 : Int32} {x5 : Int32} {x6 : Int32} {τ : CC} {o_ : ((Int32 × CC) ⊕ ((CC) ⊕ ((Int32 × CC))))} (hf : Jc_X0_runsBy_80 g x0 x1 x2 x3 x4 x5 x6 τ = some o_) (kc : ∀ s_ : Int32 × CC, o_ = .inl s_ → xV (wC D P) K mX0_runsBy (xQ (wC D P) K Z) (g, s_.2) 33 [(0, .ref x0), (1, .int x1), (2, .int x2), (3, .int x3), (4, .int x4), (5, .int x5), (6, .int s_.1)] []) (ke0 : ∀ e_ : CC, o_ = .inr (.inl e_) → xV (wC D P) K mX0_runsBy (xQ (wC D P) K Z) (g, e_) 196 [(0, .ref x0), (1, .int x1), (2, .int x2), (3, .int x3), (4, .int x4), (5, .int x5)] []) (kr : ∀ r_ : (Int32 × CC), o_ = .inr (.inr r_) → Z = (some (.int r_.1), (g, r_.2))) : xV (wC D P) K mX0_runsBy (xQ (wC D P) K Z) (g, τ) 80 [(0, .ref x0), (1, .int x1), (2, .int x2), (3, .int x3), (4, .int x4), (5, .int x5), (6, .int x6)] [] := by
  unfold Jc_X0_runsBy_80 at hf
  refine xr_iconst (pc := 80) dX0_runsBy_80 xci_1 ?_
  refine xr_goto (pc := 81) 85 dX0_runsBy_81 (by decide) ?_
  exact ok_Jc_X0_runsBy_85 hf kc ke0 kr
def Jc_X0_runsBy_48 (g : CG) (x0 : Nat) (x1 : Int32) (x2 : Int32) (x3 : Int32) (x4 : Int32) (x5 : Int32) (x6 : Int32) (s0 : Int32) (s1 : Int32) (τ : CC) : Option ((Int32 × CC) ⊕ ((CC) ⊕ ((Int32 × CC)))) :=
  if s0 ≤ s1 then
  some (.inr (.inl τ))
  else
  if gT g x0 = 1 then
  (gR g 110 x0).bind fun b2 =>
  (gR g 109 x0).bind fun b3 =>
  if gT g b2 = 6 then
  xbd (f_c_X5_copy g b2 b3 τ) fun r5 τ5 =>
  if x1 = 0 then
  Jc_X0_runsBy_80 g x0 x1 x2 x3 x4 x5 x6 τ5
  else
  xbd (f_c_X0_isFull g x0 b2 x5 τ5) fun r24 τ24 =>
  if r24 = 0 then
  Jc_X0_runsBy_80 g x0 x1 x2 x3 x4 x5 x6 τ24
  else
  Jc_X0_runsBy_85 g x0 x1 x2 x3 x4 x5 x6 0 τ24
  else none
  else none
theorem ok_Jc_X0_runsBy_48 {D : CD} {P : CP} {K : xK} {g : CG} {Z : Option Value × CS} {x0 : Nat} {x1 : Int32} {x2 : Int32} {x3 : Int32} {x4 : Int32} {x5 : Int32} {x6 : Int32} {s0 : Int32} {s1 : Int32} {τ : CC} {o_ : ((Int32 × CC) ⊕ ((CC) ⊕ ((Int32 × CC))))} (hf : Jc_X0_runsBy_48 g x0 x1 x2 x3 x4 x5 x6 s0 s1 τ = some o_) (kc : ∀ s_ : Int32 × CC, o_ = .inl s_ → xV (wC D P) K mX0_runsBy (xQ (wC D P) K Z) (g, s_.2) 33 [(0, .ref x0), (1, .int x1), (2, .int x2), (3, .int x3), (4, .int x4), (5, .int x5), (6, .int s_.1)] []) (ke0 : ∀ e_ : CC, o_ = .inr (.inl e_) → xV (wC D P) K mX0_runsBy (xQ (wC D P) K Z) (g, e_) 196 [(0, .ref x0), (1, .int x1), (2, .int x2), (3, .int x3), (4, .int x4), (5, .int x5)] []) (kr : ∀ r_ : (Int32 × CC), o_ = .inr (.inr r_) → Z = (some (.int r_.1), (g, r_.2))) : xV (wC D P) K mX0_runsBy (xQ (wC D P) K Z) (g, τ) 48 [(0, .ref x0), (1, .int x1), (2, .int x2), (3, .int x3), (4, .int x4), (5, .int x5), (6, .int x6)] [.int s0, .int s1] := by
  unfold Jc_X0_runsBy_48 at hf
  refine xr_icmp_ge (pc := 48) 196 dX0_runsBy_48 (by decide) (fun c_ => ?_) (fun c_ => ?_)
  · have hf := xo_pos c_ hf
    refine xV_sub [0, 1, 2, 3, 4, 5] rfl ?_
    exact ke0 _ (Option.some.inj hf).symm
  · have hf := xo_neg c_ hf
    refine xr_aload_n (pc := 51) 0 dX0_runsBy_51 rfl rfl ?_
    obtain ⟨ht1, hf⟩ := xo_if hf
    obtain ⟨b2, hb2, hf⟩ := xo_bind hf
    refine yc_getFs (pc := 52) 1 10 110 (gKo ht1 (by decide)) (by decide) (by decide) (by decide) rfl rfl hb2 q496 (ys_eq rfl) rfl dX0_runsBy_52 ?_
    refine xr_aload_n (pc := 55) 0 dX0_runsBy_55 rfl rfl ?_
    obtain ⟨b3, hb3, hf⟩ := xo_bind hf
    refine yc_getFs (pc := 56) 1 9 109 (gKo ht1 (by decide)) (by decide) (by decide) (by decide) rfl rfl hb3 q495 (ys_eq rfl) rfl dX0_runsBy_56 ?_
    obtain ⟨ht4, hf⟩ := xo_if hf
    obtain ⟨r5, τ5, hτ5, hf⟩ := xo_bd hf
    refine call_f_c_X5_copy_X0_292 (pc := 59) hτ5 (gKo ht4 (by decide)) rfl (Nat.le_of_ble_eq_true rfl) (Nat.le_of_ble_eq_true rfl) (Nat.le_of_ble_eq_true rfl) dX0_runsBy_59 ?_
    refine xr_pop (pc := 62) dX0_runsBy_62 rfl ?_
    refine xr_iload_n (pc := 63) 1 dX0_runsBy_63 rfl rfl ?_
    refine xr_if_eq (pc := 64) 80 dX0_runsBy_64 (by decide) (fun c_ => ?_) (fun c_ => ?_)
    · have hf := xo_pos c_ hf
      exact ok_Jc_X0_runsBy_80 hf kc ke0 kr
    · have hf := xo_neg c_ hf
      refine xr_aload_n (pc := 67) 0 dX0_runsBy_67 rfl rfl ?_
      refine xr_aload_n (pc := 68) 0 dX0_runsBy_68 rfl rfl ?_
      refine yc_getFs (pc := 69) 1 10 110 (gKo ht1 (by decide)) (by decide) (by decide) (by decide) rfl rfl hb2 q496 (ys_eq rfl) rfl dX0_runsBy_69 ?_
      refine xr_iload (pc := 72) 5 dX0_runsBy_72 rfl ?_
      obtain ⟨r24, τ24, hτ24, hf⟩ := xo_bd hf
      refine call_f_c_X0_isFull_X0_306 (pc := 74) hτ24 (gKo ht1 (by decide)) rfl (Nat.le_of_ble_eq_true rfl) (Nat.le_of_ble_eq_true rfl) (Nat.le_of_ble_eq_true rfl) dX0_runsBy_74 ?_
      refine xr_if_ne (pc := 77) 84 dX0_runsBy_77 (by decide) (fun c_ => ?_) (fun c_ => ?_)
      · have hf := xo_pos c_ hf
        exact ok_Jc_X0_runsBy_80 hf kc ke0 kr
      · have hf := xo_neg c_ hf
        refine xr_iconst (pc := 84) dX0_runsBy_84 xci_0 ?_
        exact ok_Jc_X0_runsBy_85 hf kc ke0 kr
def Bc_X0_runsBy_33 (g : CG) (x0 : Nat) (x1 : Int32) (x2 : Int32) (x3 : Int32) (x4 : Int32) (x5 : Int32) (x6 : Int32) (τ : CC) : Option ((Int32 × CC) ⊕ ((CC) ⊕ ((Int32 × CC)))) :=
  if x1 ≤ 1 then
  Jc_X0_runsBy_48 g x0 x1 x2 x3 x4 x5 x6 1 x6 τ
  else
  if gT g x0 = 1 then
  xbd (f_c_X0_places g x0 τ) fun r26 τ26 =>
  Jc_X0_runsBy_48 g x0 x1 x2 x3 x4 x5 x6 r26 x6 τ26
  else none
theorem ok_Bc_X0_runsBy_33 {D : CD} {P : CP} {K : xK} {g : CG} {Z : Option Value × CS} {x0 : Nat} {x1 : Int32} {x2 : Int32} {x3 : Int32} {x4 : Int32} {x5 : Int32} {x6 : Int32} {τ : CC} {o_ : ((Int32 × CC) ⊕ ((CC) ⊕ ((Int32 × CC))))} (hf : Bc_X0_runsBy_33 g x0 x1 x2 x3 x4 x5 x6 τ = some o_) (kc : ∀ s_ : Int32 × CC, o_ = .inl s_ → xV (wC D P) K mX0_runsBy (xQ (wC D P) K Z) (g, s_.2) 33 [(0, .ref x0), (1, .int x1), (2, .int x2), (3, .int x3), (4, .int x4), (5, .int x5), (6, .int s_.1)] []) (ke0 : ∀ e_ : CC, o_ = .inr (.inl e_) → xV (wC D P) K mX0_runsBy (xQ (wC D P) K Z) (g, e_) 196 [(0, .ref x0), (1, .int x1), (2, .int x2), (3, .int x3), (4, .int x4), (5, .int x5)] []) (kr : ∀ r_ : (Int32 × CC), o_ = .inr (.inr r_) → Z = (some (.int r_.1), (g, r_.2))) : xV (wC D P) K mX0_runsBy (xQ (wC D P) K Z) (g, τ) 33 [(0, .ref x0), (1, .int x1), (2, .int x2), (3, .int x3), (4, .int x4), (5, .int x5), (6, .int x6)] [] := by
  unfold Bc_X0_runsBy_33 at hf
  refine xr_iload (pc := 33) 6 dX0_runsBy_33 rfl ?_
  refine xr_iload_n (pc := 35) 1 dX0_runsBy_35 rfl rfl ?_
  refine xr_iconst (pc := 36) dX0_runsBy_36 xci_1 ?_
  refine xr_icmp_le (pc := 37) 47 dX0_runsBy_37 (by decide) (fun c_ => ?_) (fun c_ => ?_)
  · have hf := xo_pos c_ hf
    refine xr_iconst (pc := 47) dX0_runsBy_47 xci_1 ?_
    exact ok_Jc_X0_runsBy_48 hf kc ke0 kr
  · have hf := xo_neg c_ hf
    refine xr_aload_n (pc := 40) 0 dX0_runsBy_40 rfl rfl ?_
    obtain ⟨ht25, hf⟩ := xo_if hf
    obtain ⟨r26, τ26, hτ26, hf⟩ := xo_bd hf
    refine call_f_c_X0_places_X0_303 (pc := 41) hτ26 (gKo ht25 (by decide)) rfl (Nat.le_of_ble_eq_true rfl) (Nat.le_of_ble_eq_true rfl) (Nat.le_of_ble_eq_true rfl) dX0_runsBy_41 ?_
    refine xr_goto (pc := 44) 48 dX0_runsBy_44 (by decide) ?_
    exact ok_Jc_X0_runsBy_48 hf kc ke0 kr
def Jc_X0_runsBy_31 (g : CG) (x0 : Nat) (x1 : Int32) (x2 : Int32) (x3 : Int32) (x4 : Int32) (x5 : Int32) (s0 : Int32) (τ : CC) : Option ((Int32 × CC) ⊕ ((CC) ⊕ ((Int32 × CC)))) :=
  (itr (fun s_ : Int32 × CC => Bc_X0_runsBy_33 g x0 x1 x2 x3 x4 x5 s_.1 s_.2) 4096 (s0, τ)).bind fun b27 =>
  (Sum.elim (fun e28 => some (.inl (x5 + 1, e28))) (fun r_ => some (.inr (.inr r_)))) b27
theorem ok_Jc_X0_runsBy_31 {D : CD} {P : CP} {K : xK} {g : CG} {Z : Option Value × CS} {x0 : Nat} {x1 : Int32} {x2 : Int32} {x3 : Int32} {x4 : Int32} {x5 : Int32} {s0 : Int32} {τ : CC} {o_ : ((Int32 × CC) ⊕ ((CC) ⊕ ((Int32 × CC))))} (hf : Jc_X0_runsBy_31 g x0 x1 x2 x3 x4 x5 s0 τ = some o_) (kc : ∀ s_ : Int32 × CC, o_ = .inl s_ → xV (wC D P) K mX0_runsBy (xQ (wC D P) K Z) (g, s_.2) 3 [(0, .ref x0), (1, .int x1), (2, .int x2), (3, .int x3), (4, .int x4), (5, .int s_.1)] []) (ke0 : ∀ e_ : CC, o_ = .inr (.inl e_) → xV (wC D P) K mX0_runsBy (xQ (wC D P) K Z) (g, e_) 202 [] []) (kr : ∀ r_ : (Int32 × CC), o_ = .inr (.inr r_) → Z = (some (.int r_.1), (g, r_.2))) : xV (wC D P) K mX0_runsBy (xQ (wC D P) K Z) (g, τ) 31 [(0, .ref x0), (1, .int x1), (2, .int x2), (3, .int x3), (4, .int x4), (5, .int x5)] [.int s0] := by
  unfold Jc_X0_runsBy_31 at hf
  refine xr_istore (pc := 31) (loc' := [(6, .int s0), (0, .ref x0), (1, .int x1), (2, .int x2), (3, .int x3), (4, .int x4), (5, .int x5)]) dX0_runsBy_31 (by decide) rfl ?_
  refine xV_sub [1, 2, 3, 4, 5, 6, 0] rfl ?_
  obtain ⟨b27, hb27, hf⟩ := xo_bind hf
  refine itr_rule (P := fun s_ : Int32 × CC => xV (wC D P) K mX0_runsBy (xQ (wC D P) K Z) (g, s_.2) 33 [(0, .ref x0), (1, .int x1), (2, .int x2), (3, .int x3), (4, .int x4), (5, .int x5), (6, .int s_.1)] []) (fun s_ o_ hB_ hc_ he_ => ok_Bc_X0_runsBy_33 hB_ hc_ (fun e28 h_ => ?_) (fun r_ h_ => ?_)) 4096 _ hb27
  · have e9_ := he_ _ h_
    subst e9_
    have hf := xo_inl hf
    refine xr_iinc (pc := 196) (loc' := [(5, .int (x5 + 1)), (0, .ref x0), (1, .int x1), (2, .int x2), (3, .int x3), (4, .int x4)]) 5 dX0_runsBy_196 rfl xci_1 (by decide) rfl ?_
    refine xr_goto (pc := 199) 3 dX0_runsBy_199 (by decide) ?_
    refine xV_sub [1, 2, 3, 4, 5, 0] rfl ?_
    exact kc _ (Option.some.inj hf).symm
  · have e9_ := he_ _ h_
    subst e9_
    have hf := xo_inr hf
    exact kr _ (Option.some.inj hf).symm
def Jc_X0_runsBy_17 (g : CG) (x0 : Nat) (x1 : Int32) (x2 : Int32) (x3 : Int32) (x4 : Int32) (x5 : Int32) (s0 : Int32) (s1 : Int32) (τ : CC) : Option ((Int32 × CC) ⊕ ((CC) ⊕ ((Int32 × CC)))) :=
  if s0 ≤ s1 then
  some (.inr (.inl τ))
  else
  if x1 ≤ 1 then
  Jc_X0_runsBy_31 g x0 x1 x2 x3 x4 x5 0 τ
  else
  Jc_X0_runsBy_31 g x0 x1 x2 x3 x4 x5 x5 τ
theorem ok_Jc_X0_runsBy_17 {D : CD} {P : CP} {K : xK} {g : CG} {Z : Option Value × CS} {x0 : Nat} {x1 : Int32} {x2 : Int32} {x3 : Int32} {x4 : Int32} {x5 : Int32} {s0 : Int32} {s1 : Int32} {τ : CC} {o_ : ((Int32 × CC) ⊕ ((CC) ⊕ ((Int32 × CC))))} (hf : Jc_X0_runsBy_17 g x0 x1 x2 x3 x4 x5 s0 s1 τ = some o_) (kc : ∀ s_ : Int32 × CC, o_ = .inl s_ → xV (wC D P) K mX0_runsBy (xQ (wC D P) K Z) (g, s_.2) 3 [(0, .ref x0), (1, .int x1), (2, .int x2), (3, .int x3), (4, .int x4), (5, .int s_.1)] []) (ke0 : ∀ e_ : CC, o_ = .inr (.inl e_) → xV (wC D P) K mX0_runsBy (xQ (wC D P) K Z) (g, e_) 202 [] []) (kr : ∀ r_ : (Int32 × CC), o_ = .inr (.inr r_) → Z = (some (.int r_.1), (g, r_.2))) : xV (wC D P) K mX0_runsBy (xQ (wC D P) K Z) (g, τ) 17 [(0, .ref x0), (1, .int x1), (2, .int x2), (3, .int x3), (4, .int x4), (5, .int x5)] [.int s0, .int s1] := by
  unfold Jc_X0_runsBy_17 at hf
  refine xr_icmp_ge (pc := 17) 202 dX0_runsBy_17 (by decide) (fun c_ => ?_) (fun c_ => ?_)
  · have hf := xo_pos c_ hf
    refine xV_sub [] rfl ?_
    exact ke0 _ (Option.some.inj hf).symm
  · have hf := xo_neg c_ hf
    refine xr_iload_n (pc := 20) 1 dX0_runsBy_20 rfl rfl ?_
    refine xr_iconst (pc := 21) dX0_runsBy_21 xci_1 ?_
    refine xr_icmp_le (pc := 22) 30 dX0_runsBy_22 (by decide) (fun c_ => ?_) (fun c_ => ?_)
    · have hf := xo_pos c_ hf
      refine xr_iconst (pc := 30) dX0_runsBy_30 xci_0 ?_
      exact ok_Jc_X0_runsBy_31 hf kc ke0 kr
    · have hf := xo_neg c_ hf
      refine xr_iload (pc := 25) 5 dX0_runsBy_25 rfl ?_
      refine xr_goto (pc := 27) 31 dX0_runsBy_27 (by decide) ?_
      exact ok_Jc_X0_runsBy_31 hf kc ke0 kr
def Bc_X0_runsBy_3 (g : CG) (x0 : Nat) (x1 : Int32) (x2 : Int32) (x3 : Int32) (x4 : Int32) (x5 : Int32) (τ : CC) : Option ((Int32 × CC) ⊕ ((CC) ⊕ ((Int32 × CC)))) :=
  if x1 ≤ 0 then
  Jc_X0_runsBy_17 g x0 x1 x2 x3 x4 x5 1 x5 τ
  else
  if gT g x0 = 1 then
  xbd (f_c_X0_places g x0 τ) fun r30 τ30 =>
  Jc_X0_runsBy_17 g x0 x1 x2 x3 x4 x5 r30 x5 τ30
  else none
theorem ok_Bc_X0_runsBy_3 {D : CD} {P : CP} {K : xK} {g : CG} {Z : Option Value × CS} {x0 : Nat} {x1 : Int32} {x2 : Int32} {x3 : Int32} {x4 : Int32} {x5 : Int32} {τ : CC} {o_ : ((Int32 × CC) ⊕ ((CC) ⊕ ((Int32 × CC))))} (hf : Bc_X0_runsBy_3 g x0 x1 x2 x3 x4 x5 τ = some o_) (kc : ∀ s_ : Int32 × CC, o_ = .inl s_ → xV (wC D P) K mX0_runsBy (xQ (wC D P) K Z) (g, s_.2) 3 [(0, .ref x0), (1, .int x1), (2, .int x2), (3, .int x3), (4, .int x4), (5, .int s_.1)] []) (ke0 : ∀ e_ : CC, o_ = .inr (.inl e_) → xV (wC D P) K mX0_runsBy (xQ (wC D P) K Z) (g, e_) 202 [] []) (kr : ∀ r_ : (Int32 × CC), o_ = .inr (.inr r_) → Z = (some (.int r_.1), (g, r_.2))) : xV (wC D P) K mX0_runsBy (xQ (wC D P) K Z) (g, τ) 3 [(0, .ref x0), (1, .int x1), (2, .int x2), (3, .int x3), (4, .int x4), (5, .int x5)] [] := by
  unfold Bc_X0_runsBy_3 at hf
  refine xr_iload (pc := 3) 5 dX0_runsBy_3 rfl ?_
  refine xr_iload_n (pc := 5) 1 dX0_runsBy_5 rfl rfl ?_
  refine xr_if_le (pc := 6) 16 dX0_runsBy_6 (by decide) (fun c_ => ?_) (fun c_ => ?_)
  · have hf := xo_pos c_ hf
    refine xr_iconst (pc := 16) dX0_runsBy_16 xci_1 ?_
    exact ok_Jc_X0_runsBy_17 hf kc ke0 kr
  · have hf := xo_neg c_ hf
    refine xr_aload_n (pc := 9) 0 dX0_runsBy_9 rfl rfl ?_
    obtain ⟨ht29, hf⟩ := xo_if hf
    obtain ⟨r30, τ30, hτ30, hf⟩ := xo_bd hf
    refine call_f_c_X0_places_X0_303 (pc := 10) hτ30 (gKo ht29 (by decide)) rfl (Nat.le_of_ble_eq_true rfl) (Nat.le_of_ble_eq_true rfl) (Nat.le_of_ble_eq_true rfl) dX0_runsBy_10 ?_
    refine xr_goto (pc := 13) 17 dX0_runsBy_13 (by decide) ?_
    exact ok_Jc_X0_runsBy_17 hf kc ke0 kr
def f_c_X0_runsBy (g : CG) (x0 : Nat) (x1 : Int32) (x2 : Int32) (x3 : Int32) (x4 : Int32) (τ : CC) : Option (Int32 × CC) :=
  (itr (fun s_ : Int32 × CC => Bc_X0_runsBy_3 g x0 x1 x2 x3 x4 s_.1 s_.2) 4096 (0, τ)).bind fun b31 =>
  (Sum.elim (fun e32 => some ((0, e32))) (fun r_ => some r_)) b31
theorem ok_f_c_X0_runsBy {D : CD} {P : CP} {K : xK} {g : CG} {Z : Option Value × CS} {x0 : Nat} {x1 : Int32} {x2 : Int32} {x3 : Int32} {x4 : Int32} {τ : CC} {o_ : (Int32 × CC)} (hf : f_c_X0_runsBy g x0 x1 x2 x3 x4 τ = some o_) (kr : ∀ r_ : (Int32 × CC), o_ = r_ → Z = (some (.int r_.1), (g, r_.2))) : xV (wC D P) K mX0_runsBy (xQ (wC D P) K Z) (g, τ) 0 [(0, .ref x0), (1, .int x1), (2, .int x2), (3, .int x3), (4, .int x4)] [] := by
  unfold f_c_X0_runsBy at hf
  refine xr_iconst (pc := 0) dX0_runsBy_0 xci_0 ?_
  refine xr_istore (pc := 1) (loc' := [(5, .int 0), (0, .ref x0), (1, .int x1), (2, .int x2), (3, .int x3), (4, .int x4)]) dX0_runsBy_1 (by decide) rfl ?_
  refine xV_sub [1, 2, 3, 4, 5, 0] rfl ?_
  obtain ⟨b31, hb31, hf⟩ := xo_bind hf
  refine itr_rule (P := fun s_ : Int32 × CC => xV (wC D P) K mX0_runsBy (xQ (wC D P) K Z) (g, s_.2) 3 [(0, .ref x0), (1, .int x1), (2, .int x2), (3, .int x3), (4, .int x4), (5, .int s_.1)] []) (fun s_ o_ hB_ hc_ he_ => ok_Bc_X0_runsBy_3 hB_ hc_ (fun e32 h_ => ?_) (fun r_ h_ => ?_)) 4096 _ hb31
  · have e9_ := he_ _ h_
    subst e9_
    have hf := xo_inl hf
    refine xr_iconst (pc := 202) dX0_runsBy_202 xci_0 ?_
    rw [kr _ (Option.some.inj hf).symm]
    exact xr_zret (pc := 203) dX0_runsBy_203 rfl xz_0
  · have e9_ := he_ _ h_
    subst e9_
    have hf := xo_inr hf
    exact kr _ (Option.some.inj hf).symm
theorem met_f_c_X0_runsBy (l : Launch) {D : CD} {P : CP} {g : CG} {x0 : Nat} {x1 : Int32} {x2 : Int32} {x3 : Int32} {x4 : Int32} {τ : CC} {o_ : (Int32 × CC)} (hf : f_c_X0_runsBy g x0 x1 x2 x3 x4 τ = some o_) : xMet (wC D P) l yX0_runsBy (ws_ yX0_runsBy cX0_runsBy 8 (some .boolean)) 83 4980 (grc g) (grs g) [.ref x0, .int x1, .int x2, .int x3, .int x4] (g, τ) (some (.int o_.1), (g, o_.2)) := 
  xMet_of (by decide) (Nat.le_of_ble_eq_true rfl) KC_moved RPC_of (fun K _ _ _ => ok_f_c_X0_runsBy hf (fun _ h => by rw [h]))
theorem hd_f_c_X0_runsBy : yX0_runsBy.cls ≠ "java/lang/invoke/MethodHandle" ∧ yX0_runsBy.cls ≠ "java/lang/invoke/VarHandle" ∧ (parseMethodDescriptor yX0_runsBy.desc).map (fun d => d.parameters.length) = some 4 := by decide +kernel
theorem call_f_c_X0_runsBy_X0_314 {D : CD} {P : CP} {K : xK} {M : xM} {Q : State → Prop} {g : CG} {c : CC} {x0 : Nat} {x1 : Int32} {x2 : Int32} {x3 : Int32} {x4 : Int32} {pc : Nat} {loc : List (Nat × Value)} {st : List Value} {r : Int32} {c1 : CC} (hf : f_c_X0_runsBy g x0 x1 x2 x3 x4 c = some (r, c1)) (hr : gK g x0 = 1) (ho : M.2.2.1 = RX0) (hfr : 84 ≤ M.2.2.2.1) (hlo : 5007 ≤ M.2.2.2.2.1) (hcat : (st.map fun v => v.category).sum ≤ 8) (d : decode M.1 pc = .ok (.invokevirtual 314, 3)) (k : xV (wC D P) K M Q (g, c1) (pc + 3) loc (.int r :: st)) : xV (wC D P) K M Q (g, c) pc loc (.int x4 :: .int x3 :: .int x2 :: .int x1 :: .ref x0 :: st) :=
  yc_callV (As := [.int x1, .int x2, .int x3, .int x4]) (rest := st) (met_f_c_X0_runsBy K.2.1 hf) (lw_V q1528 q1530 qs49 q174 q1531) ⟨rfl, hd_f_c_X0_runsBy⟩ ho hfr hlo rfl hr (by decide) (by decide) rfl rfl hcat d k
abbrev mX0_works : xM := (cX0_works, 6, RX0, 84, 5040, (some .int), "works")
def Bc_X0_works_25 (g : CG) (x0 : Nat) (x1 : Int32) (x2 : Int32) (x3 : Int32) (x4 : Int32) (x5 : Int32) (τ : CC) : Option ((Int32 × CC) ⊕ ((Int32 × CC) ⊕ ((Int32 × CC)))) :=
  if (2 : Int32) < x5 then
  some (.inr (.inr ((-1), τ)))
  else
  if gT g x0 = 1 then
  xbd (f_c_X0_runsBy g x0 x5 x1 x2 x3 τ) fun r5 τ5 =>
  if r5 = 0 then
  some (.inl (x5 + 1, τ5))
  else
  some (.inr (.inl (x5, τ5)))
  else none
theorem ok_Bc_X0_works_25 {D : CD} {P : CP} {K : xK} {g : CG} {Z : Option Value × CS} {x0 : Nat} {x1 : Int32} {x2 : Int32} {x3 : Int32} {x4 : Int32} {x5 : Int32} {τ : CC} {o_ : ((Int32 × CC) ⊕ ((Int32 × CC) ⊕ ((Int32 × CC))))} (hf : Bc_X0_works_25 g x0 x1 x2 x3 x4 x5 τ = some o_) (kc : ∀ s_ : Int32 × CC, o_ = .inl s_ → xV (wC D P) K mX0_works (xQ (wC D P) K Z) (g, s_.2) 25 [(0, .ref x0), (1, .int x1), (2, .int x2), (3, .int x3), (4, .int x4), (5, .int s_.1)] []) (ke0 : ∀ e_ : Int32 × CC, o_ = .inr (.inl e_) → xV (wC D P) K mX0_works (xQ (wC D P) K Z) (g, e_.2) 46 [(0, .ref x0), (4, .int x4), (5, .int e_.1)] []) (kr : ∀ r_ : (Int32 × CC), o_ = .inr (.inr r_) → Z = (some (.int r_.1), (g, r_.2))) : xV (wC D P) K mX0_works (xQ (wC D P) K Z) (g, τ) 25 [(0, .ref x0), (1, .int x1), (2, .int x2), (3, .int x3), (4, .int x4), (5, .int x5)] [] := by
  unfold Bc_X0_works_25 at hf
  refine xr_iload (pc := 25) 5 dX0_works_25 rfl ?_
  refine xr_iconst (pc := 27) dX0_works_27 xci_2 ?_
  refine xr_icmp_gt (pc := 28) 113 dX0_works_28 (by decide) (fun c_ => ?_) (fun c_ => ?_)
  · have hf := xo_pos c_ hf
    refine xr_iconst (pc := 113) dX0_works_113 xci_m1 ?_
    rw [kr _ (Option.some.inj hf).symm]
    exact xr_iret (pc := 114) dX0_works_114 rfl
  · have hf := xo_neg c_ hf
    refine xr_aload_n (pc := 31) 0 dX0_works_31 rfl rfl ?_
    refine xr_iload (pc := 32) 5 dX0_works_32 rfl ?_
    refine xr_iload_n (pc := 34) 1 dX0_works_34 rfl rfl ?_
    refine xr_iload_n (pc := 35) 2 dX0_works_35 rfl rfl ?_
    refine xr_iload_n (pc := 36) 3 dX0_works_36 rfl rfl ?_
    obtain ⟨ht4, hf⟩ := xo_if hf
    obtain ⟨r5, τ5, hτ5, hf⟩ := xo_bd hf
    refine call_f_c_X0_runsBy_X0_314 (pc := 37) hτ5 (gKo ht4 (by decide)) rfl (Nat.le_of_ble_eq_true rfl) (Nat.le_of_ble_eq_true rfl) (Nat.le_of_ble_eq_true rfl) dX0_works_37 ?_
    refine xr_if_ne (pc := 40) 46 dX0_works_40 (by decide) (fun c_ => ?_) (fun c_ => ?_)
    · have hf := xo_pos c_ hf
      refine xr_goto (pc := 43) 107 dX0_works_43 (by decide) ?_
      refine xr_iinc (pc := 107) (loc' := [(5, .int (x5 + 1)), (0, .ref x0), (1, .int x1), (2, .int x2), (3, .int x3), (4, .int x4)]) 5 dX0_works_107 rfl xci_1 (by decide) rfl ?_
      refine xr_goto (pc := 110) 25 dX0_works_110 (by decide) ?_
      refine xV_sub [1, 2, 3, 4, 5, 0] rfl ?_
      exact kc _ (Option.some.inj hf).symm
    · have hf := xo_neg c_ hf
      refine xV_sub [0, 4, 5] rfl ?_
      exact ke0 _ (Option.some.inj hf).symm
def f_c_X0_works (g : CG) (x0 : Nat) (x1 : Int32) (x2 : Int32) (x3 : Int32) (x4 : Int32) (τ : CC) : Option (Int32 × CC) :=
  if gT g x0 = 1 then
  xbd (f_c_X0_isCell g x0 x1 x2 τ) fun r2 τ2 =>
  if r2 = 0 then
  some (((-1), τ2))
  else
  xbd (f_c_X0_isAhead g x0 x3 1 20 τ2) fun r3 τ3 =>
  if r3 = 0 then
  some (((-1), τ3))
  else
  (itr (fun s_ : Int32 × CC => Bc_X0_works_25 g x0 x1 x2 x3 x4 s_.1 s_.2) 4096 (0, τ3)).bind fun b6 =>
  (Sum.elim (fun e7 => if x4 = (-1) then
  some ((e7.1, e7.2))
  else
  xbd (f_c_X0_is g x4 0 (e7.1 - 1) e7.2) fun r8 τ8 =>
  if r8 = 0 then
  some (((-1), τ8))
  else
  (gR g 111 x0).bind fun b9 =>
  if gT g b9 = 100 then
  if xin x4 (gN g b9) = true then
  (cR τ8 100 x0).bind fun b11 =>
  if gT g b11 = 2 then
  if ¬ (cI τ8 202 b11) = 0 then
  if xin x4 (gN g b9) = true then
  (cR τ8 100 x0).bind fun b13 =>
  if gT g b13 = 2 then
  if ¬ (cI τ8 202 b13) = 0 then
  some (((8 * ((cA τ8 b9 x4.toNatClampNeg) / (cI τ8 202 b11))) + ((cA τ8 b9 x4.toNatClampNeg) - (cA τ8 b9 x4.toNatClampNeg) / (cI τ8 202 b13) * (cI τ8 202 b13)), τ8))
  else none
  else none
  else none
  else none
  else none
  else none
  else none) (fun r_ => some r_)) b6
  else none
theorem ok_f_c_X0_works {D : CD} {P : CP} {K : xK} {g : CG} {Z : Option Value × CS} {x0 : Nat} {x1 : Int32} {x2 : Int32} {x3 : Int32} {x4 : Int32} {τ : CC} {o_ : (Int32 × CC)} (hf : f_c_X0_works g x0 x1 x2 x3 x4 τ = some o_) (kr : ∀ r_ : (Int32 × CC), o_ = r_ → Z = (some (.int r_.1), (g, r_.2))) : xV (wC D P) K mX0_works (xQ (wC D P) K Z) (g, τ) 0 [(0, .ref x0), (1, .int x1), (2, .int x2), (3, .int x3), (4, .int x4)] [] := by
  unfold f_c_X0_works at hf
  refine xr_aload_n (pc := 0) 0 dX0_works_0 rfl rfl ?_
  refine xr_iload_n (pc := 1) 1 dX0_works_1 rfl rfl ?_
  refine xr_iload_n (pc := 2) 2 dX0_works_2 rfl rfl ?_
  obtain ⟨ht1, hf⟩ := xo_if hf
  obtain ⟨r2, τ2, hτ2, hf⟩ := xo_bd hf
  refine call_f_c_X0_isCell_X0_250 (pc := 3) hτ2 (gKo ht1 (by decide)) rfl (Nat.le_of_ble_eq_true rfl) (Nat.le_of_ble_eq_true rfl) (Nat.le_of_ble_eq_true rfl) dX0_works_3 ?_
  refine xr_if_eq (pc := 6) 20 dX0_works_6 (by decide) (fun c_ => ?_) (fun c_ => ?_)
  · have hf := xo_pos c_ hf
    refine xr_iconst (pc := 20) dX0_works_20 xci_m1 ?_
    rw [kr _ (Option.some.inj hf).symm]
    exact xr_iret (pc := 21) dX0_works_21 rfl
  · have hf := xo_neg c_ hf
    refine xr_aload_n (pc := 9) 0 dX0_works_9 rfl rfl ?_
    refine xr_iload_n (pc := 10) 3 dX0_works_10 rfl rfl ?_
    refine xr_iconst (pc := 11) dX0_works_11 xci_1 ?_
    refine xr_bipush (pc := 12) dX0_works_12 xcb_20 ?_
    obtain ⟨r3, τ3, hτ3, hf⟩ := xo_bd hf
    refine call_f_c_X0_isAhead_X0_289 (pc := 14) hτ3 (gKo ht1 (by decide)) rfl (Nat.le_of_ble_eq_true rfl) (Nat.le_of_ble_eq_true rfl) (Nat.le_of_ble_eq_true rfl) dX0_works_14 ?_
    refine xr_if_ne (pc := 17) 22 dX0_works_17 (by decide) (fun c_ => ?_) (fun c_ => ?_)
    · have hf := xo_pos c_ hf
      refine xr_iconst (pc := 20) dX0_works_20 xci_m1 ?_
      rw [kr _ (Option.some.inj hf).symm]
      exact xr_iret (pc := 21) dX0_works_21 rfl
    · have hf := xo_neg c_ hf
      refine xr_iconst (pc := 22) dX0_works_22 xci_0 ?_
      refine xr_istore (pc := 23) (loc' := [(5, .int 0), (0, .ref x0), (1, .int x1), (2, .int x2), (3, .int x3), (4, .int x4)]) dX0_works_23 (by decide) rfl ?_
      refine xV_sub [1, 2, 3, 4, 5, 0] rfl ?_
      obtain ⟨b6, hb6, hf⟩ := xo_bind hf
      refine itr_rule (P := fun s_ : Int32 × CC => xV (wC D P) K mX0_works (xQ (wC D P) K Z) (g, s_.2) 25 [(0, .ref x0), (1, .int x1), (2, .int x2), (3, .int x3), (4, .int x4), (5, .int s_.1)] []) (fun s_ o_ hB_ hc_ he_ => ok_Bc_X0_works_25 hB_ hc_ (fun e7 h_ => ?_) (fun r_ h_ => ?_)) 4096 _ hb6
      · have e9_ := he_ _ h_
        subst e9_
        have hf := xo_inl hf
        refine xr_iload (pc := 46) 1 dX0_works_46 rfl ?_
        refine xr_iconst (pc := 48) dX0_works_48 xci_m1 ?_
        refine xr_icmp_ne (pc := 49) 55 dX0_works_49 (by decide) (fun c_ => ?_) (fun c_ => ?_)
        · have hf := xo_pos c_ hf
          refine xr_iload (pc := 52) 2 dX0_works_52 rfl ?_
          rw [kr _ (Option.some.inj hf).symm]
          exact xr_iret (pc := 54) dX0_works_54 rfl
        · have hf := xo_neg c_ hf
          refine xr_iload (pc := 55) 1 dX0_works_55 rfl ?_
          refine xr_iconst (pc := 57) dX0_works_57 xci_0 ?_
          refine xr_iload (pc := 58) 2 dX0_works_58 rfl ?_
          refine xr_iconst (pc := 60) dX0_works_60 xci_1 ?_
          refine xr_isub (pc := 61) dX0_works_61 ?_
          obtain ⟨r8, τ8, hτ8, hf⟩ := xo_bd hf
          refine call_f_c_X0_is_X0_176 (pc := 62) hτ8 rfl (Nat.le_of_ble_eq_true rfl) (Nat.le_of_ble_eq_true rfl) (Nat.le_of_ble_eq_true rfl) dX0_works_62 ?_
          refine xr_if_eq (pc := 65) 105 dX0_works_65 (by decide) (fun c_ => ?_) (fun c_ => ?_)
          · have hf := xo_pos c_ hf
            refine xr_iconst (pc := 105) dX0_works_105 xci_m1 ?_
            rw [kr _ (Option.some.inj hf).symm]
            exact xr_iret (pc := 106) dX0_works_106 rfl
          · have hf := xo_neg c_ hf
            refine xr_bipush (pc := 68) dX0_works_68 xcb_8 ?_
            refine xr_aload_n (pc := 70) 0 dX0_works_70 rfl rfl ?_
            obtain ⟨b9, hb9, hf⟩ := xo_bind hf
            refine yc_getFs (pc := 71) 1 11 111 (gKo ht1 (by decide)) (by decide) (by decide) (by decide) rfl rfl hb9 q497 (ys_eq rfl) rfl dX0_works_71 ?_
            refine xr_iload (pc := 74) 1 dX0_works_74 rfl ?_
            obtain ⟨ht10, hf⟩ := xo_if hf
            obtain ⟨hi_, hf⟩ := xo_if hf
            refine yc_iald (pc := 76) (gKo ht10 (by decide)) hi_ dX0_works_76 ?_
            refine xr_aload_n (pc := 77) 0 dX0_works_77 rfl rfl ?_
            obtain ⟨b11, hb11, hf⟩ := xo_bind hf
            refine yc_getRs (pc := 78) 1 0 100 (gKo ht1 (by decide)) (by decide) (by decide) (by decide) rfl rfl hb11 q484 (ys_eq rfl) rfl dX0_works_78 ?_
            obtain ⟨ht12, hf⟩ := xo_if hf
            refine yc_getIN (pc := 81) 2 2 202 (gKo ht12 (by decide)) (by decide) (by decide) (by decide) rfl rfl q263 (ys_eq rfl) rfl dX0_works_81 ?_
            obtain ⟨hz_, hf⟩ := xo_if hf
            refine xr_idiv (pc := 84) dX0_works_84 hz_ ?_
            refine xr_imul (pc := 85) dX0_works_85 ?_
            refine xr_aload_n (pc := 86) 0 dX0_works_86 rfl rfl ?_
            refine yc_getFs (pc := 87) 1 11 111 (gKo ht1 (by decide)) (by decide) (by decide) (by decide) rfl rfl hb9 q497 (ys_eq rfl) rfl dX0_works_87 ?_
            refine xr_iload (pc := 90) 1 dX0_works_90 rfl ?_
            obtain ⟨hi_, hf⟩ := xo_if hf
            refine yc_iald (pc := 92) (gKo ht10 (by decide)) hi_ dX0_works_92 ?_
            refine xr_aload_n (pc := 93) 0 dX0_works_93 rfl rfl ?_
            obtain ⟨b13, hb13, hf⟩ := xo_bind hf
            refine yc_getRs (pc := 94) 1 0 100 (gKo ht1 (by decide)) (by decide) (by decide) (by decide) rfl rfl hb13 q484 (ys_eq rfl) rfl dX0_works_94 ?_
            obtain ⟨ht14, hf⟩ := xo_if hf
            refine yc_getIN (pc := 97) 2 2 202 (gKo ht14 (by decide)) (by decide) (by decide) (by decide) rfl rfl q263 (ys_eq rfl) rfl dX0_works_97 ?_
            obtain ⟨hz_, hf⟩ := xo_if hf
            refine xr_irem (pc := 100) dX0_works_100 hz_ ?_
            refine xr_iadd (pc := 101) dX0_works_101 ?_
            refine xr_goto (pc := 102) 106 dX0_works_102 (by decide) ?_
            rw [kr _ (Option.some.inj hf).symm]
            exact xr_iret (pc := 106) dX0_works_106 rfl
      · have e9_ := he_ _ h_
        subst e9_
        have hf := xo_inr hf
        exact kr _ (Option.some.inj hf).symm
theorem met_f_c_X0_works (l : Launch) {D : CD} {P : CP} {g : CG} {x0 : Nat} {x1 : Int32} {x2 : Int32} {x3 : Int32} {x4 : Int32} {τ : CC} {o_ : (Int32 × CC)} (hf : f_c_X0_works g x0 x1 x2 x3 x4 τ = some o_) : xMet (wC D P) l yX0_works (ws_ yX0_works cX0_works 6 (some .int)) 84 5040 (grc g) (grs g) [.ref x0, .int x1, .int x2, .int x3, .int x4] (g, τ) (some (.int o_.1), (g, o_.2)) := 
  xMet_of (by decide) (Nat.le_of_ble_eq_true rfl) KC_moved RPC_of (fun K _ _ _ => ok_f_c_X0_works hf (fun _ h => by rw [h]))
abbrev mX0_isRest : xM := (cX0_isRest, 3, RX0, 2, 120, (some .boolean), "isRest")
def Bc_X0_isRest_2 (g : CG) (x0 : Nat) (x1 : Int32) (x2 : Int32) (τ : CC) : Option ((Int32 × CC) ⊕ ((CC) ⊕ ((Int32 × CC)))) :=
  if gT g x0 = 1 then
  xbd (f_c_X0_lords g x0 τ) fun r2 τ2 =>
  if r2 ≤ x2 then
  some (.inr (.inl τ2))
  else
  (gR g 112 x0).bind fun b3 =>
  if gT g b3 = 105 then
  if xin (x1 ^^^ ((1 : Int32) <<< (x2 &&& 31))) (gN g b3) = true then
  if gT g (gA g b3 (x1 ^^^ ((1 : Int32) <<< (x2 &&& 31))).toNatClampNeg) = 100 then
  if xin x2 (gN g (gA g b3 (x1 ^^^ ((1 : Int32) <<< (x2 &&& 31))).toNatClampNeg)) = true then
  if xin x1 (gN g b3) = true then
  if gT g (gA g b3 x1.toNatClampNeg) = 100 then
  if xin x2 (gN g (gA g b3 x1.toNatClampNeg)) = true then
  if (cA τ2 (gA g b3 (x1 ^^^ ((1 : Int32) <<< (x2 &&& 31))).toNatClampNeg) x2.toNatClampNeg) ≤ (cA τ2 (gA g b3 x1.toNatClampNeg) x2.toNatClampNeg) then
  some (.inl (x2 + 1, τ2))
  else
  some (.inr (.inr (0, τ2)))
  else none
  else none
  else none
  else none
  else none
  else none
  else none
  else none
theorem ok_Bc_X0_isRest_2 {D : CD} {P : CP} {K : xK} {g : CG} {Z : Option Value × CS} {x0 : Nat} {x1 : Int32} {x2 : Int32} {τ : CC} {o_ : ((Int32 × CC) ⊕ ((CC) ⊕ ((Int32 × CC))))} (hf : Bc_X0_isRest_2 g x0 x1 x2 τ = some o_) (kc : ∀ s_ : Int32 × CC, o_ = .inl s_ → xV (wC D P) K mX0_isRest (xQ (wC D P) K Z) (g, s_.2) 2 [(0, .ref x0), (1, .int x1), (2, .int s_.1)] []) (ke0 : ∀ e_ : CC, o_ = .inr (.inl e_) → xV (wC D P) K mX0_isRest (xQ (wC D P) K Z) (g, e_) 41 [] []) (kr : ∀ r_ : (Int32 × CC), o_ = .inr (.inr r_) → Z = (some (.int r_.1), (g, r_.2))) : xV (wC D P) K mX0_isRest (xQ (wC D P) K Z) (g, τ) 2 [(0, .ref x0), (1, .int x1), (2, .int x2)] [] := by
  unfold Bc_X0_isRest_2 at hf
  refine xr_iload_n (pc := 2) 2 dX0_isRest_2 rfl rfl ?_
  refine xr_aload_n (pc := 3) 0 dX0_isRest_3 rfl rfl ?_
  obtain ⟨ht1, hf⟩ := xo_if hf
  obtain ⟨r2, τ2, hτ2, hf⟩ := xo_bd hf
  refine call_f_c_X0_lords_X0_180 (pc := 4) hτ2 (gKo ht1 (by decide)) rfl (Nat.le_of_ble_eq_true rfl) (Nat.le_of_ble_eq_true rfl) (Nat.le_of_ble_eq_true rfl) dX0_isRest_4 ?_
  refine xr_icmp_ge (pc := 7) 41 dX0_isRest_7 (by decide) (fun c_ => ?_) (fun c_ => ?_)
  · have hf := xo_pos c_ hf
    refine xV_sub [] rfl ?_
    exact ke0 _ (Option.some.inj hf).symm
  · have hf := xo_neg c_ hf
    refine xr_aload_n (pc := 10) 0 dX0_isRest_10 rfl rfl ?_
    obtain ⟨b3, hb3, hf⟩ := xo_bind hf
    refine yc_getFs (pc := 11) 1 12 112 (gKo ht1 (by decide)) (by decide) (by decide) (by decide) rfl rfl hb3 q498 (ys_eq rfl) rfl dX0_isRest_11 ?_
    refine xr_iload_n (pc := 14) 1 dX0_isRest_14 rfl rfl ?_
    refine xr_iconst (pc := 15) dX0_isRest_15 xci_1 ?_
    refine xr_iload_n (pc := 16) 2 dX0_isRest_16 rfl rfl ?_
    refine xr_ishl (pc := 17) dX0_isRest_17 ?_
    refine xr_ixor (pc := 18) dX0_isRest_18 ?_
    obtain ⟨ht4, hf⟩ := xo_if hf
    obtain ⟨hi_, hf⟩ := xo_if hf
    refine yc_aaldF (pc := 19) 105 (gKo ht4 (by decide)) (by decide) (by decide) rfl rfl hi_ dX0_isRest_19 ?_
    refine xr_iload_n (pc := 20) 2 dX0_isRest_20 rfl rfl ?_
    obtain ⟨ht5, hf⟩ := xo_if hf
    obtain ⟨hi_, hf⟩ := xo_if hf
    refine yc_iald (pc := 21) (gKo ht5 (by decide)) hi_ dX0_isRest_21 ?_
    refine xr_aload_n (pc := 22) 0 dX0_isRest_22 rfl rfl ?_
    refine yc_getFs (pc := 23) 1 12 112 (gKo ht1 (by decide)) (by decide) (by decide) (by decide) rfl rfl hb3 q498 (ys_eq rfl) rfl dX0_isRest_23 ?_
    refine xr_iload_n (pc := 26) 1 dX0_isRest_26 rfl rfl ?_
    obtain ⟨hi_, hf⟩ := xo_if hf
    refine yc_aaldF (pc := 27) 105 (gKo ht4 (by decide)) (by decide) (by decide) rfl rfl hi_ dX0_isRest_27 ?_
    refine xr_iload_n (pc := 28) 2 dX0_isRest_28 rfl rfl ?_
    obtain ⟨ht6, hf⟩ := xo_if hf
    obtain ⟨hi_, hf⟩ := xo_if hf
    refine yc_iald (pc := 29) (gKo ht6 (by decide)) hi_ dX0_isRest_29 ?_
    refine xr_icmp_le (pc := 30) 35 dX0_isRest_30 (by decide) (fun c_ => ?_) (fun c_ => ?_)
    · have hf := xo_pos c_ hf
      refine xr_iinc (pc := 35) (loc' := [(2, .int (x2 + 1)), (0, .ref x0), (1, .int x1)]) 2 dX0_isRest_35 rfl xci_1 (by decide) rfl ?_
      refine xr_goto (pc := 38) 2 dX0_isRest_38 (by decide) ?_
      refine xV_sub [1, 2, 0] rfl ?_
      exact kc _ (Option.some.inj hf).symm
    · have hf := xo_neg c_ hf
      refine xr_iconst (pc := 33) dX0_isRest_33 xci_0 ?_
      rw [kr _ (Option.some.inj hf).symm]
      exact xr_zret (pc := 34) dX0_isRest_34 rfl xz_0
def f_c_X0_isRest (g : CG) (x0 : Nat) (x1 : Int32) (τ : CC) : Option (Int32 × CC) :=
  (itr (fun s_ : Int32 × CC => Bc_X0_isRest_2 g x0 x1 s_.1 s_.2) 4096 (0, τ)).bind fun b7 =>
  (Sum.elim (fun e8 => some ((1, e8))) (fun r_ => some r_)) b7
theorem ok_f_c_X0_isRest {D : CD} {P : CP} {K : xK} {g : CG} {Z : Option Value × CS} {x0 : Nat} {x1 : Int32} {τ : CC} {o_ : (Int32 × CC)} (hf : f_c_X0_isRest g x0 x1 τ = some o_) (kr : ∀ r_ : (Int32 × CC), o_ = r_ → Z = (some (.int r_.1), (g, r_.2))) : xV (wC D P) K mX0_isRest (xQ (wC D P) K Z) (g, τ) 0 [(0, .ref x0), (1, .int x1)] [] := by
  unfold f_c_X0_isRest at hf
  refine xr_iconst (pc := 0) dX0_isRest_0 xci_0 ?_
  refine xr_istore_n (pc := 1) (loc' := [(2, .int 0), (0, .ref x0), (1, .int x1)]) dX0_isRest_1 rfl (by decide) rfl ?_
  refine xV_sub [1, 2, 0] rfl ?_
  obtain ⟨b7, hb7, hf⟩ := xo_bind hf
  refine itr_rule (P := fun s_ : Int32 × CC => xV (wC D P) K mX0_isRest (xQ (wC D P) K Z) (g, s_.2) 2 [(0, .ref x0), (1, .int x1), (2, .int s_.1)] []) (fun s_ o_ hB_ hc_ he_ => ok_Bc_X0_isRest_2 hB_ hc_ (fun e8 h_ => ?_) (fun r_ h_ => ?_)) 4096 _ hb7
  · have e9_ := he_ _ h_
    subst e9_
    have hf := xo_inl hf
    refine xr_iconst (pc := 41) dX0_isRest_41 xci_1 ?_
    rw [kr _ (Option.some.inj hf).symm]
    exact xr_zret (pc := 42) dX0_isRest_42 rfl xz_1
  · have e9_ := he_ _ h_
    subst e9_
    have hf := xo_inr hf
    exact kr _ (Option.some.inj hf).symm
theorem met_f_c_X0_isRest (l : Launch) {D : CD} {P : CP} {g : CG} {x0 : Nat} {x1 : Int32} {τ : CC} {o_ : (Int32 × CC)} (hf : f_c_X0_isRest g x0 x1 τ = some o_) : xMet (wC D P) l yX0_isRest (ws_ yX0_isRest cX0_isRest 3 (some .boolean)) 2 120 (grc g) (grs g) [.ref x0, .int x1] (g, τ) (some (.int o_.1), (g, o_.2)) := 
  xMet_of (by decide) (Nat.le_of_ble_eq_true rfl) KC_moved RPC_of (fun K _ _ _ => ok_f_c_X0_isRest hf (fun _ h => by rw [h]))
