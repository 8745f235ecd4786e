set_option maxRecDepth 100000
theorem hd_f_c_X0_ran : yX0_ran.cls ≠ "java/lang/invoke/MethodHandle" ∧ yX0_ran.cls ≠ "java/lang/invoke/VarHandle" ∧ (parseMethodDescriptor yX0_ran.desc).map (fun d => d.parameters.length) = some 1 := by decide +kernel
theorem call_f_c_X0_ran_X0_366 {D : CD} {P : CP} {K : xK} {M : xM} {Q : State → Prop} {g : CG} {c : CC} {x0 : Nat} {x1 : Int32} {pc : Nat} {loc : List (Nat × Value)} {st : List Value} {r : Int32} {c1 : CC} (hf : f_c_X0_ran g x0 x1 c = some (r, c1)) (hr : gK g x0 = 1) (ho : M.2.2.1 = RX0) (hfr : 84 ≤ M.2.2.2.1) (hlo : 5003 ≤ M.2.2.2.2.1) (hcat : (st.map fun v => v.category).sum ≤ 8) (d : decode M.1 pc = .ok (.invokevirtual 366, 3)) (k : xV (wC D P) K M Q (g, c1) (pc + 3) loc (.int r :: st)) : xV (wC D P) K M Q (g, c) pc loc (.int x1 :: .ref x0 :: st) :=
  yc_callV (As := [.int x1]) (rest := st) (met_f_c_X0_ran K.2.1 hf) (lw_V q1617 q1606 q1607 q174 q1608) ⟨rfl, hd_f_c_X0_ran⟩ ho hfr hlo rfl hr (by decide) (by decide) rfl rfl hcat d k
abbrev mX0_tells : xM := (cX0_tells, 11, RX0, 84, 5040, (some .int), "tells")
def Jc_X0_tells_128 (g : CG) (x0 : Nat) (x2 : Int32) (x3 : Int32) (x4 : Int32) (x5 : Int32) (x6 : Int32) (x7 : Int32) (x8 : Int32) (x10 : Int32) (s0 : Int32) (s1 : Int32) (τ : CC) : Option ((Int32 × Int32 × CC) ⊕ ((Int32 × CC))) :=
  some (.inl (s1 + s0, x10 + 1, τ))
theorem ok_Jc_X0_tells_128 {D : CD} {P : CP} {K : xK} {g : CG} {Z : Option Value × CS} {x0 : Nat} {x2 : Int32} {x3 : Int32} {x4 : Int32} {x5 : Int32} {x6 : Int32} {x7 : Int32} {x8 : Int32} {x10 : Int32} {s0 : Int32} {s1 : Int32} {τ : CC} {o_ : ((Int32 × Int32 × CC) ⊕ ((Int32 × CC)))} (hf : Jc_X0_tells_128 g x0 x2 x3 x4 x5 x6 x7 x8 x10 s0 s1 τ = some o_) (kc : ∀ s_ : Int32 × Int32 × CC, o_ = .inl s_ → xV (wC D P) K mX0_tells (xQ (wC D P) K Z) (g, s_.2.2) 68 [(0, .ref x0), (2, .int x2), (3, .int x3), (4, .int x4), (5, .int x5), (6, .int x6), (7, .int x7), (8, .int x8), (9, .int s_.1), (10, .int s_.2.1)] []) (ke0 : ∀ e_ : Int32 × CC, o_ = .inr e_ → xV (wC D P) K mX0_tells (xQ (wC D P) K Z) (g, e_.2) 137 [(0, .ref x0), (2, .int x2), (3, .int x3), (4, .int x4), (5, .int x5), (6, .int x6), (7, .int x7), (8, .int x8), (9, .int e_.1)] []) : xV (wC D P) K mX0_tells (xQ (wC D P) K Z) (g, τ) 128 [(0, .ref x0), (2, .int x2), (3, .int x3), (4, .int x4), (5, .int x5), (6, .int x6), (7, .int x7), (8, .int x8), (10, .int x10)] [.int s0, .int s1] := by
  unfold Jc_X0_tells_128 at hf
  refine xr_iadd (pc := 128) dX0_tells_128 ?_
  refine xr_istore (pc := 129) (loc' := [(9, .int (s1 + s0)), (0, .ref x0), (2, .int x2), (3, .int x3), (4, .int x4), (5, .int x5), (6, .int x6), (7, .int x7), (8, .int x8), (10, .int x10)]) dX0_tells_129 (by decide) rfl ?_
  refine xr_iinc (pc := 131) (loc' := [(10, .int (x10 + 1)), (9, .int (s1 + s0)), (0, .ref x0), (2, .int x2), (3, .int x3), (4, .int x4), (5, .int x5), (6, .int x6), (7, .int x7), (8, .int x8)]) 9 dX0_tells_131 rfl xci_1 (by decide) rfl ?_
  refine xr_goto (pc := 134) 68 dX0_tells_134 (by decide) ?_
  refine xV_sub [2, 3, 4, 5, 6, 7, 8, 9, 1, 0] rfl ?_
  exact kc _ (Option.some.inj hf).symm
def Jc_X0_tells_127 (g : CG) (x0 : Nat) (x2 : Int32) (x3 : Int32) (x4 : Int32) (x5 : Int32) (x6 : Int32) (x7 : Int32) (x8 : Int32) (x10 : Int32) (s0 : Int32) (τ : CC) : Option ((Int32 × Int32 × CC) ⊕ ((Int32 × CC))) :=
  Jc_X0_tells_128 g x0 x2 x3 x4 x5 x6 x7 x8 x10 0 s0 τ
theorem ok_Jc_X0_tells_127 {D : CD} {P : CP} {K : xK} {g : CG} {Z : Option Value × CS} {x0 : Nat} {x2 : Int32} {x3 : Int32} {x4 : Int32} {x5 : Int32} {x6 : Int32} {x7 : Int32} {x8 : Int32} {x10 : Int32} {s0 : Int32} {τ : CC} {o_ : ((Int32 × Int32 × CC) ⊕ ((Int32 × CC)))} (hf : Jc_X0_tells_127 g x0 x2 x3 x4 x5 x6 x7 x8 x10 s0 τ = some o_) (kc : ∀ s_ : Int32 × Int32 × CC, o_ = .inl s_ → xV (wC D P) K mX0_tells (xQ (wC D P) K Z) (g, s_.2.2) 68 [(0, .ref x0), (2, .int x2), (3, .int x3), (4, .int x4), (5, .int x5), (6, .int x6), (7, .int x7), (8, .int x8), (9, .int s_.1), (10, .int s_.2.1)] []) (ke0 : ∀ e_ : Int32 × CC, o_ = .inr e_ → xV (wC D P) K mX0_tells (xQ (wC D P) K Z) (g, e_.2) 137 [(0, .ref x0), (2, .int x2), (3, .int x3), (4, .int x4), (5, .int x5), (6, .int x6), (7, .int x7), (8, .int x8), (9, .int e_.1)] []) : xV (wC D P) K mX0_tells (xQ (wC D P) K Z) (g, τ) 127 [(0, .ref x0), (2, .int x2), (3, .int x3), (4, .int x4), (5, .int x5), (6, .int x6), (7, .int x7), (8, .int x8), (10, .int x10)] [.int s0] := by
  unfold Jc_X0_tells_127 at hf
  refine xr_iconst (pc := 127) dX0_tells_127 xci_0 ?_
  exact ok_Jc_X0_tells_128 hf kc ke0
def Bc_X0_tells_68 (g : CG) (x0 : Nat) (x2 : Int32) (x3 : Int32) (x4 : Int32) (x5 : Int32) (x6 : Int32) (x7 : Int32) (x8 : Int32) (x9 : Int32) (x10 : Int32) (τ : CC) : Option ((Int32 × Int32 × CC) ⊕ ((Int32 × CC))) :=
  if gT g x0 = 1 then
  (cR τ 100 x0).bind fun b10 =>
  if gT g b10 = 2 then
  if (cI τ 202 b10) ≤ x10 then
  some (.inr (x9, τ))
  else
  xbd (f_c_X0_has g x3 x8 τ) fun r12 τ12 =>
  if r12 = 0 then
  Jc_X0_tells_127 g x0 x2 x3 x4 x5 x6 x7 x8 x10 x9 τ12
  else
  xbd (f_c_X0_has g x3 x10 τ12) fun r13 τ13 =>
  if r13 = 0 then
  Jc_X0_tells_127 g x0 x2 x3 x4 x5 x6 x7 x8 x10 x9 τ13
  else
  (gR g 119 x0).bind fun b14 =>
  if gT g b14 = 105 then
  if xin x8 (gN g b14) = true then
  if gT g (gA g b14 x8.toNatClampNeg) = 100 then
  if xin x6 (gN g (gA g b14 x8.toNatClampNeg)) = true then
  if xin x10 (gN g b14) = true then
  if gT g (gA g b14 x10.toNatClampNeg) = 100 then
  if xin x6 (gN g (gA g b14 x10.toNatClampNeg)) = true then
  if (cA τ13 (gA g b14 x8.toNatClampNeg) x6.toNatClampNeg) = (cA τ13 (gA g b14 x10.toNatClampNeg) x6.toNatClampNeg) then
  Jc_X0_tells_128 g x0 x2 x3 x4 x5 x6 x7 x8 x10 1 x9 τ13
  else
  Jc_X0_tells_127 g x0 x2 x3 x4 x5 x6 x7 x8 x10 x9 τ13
  else none
  else none
  else none
  else none
  else none
  else none
  else none
  else none
  else none
theorem ok_Bc_X0_tells_68 {D : CD} {P : CP} {K : xK} {g : CG} {Z : Option Value × CS} {x0 : Nat} {x2 : Int32} {x3 : Int32} {x4 : Int32} {x5 : Int32} {x6 : Int32} {x7 : Int32} {x8 : Int32} {x9 : Int32} {x10 : Int32} {τ : CC} {o_ : ((Int32 × Int32 × CC) ⊕ ((Int32 × CC)))} (hf : Bc_X0_tells_68 g x0 x2 x3 x4 x5 x6 x7 x8 x9 x10 τ = some o_) (kc : ∀ s_ : Int32 × Int32 × CC, o_ = .inl s_ → xV (wC D P) K mX0_tells (xQ (wC D P) K Z) (g, s_.2.2) 68 [(0, .ref x0), (2, .int x2), (3, .int x3), (4, .int x4), (5, .int x5), (6, .int x6), (7, .int x7), (8, .int x8), (9, .int s_.1), (10, .int s_.2.1)] []) (ke0 : ∀ e_ : Int32 × CC, o_ = .inr e_ → xV (wC D P) K mX0_tells (xQ (wC D P) K Z) (g, e_.2) 137 [(0, .ref x0), (2, .int x2), (3, .int x3), (4, .int x4), (5, .int x5), (6, .int x6), (7, .int x7), (8, .int x8), (9, .int e_.1)] []) : xV (wC D P) K mX0_tells (xQ (wC D P) K Z) (g, τ) 68 [(0, .ref x0), (2, .int x2), (3, .int x3), (4, .int x4), (5, .int x5), (6, .int x6), (7, .int x7), (8, .int x8), (9, .int x9), (10, .int x10)] [] := by
  unfold Bc_X0_tells_68 at hf
  refine xr_iload (pc := 68) 9 dX0_tells_68 rfl ?_
  refine xr_aload_n (pc := 70) 0 dX0_tells_70 rfl rfl ?_
  obtain ⟨ht9, hf⟩ := xo_if hf
  obtain ⟨b10, hb10, hf⟩ := xo_bind hf
  refine yc_getRs (pc := 71) 1 0 100 (gKo ht9 (by decide)) (by decide) (by decide) (by decide) rfl rfl hb10 q484 (ys_eq rfl) rfl dX0_tells_71 ?_
  obtain ⟨ht11, hf⟩ := xo_if hf
  refine yc_getIN (pc := 74) 2 2 202 (gKo ht11 (by decide)) (by decide) (by decide) (by decide) rfl rfl q263 (ys_eq rfl) rfl dX0_tells_74 ?_
  refine xr_icmp_ge (pc := 77) 137 dX0_tells_77 (by decide) (fun c_ => ?_) (fun c_ => ?_)
  · have hf := xo_pos c_ hf
    refine xV_sub [0, 1, 2, 3, 4, 5, 6, 7, 8] rfl ?_
    exact ke0 _ (Option.some.inj hf).symm
  · have hf := xo_neg c_ hf
    refine xr_iload (pc := 80) 8 dX0_tells_80 rfl ?_
    refine xr_iload_n (pc := 82) 2 dX0_tells_82 rfl rfl ?_
    refine xr_iload (pc := 83) 7 dX0_tells_83 rfl ?_
    obtain ⟨r12, τ12, hτ12, hf⟩ := xo_bd hf
    refine call_f_c_X0_has_X0_318 (pc := 85) hτ12 rfl (Nat.le_of_ble_eq_true rfl) (Nat.le_of_ble_eq_true rfl) (Nat.le_of_ble_eq_true rfl) dX0_tells_85 ?_
    refine xr_if_eq (pc := 88) 127 dX0_tells_88 (by decide) (fun c_ => ?_) (fun c_ => ?_)
    · have hf := xo_pos c_ hf
      refine xV_sub [0, 1, 2, 3, 4, 5, 6, 7, 9] rfl ?_
      exact ok_Jc_X0_tells_127 hf kc ke0
    · have hf := xo_neg c_ hf
      refine xr_iload_n (pc := 91) 2 dX0_tells_91 rfl rfl ?_
      refine xr_iload (pc := 92) 9 dX0_tells_92 rfl ?_
      obtain ⟨r13, τ13, hτ13, hf⟩ := xo_bd hf
      refine call_f_c_X0_has_X0_318 (pc := 94) hτ13 rfl (Nat.le_of_ble_eq_true rfl) (Nat.le_of_ble_eq_true rfl) (Nat.le_of_ble_eq_true rfl) dX0_tells_94 ?_
      refine xr_if_eq (pc := 97) 127 dX0_tells_97 (by decide) (fun c_ => ?_) (fun c_ => ?_)
      · have hf := xo_pos c_ hf
        refine xV_sub [0, 1, 2, 3, 4, 5, 6, 7, 9] rfl ?_
        exact ok_Jc_X0_tells_127 hf kc ke0
      · have hf := xo_neg c_ hf
        refine xr_aload_n (pc := 100) 0 dX0_tells_100 rfl rfl ?_
        obtain ⟨b14, hb14, hf⟩ := xo_bind hf
        refine yc_getFs (pc := 101) 1 19 119 (gKo ht9 (by decide)) (by decide) (by decide) (by decide) rfl rfl hb14 q505 (ys_eq rfl) rfl dX0_tells_101 ?_
        refine xr_iload (pc := 104) 7 dX0_tells_104 rfl ?_
        obtain ⟨ht15, hf⟩ := xo_if hf
        obtain ⟨hi_, hf⟩ := xo_if hf
        refine yc_aaldF (pc := 106) 105 (gKo ht15 (by decide)) (by decide) (by decide) rfl rfl hi_ dX0_tells_106 ?_
        refine xr_iload (pc := 107) 5 dX0_tells_107 rfl ?_
        obtain ⟨ht16, hf⟩ := xo_if hf
        obtain ⟨hi_, hf⟩ := xo_if hf
        refine yc_iald (pc := 109) (gKo ht16 (by decide)) hi_ dX0_tells_109 ?_
        refine xr_aload_n (pc := 110) 0 dX0_tells_110 rfl rfl ?_
        refine yc_getFs (pc := 111) 1 19 119 (gKo ht9 (by decide)) (by decide) (by decide) (by decide) rfl rfl hb14 q505 (ys_eq rfl) rfl dX0_tells_111 ?_
        refine xr_iload (pc := 114) 9 dX0_tells_114 rfl ?_
        obtain ⟨hi_, hf⟩ := xo_if hf
        refine yc_aaldF (pc := 116) 105 (gKo ht15 (by decide)) (by decide) (by decide) rfl rfl hi_ dX0_tells_116 ?_
        refine xr_iload (pc := 117) 5 dX0_tells_117 rfl ?_
        obtain ⟨ht17, hf⟩ := xo_if hf
        obtain ⟨hi_, hf⟩ := xo_if hf
        refine yc_iald (pc := 119) (gKo ht17 (by decide)) hi_ dX0_tells_119 ?_
        refine xr_icmp_ne (pc := 120) 127 dX0_tells_120 (by decide) (fun c_ => ?_) (fun c_ => ?_)
        · have hf := xo_pos c_ hf
          refine xr_iconst (pc := 123) dX0_tells_123 xci_1 ?_
          refine xr_goto (pc := 124) 128 dX0_tells_124 (by decide) ?_
          refine xV_sub [0, 1, 2, 3, 4, 5, 6, 7, 9] rfl ?_
          exact ok_Jc_X0_tells_128 hf kc ke0
        · have hf := xo_neg c_ hf
          refine xV_sub [0, 1, 2, 3, 4, 5, 6, 7, 9] rfl ?_
          exact ok_Jc_X0_tells_127 hf kc ke0
def Bc_X0_tells_50 (g : CG) (x0 : Nat) (x2 : Int32) (x3 : Int32) (x4 : Int32) (x5 : Int32) (x6 : Int32) (x7 : Int32) (x8 : Int32) (τ : CC) : Option ((Int32 × Int32 × CC) ⊕ ((Int32 × CC))) :=
  if gT g x0 = 1 then
  (cR τ 100 x0).bind fun b7 =>
  if gT g b7 = 2 then
  if (cI τ 202 b7) ≤ x8 then
  some (.inr (x7, τ))
  else
  (itr (fun s_ : Int32 × Int32 × CC => Bc_X0_tells_68 g x0 x2 x3 x4 x5 x6 x7 x8 s_.1 s_.2.1 s_.2.2) 4096 (0, 0, τ)).bind fun b18 =>
  xbd (f_c_J12_max g x7 b18.1 b18.2) fun r19 τ19 =>
  some (.inl (r19, x8 + 1, τ19))
  else none
  else none
theorem ok_Bc_X0_tells_50 {D : CD} {P : CP} {K : xK} {g : CG} {Z : Option Value × CS} {x0 : Nat} {x2 : Int32} {x3 : Int32} {x4 : Int32} {x5 : Int32} {x6 : Int32} {x7 : Int32} {x8 : Int32} {τ : CC} {o_ : ((Int32 × Int32 × CC) ⊕ ((Int32 × CC)))} (hf : Bc_X0_tells_50 g x0 x2 x3 x4 x5 x6 x7 x8 τ = some o_) (kc : ∀ s_ : Int32 × Int32 × CC, o_ = .inl s_ → xV (wC D P) K mX0_tells (xQ (wC D P) K Z) (g, s_.2.2) 50 [(0, .ref x0), (2, .int x2), (3, .int x3), (4, .int x4), (5, .int x5), (6, .int x6), (7, .int s_.1), (8, .int s_.2.1)] []) (ke0 : ∀ e_ : Int32 × CC, o_ = .inr e_ → xV (wC D P) K mX0_tells (xQ (wC D P) K Z) (g, e_.2) 152 [(0, .ref x0), (2, .int x2), (3, .int x3), (4, .int x4), (5, .int x5), (6, .int x6), (7, .int e_.1)] []) : xV (wC D P) K mX0_tells (xQ (wC D P) K Z) (g, τ) 50 [(0, .ref x0), (2, .int x2), (3, .int x3), (4, .int x4), (5, .int x5), (6, .int x6), (7, .int x7), (8, .int x8)] [] := by
  unfold Bc_X0_tells_50 at hf
  refine xr_iload (pc := 50) 7 dX0_tells_50 rfl ?_
  refine xr_aload_n (pc := 52) 0 dX0_tells_52 rfl rfl ?_
  obtain ⟨ht6, hf⟩ := xo_if hf
  obtain ⟨b7, hb7, hf⟩ := xo_bind hf
  refine yc_getRs (pc := 53) 1 0 100 (gKo ht6 (by decide)) (by decide) (by decide) (by decide) rfl rfl hb7 q484 (ys_eq rfl) rfl dX0_tells_53 ?_
  obtain ⟨ht8, hf⟩ := xo_if hf
  refine yc_getIN (pc := 56) 2 2 202 (gKo ht8 (by decide)) (by decide) (by decide) (by decide) rfl rfl q263 (ys_eq rfl) rfl dX0_tells_56 ?_
  refine xr_icmp_ge (pc := 59) 152 dX0_tells_59 (by decide) (fun c_ => ?_) (fun c_ => ?_)
  · have hf := xo_pos c_ hf
    refine xV_sub [0, 1, 2, 3, 4, 5, 6] rfl ?_
    exact ke0 _ (Option.some.inj hf).symm
  · have hf := xo_neg c_ hf
    refine xr_iconst (pc := 62) dX0_tells_62 xci_0 ?_
    refine xr_istore (pc := 63) (loc' := [(9, .int 0), (0, .ref x0), (2, .int x2), (3, .int x3), (4, .int x4), (5, .int x5), (6, .int x6), (7, .int x7), (8, .int x8)]) dX0_tells_63 (by decide) rfl ?_
    refine xr_iconst (pc := 65) dX0_tells_65 xci_0 ?_
    refine xr_istore (pc := 66) (loc' := [(10, .int 0), (9, .int 0), (0, .ref x0), (2, .int x2), (3, .int x3), (4, .int x4), (5, .int x5), (6, .int x6), (7, .int x7), (8, .int x8)]) dX0_tells_66 (by decide) rfl ?_
    refine xV_sub [2, 3, 4, 5, 6, 7, 8, 9, 1, 0] rfl ?_
    obtain ⟨b18, hb18, hf⟩ := xo_bind hf
    refine itr_rule (P := fun s_ : Int32 × Int32 × CC => xV (wC D P) K mX0_tells (xQ (wC D P) K Z) (g, s_.2.2) 68 [(0, .ref x0), (2, .int x2), (3, .int x3), (4, .int x4), (5, .int x5), (6, .int x6), (7, .int x7), (8, .int x8), (9, .int s_.1), (10, .int s_.2.1)] []) (fun s_ o_ hB_ hc_ he_ => ok_Bc_X0_tells_68 hB_ hc_ (fun e_ h_ => ?_)) 4096 _ hb18
    · have e9_ := he_ _ h_
      rw [e9_]
      refine xr_iload (pc := 137) 6 dX0_tells_137 rfl ?_
      refine xr_iload (pc := 139) 8 dX0_tells_139 rfl ?_
      obtain ⟨r19, τ19, hτ19, hf⟩ := xo_bd hf
      refine call_f_c_J12_max_X0_350 (pc := 141) hτ19 rfl (Nat.le_of_ble_eq_true rfl) (Nat.le_of_ble_eq_true rfl) (Nat.le_of_ble_eq_true rfl) dX0_tells_141 ?_
      refine xr_istore (pc := 144) (loc' := [(7, .int r19), (0, .ref x0), (2, .int x2), (3, .int x3), (4, .int x4), (5, .int x5), (6, .int x6), (8, .int x8), (9, .int b18.1)]) dX0_tells_144 (by decide) rfl ?_
      refine xr_iinc (pc := 146) (loc' := [(8, .int (x8 + 1)), (7, .int r19), (0, .ref x0), (2, .int x2), (3, .int x3), (4, .int x4), (5, .int x5), (6, .int x6), (9, .int b18.1)]) 7 dX0_tells_146 rfl xci_1 (by decide) rfl ?_
      refine xr_goto (pc := 149) 50 dX0_tells_149 (by decide) ?_
      refine xV_sub [2, 3, 4, 5, 6, 7, 1, 0] rfl ?_
      exact kc _ (Option.some.inj hf).symm
def Jc_X0_tells_170 (g : CG) (x0 : Nat) (x2 : Int32) (x3 : Int32) (x4 : Int32) (x5 : Int32) (x6 : Int32) (τ : CC) : Option ((Int32 × Int32 × Int32 × CC) ⊕ ((Int32 × Int32 × CC))) :=
  some (.inl (x4, x5, x6 + 1, τ))
theorem ok_Jc_X0_tells_170 {D : CD} {P : CP} {K : xK} {g : CG} {Z : Option Value × CS} {x0 : Nat} {x2 : Int32} {x3 : Int32} {x4 : Int32} {x5 : Int32} {x6 : Int32} {τ : CC} {o_ : ((Int32 × Int32 × Int32 × CC) ⊕ ((Int32 × Int32 × CC)))} (hf : Jc_X0_tells_170 g x0 x2 x3 x4 x5 x6 τ = some o_) (kc : ∀ s_ : Int32 × Int32 × Int32 × CC, o_ = .inl s_ → xV (wC D P) K mX0_tells (xQ (wC D P) K Z) (g, s_.2.2.2) 32 [(0, .ref x0), (2, .int x2), (3, .int x3), (4, .int s_.1), (5, .int s_.2.1), (6, .int s_.2.2.1)] []) (ke0 : ∀ e_ : Int32 × Int32 × CC, o_ = .inr e_ → xV (wC D P) K mX0_tells (xQ (wC D P) K Z) (g, e_.2.2) 176 [(2, .int x2), (4, .int e_.1), (5, .int e_.2.1)] []) : xV (wC D P) K mX0_tells (xQ (wC D P) K Z) (g, τ) 170 [(0, .ref x0), (2, .int x2), (3, .int x3), (4, .int x4), (5, .int x5), (6, .int x6)] [] := by
  unfold Jc_X0_tells_170 at hf
  refine xr_iinc (pc := 170) (loc' := [(6, .int (x6 + 1)), (0, .ref x0), (2, .int x2), (3, .int x3), (4, .int x4), (5, .int x5)]) 5 dX0_tells_170 rfl xci_1 (by decide) rfl ?_
  refine xr_goto (pc := 173) 32 dX0_tells_173 (by decide) ?_
  refine xV_sub [1, 2, 3, 4, 5, 0] rfl ?_
  exact kc _ (Option.some.inj hf).symm
def Bc_X0_tells_32 (g : CG) (x0 : Nat) (x2 : Int32) (x3 : Int32) (x4 : Int32) (x5 : Int32) (x6 : Int32) (τ : CC) : Option ((Int32 × Int32 × Int32 × CC) ⊕ ((Int32 × Int32 × CC))) :=
  if gT g x0 = 1 then
  xbd (f_c_X0_isAhead g x0 x6 1 30 τ) fun r5 τ5 =>
  if r5 = 0 then
  some (.inr (x4, x5, τ5))
  else
  (itr (fun s_ : Int32 × Int32 × CC => Bc_X0_tells_50 g x0 x2 x3 x4 x5 x6 s_.1 s_.2.1 s_.2.2) 4096 (0, 0, τ5)).bind fun b20 =>
  if b20.1 < x5 then
  Jc_X0_tells_170 g x0 x2 x3 x6 b20.1 x6 b20.2
  else
  Jc_X0_tells_170 g x0 x2 x3 x4 x5 x6 b20.2
  else none
theorem ok_Bc_X0_tells_32 {D : CD} {P : CP} {K : xK} {g : CG} {Z : Option Value × CS} {x0 : Nat} {x2 : Int32} {x3 : Int32} {x4 : Int32} {x5 : Int32} {x6 : Int32} {τ : CC} {o_ : ((Int32 × Int32 × Int32 × CC) ⊕ ((Int32 × Int32 × CC)))} (hf : Bc_X0_tells_32 g x0 x2 x3 x4 x5 x6 τ = some o_) (kc : ∀ s_ : Int32 × Int32 × Int32 × CC, o_ = .inl s_ → xV (wC D P) K mX0_tells (xQ (wC D P) K Z) (g, s_.2.2.2) 32 [(0, .ref x0), (2, .int x2), (3, .int x3), (4, .int s_.1), (5, .int s_.2.1), (6, .int s_.2.2.1)] []) (ke0 : ∀ e_ : Int32 × Int32 × CC, o_ = .inr e_ → xV (wC D P) K mX0_tells (xQ (wC D P) K Z) (g, e_.2.2) 176 [(2, .int x2), (4, .int e_.1), (5, .int e_.2.1)] []) : xV (wC D P) K mX0_tells (xQ (wC D P) K Z) (g, τ) 32 [(0, .ref x0), (2, .int x2), (3, .int x3), (4, .int x4), (5, .int x5), (6, .int x6)] [] := by
  unfold Bc_X0_tells_32 at hf
  refine xr_aload_n (pc := 32) 0 dX0_tells_32 rfl rfl ?_
  refine xr_iload (pc := 33) 5 dX0_tells_33 rfl ?_
  refine xr_iconst (pc := 35) dX0_tells_35 xci_1 ?_
  refine xr_bipush (pc := 36) dX0_tells_36 xcb_30 ?_
  obtain ⟨ht4, hf⟩ := xo_if hf
  obtain ⟨r5, τ5, hτ5, hf⟩ := xo_bd hf
  refine call_f_c_X0_isAhead_X0_289 (pc := 38) hτ5 (gKo ht4 (by decide)) rfl (Nat.le_of_ble_eq_true rfl) (Nat.le_of_ble_eq_true rfl) (Nat.le_of_ble_eq_true rfl) dX0_tells_38 ?_
  refine xr_if_eq (pc := 41) 176 dX0_tells_41 (by decide) (fun c_ => ?_) (fun c_ => ?_)
  · have hf := xo_pos c_ hf
    refine xV_sub [1, 3, 4] rfl ?_
    exact ke0 _ (Option.some.inj hf).symm
  · have hf := xo_neg c_ hf
    refine xr_iconst (pc := 44) dX0_tells_44 xci_0 ?_
    refine xr_istore (pc := 45) (loc' := [(7, .int 0), (0, .ref x0), (2, .int x2), (3, .int x3), (4, .int x4), (5, .int x5), (6, .int x6)]) dX0_tells_45 (by decide) rfl ?_
    refine xr_iconst (pc := 47) dX0_tells_47 xci_0 ?_
    refine xr_istore (pc := 48) (loc' := [(8, .int 0), (7, .int 0), (0, .ref x0), (2, .int x2), (3, .int x3), (4, .int x4), (5, .int x5), (6, .int x6)]) dX0_tells_48 (by decide) rfl ?_
    refine xV_sub [2, 3, 4, 5, 6, 7, 1, 0] rfl ?_
    obtain ⟨b20, hb20, hf⟩ := xo_bind hf
    refine itr_rule (P := fun s_ : Int32 × Int32 × CC => xV (wC D P) K mX0_tells (xQ (wC D P) K Z) (g, s_.2.2) 50 [(0, .ref x0), (2, .int x2), (3, .int x3), (4, .int x4), (5, .int x5), (6, .int x6), (7, .int s_.1), (8, .int s_.2.1)] []) (fun s_ o_ hB_ hc_ he_ => ok_Bc_X0_tells_50 hB_ hc_ (fun e_ h_ => ?_)) 4096 _ hb20
    · have e9_ := he_ _ h_
      rw [e9_]
      refine xr_iload (pc := 152) 6 dX0_tells_152 rfl ?_
      refine xr_iload (pc := 154) 4 dX0_tells_154 rfl ?_
      refine xr_icmp_lt (pc := 156) 162 dX0_tells_156 (by decide) (fun c_ => ?_) (fun c_ => ?_)
      · have hf := xo_pos c_ hf
        refine xr_iload (pc := 162) 6 dX0_tells_162 rfl ?_
        refine xr_istore (pc := 164) (loc' := [(5, .int b20.1), (0, .ref x0), (2, .int x2), (3, .int x3), (4, .int x4), (6, .int x6), (7, .int b20.1)]) dX0_tells_164 (by decide) rfl ?_
        refine xr_iload (pc := 166) 5 dX0_tells_166 rfl ?_
        refine xr_istore (pc := 168) (loc' := [(4, .int x6), (5, .int b20.1), (0, .ref x0), (2, .int x2), (3, .int x3), (6, .int x6), (7, .int b20.1)]) dX0_tells_168 (by decide) rfl ?_
        refine xV_sub [2, 3, 4, 0, 1, 5] rfl ?_
        exact ok_Jc_X0_tells_170 hf kc ke0
      · have hf := xo_neg c_ hf
        refine xr_goto (pc := 159) 170 dX0_tells_159 (by decide) ?_
        refine xV_sub [0, 1, 2, 3, 4, 5] rfl ?_
        exact ok_Jc_X0_tells_170 hf kc ke0
def Jc_X0_tells_186 (g : CG) (x4 : Int32) (τ : CC) : Option (Int32 × CC) :=
  some ((x4, τ))
theorem ok_Jc_X0_tells_186 {D : CD} {P : CP} {K : xK} {g : CG} {Z : Option Value × CS} {x4 : Int32} {τ : CC} {o_ : (Int32 × CC)} (hf : Jc_X0_tells_186 g x4 τ = some o_) (kr : ∀ r_ : (Int32 × CC), o_ = r_ → Z = (some (.int r_.1), (g, r_.2))) : xV (wC D P) K mX0_tells (xQ (wC D P) K Z) (g, τ) 186 [(4, .int x4)] [] := by
  unfold Jc_X0_tells_186 at hf
  refine xr_iload (pc := 186) 0 dX0_tells_186 rfl ?_
  refine xr_goto (pc := 188) 193 dX0_tells_188 (by decide) ?_
  rw [kr _ (Option.some.inj hf).symm]
  exact xr_iret (pc := 193) dX0_tells_193 rfl
def f_c_X0_tells (g : CG) (x0 : Nat) (x1 : Int32) (x2 : Int32) (τ : CC) : Option (Int32 × CC) :=
  if gT g x0 = 1 then
  xbd (f_c_X0_ran g x0 x1 τ) fun r2 τ2 =>
  if r2 ≤ 0 then
  some (((-1), τ2))
  else
  xbd (f_c_X0_is g x2 0 1 τ2) fun r3 τ3 =>
  if r3 = 0 then
  some (((-1), τ3))
  else
  (itr (fun s_ : Int32 × Int32 × Int32 × CC => Bc_X0_tells_32 g x0 x2 r2 s_.1 s_.2.1 s_.2.2.1 s_.2.2.2) 4096 ((-1), 100000000, 1, τ3)).bind fun b21 =>
  if b21.1 = (-1) then
  Jc_X0_tells_186 g b21.1 b21.2.2
  else
  if x2 = 0 then
  Jc_X0_tells_186 g b21.1 b21.2.2
  else
  some ((b21.2.1, b21.2.2))
  else none
theorem ok_f_c_X0_tells {D : CD} {P : CP} {K : xK} {g : CG} {Z : Option Value × CS} {x0 : Nat} {x1 : Int32} {x2 : Int32} {τ : CC} {o_ : (Int32 × CC)} (hf : f_c_X0_tells g x0 x1 x2 τ = some o_) (kr : ∀ r_ : (Int32 × CC), o_ = r_ → Z = (some (.int r_.1), (g, r_.2))) : xV (wC D P) K mX0_tells (xQ (wC D P) K Z) (g, τ) 0 [(0, .ref x0), (1, .int x1), (2, .int x2)] [] := by
  unfold f_c_X0_tells at hf
  refine xr_aload_n (pc := 0) 0 dX0_tells_0 rfl rfl ?_
  refine xr_iload_n (pc := 1) 1 dX0_tells_1 rfl rfl ?_
  obtain ⟨ht1, hf⟩ := xo_if hf
  obtain ⟨r2, τ2, hτ2, hf⟩ := xo_bd hf
  refine call_f_c_X0_ran_X0_366 (pc := 2) hτ2 (gKo ht1 (by decide)) rfl (Nat.le_of_ble_eq_true rfl) (Nat.le_of_ble_eq_true rfl) (Nat.le_of_ble_eq_true rfl) dX0_tells_2 ?_
  refine xr_istore_n (pc := 5) (loc' := [(3, .int r2), (0, .ref x0), (1, .int x1), (2, .int x2)]) dX0_tells_5 rfl (by decide) rfl ?_
  refine xr_iload_n (pc := 6) 0 dX0_tells_6 rfl rfl ?_
  refine xr_if_le (pc := 7) 19 dX0_tells_7 (by decide) (fun c_ => ?_) (fun c_ => ?_)
  · have hf := xo_pos c_ hf
    refine xr_iconst (pc := 19) dX0_tells_19 xci_m1 ?_
    rw [kr _ (Option.some.inj hf).symm]
    exact xr_iret (pc := 20) dX0_tells_20 rfl
  · have hf := xo_neg c_ hf
    refine xr_iload_n (pc := 10) 3 dX0_tells_10 rfl rfl ?_
    refine xr_iconst (pc := 11) dX0_tells_11 xci_0 ?_
    refine xr_iconst (pc := 12) dX0_tells_12 xci_1 ?_
    obtain ⟨r3, τ3, hτ3, hf⟩ := xo_bd hf
    refine call_f_c_X0_is_X0_176 (pc := 13) hτ3 rfl (Nat.le_of_ble_eq_true rfl) (Nat.le_of_ble_eq_true rfl) (Nat.le_of_ble_eq_true rfl) dX0_tells_13 ?_
    refine xr_if_ne (pc := 16) 21 dX0_tells_16 (by decide) (fun c_ => ?_) (fun c_ => ?_)
    · have hf := xo_pos c_ hf
      refine xr_iconst (pc := 19) dX0_tells_19 xci_m1 ?_
      rw [kr _ (Option.some.inj hf).symm]
      exact xr_iret (pc := 20) dX0_tells_20 rfl
    · have hf := xo_neg c_ hf
      refine xr_iconst (pc := 21) dX0_tells_21 xci_m1 ?_
      refine xr_istore (pc := 22) (loc' := [(4, .int (-1)), (3, .int r2), (0, .ref x0), (1, .int x1), (2, .int x2)]) dX0_tells_22 (by decide) rfl ?_
      refine xr_ldcw (pc := 24) q1618 dX0_tells_24 ?_
      refine xr_istore (pc := 27) (loc' := [(5, .int 100000000), (4, .int (-1)), (3, .int r2), (0, .ref x0), (1, .int x1), (2, .int x2)]) dX0_tells_27 (by decide) rfl ?_
      refine xr_iconst (pc := 29) dX0_tells_29 xci_1 ?_
      refine xr_istore (pc := 30) (loc' := [(6, .int 1), (5, .int 100000000), (4, .int (-1)), (3, .int r2), (0, .ref x0), (1, .int x1), (2, .int x2)]) dX0_tells_30 (by decide) rfl ?_
      refine xV_sub [4, 6, 3, 2, 1, 0] rfl ?_
      obtain ⟨b21, hb21, hf⟩ := xo_bind hf
      refine itr_rule (P := fun s_ : Int32 × Int32 × Int32 × CC => xV (wC D P) K mX0_tells (xQ (wC D P) K Z) (g, s_.2.2.2) 32 [(0, .ref x0), (2, .int x2), (3, .int r2), (4, .int s_.1), (5, .int s_.2.1), (6, .int s_.2.2.1)] []) (fun s_ o_ hB_ hc_ he_ => ok_Bc_X0_tells_32 hB_ hc_ (fun e_ h_ => ?_)) 4096 _ hb21
      · have e9_ := he_ _ h_
        rw [e9_]
        refine xr_iload (pc := 176) 1 dX0_tells_176 rfl ?_
        refine xr_iconst (pc := 178) dX0_tells_178 xci_m1 ?_
        refine xr_icmp_eq (pc := 179) 186 dX0_tells_179 (by decide) (fun c_ => ?_) (fun c_ => ?_)
        · have hf := xo_pos c_ hf
          refine xV_sub [1] rfl ?_
          exact ok_Jc_X0_tells_186 hf kr
        · have hf := xo_neg c_ hf
          refine xr_iload_n (pc := 182) 0 dX0_tells_182 rfl rfl ?_
          refine xr_if_ne (pc := 183) 191 dX0_tells_183 (by decide) (fun c_ => ?_) (fun c_ => ?_)
          · have hf := xo_pos c_ hf
            refine xV_sub [1] rfl ?_
            exact ok_Jc_X0_tells_186 hf kr
          · have hf := xo_neg c_ hf
            refine xr_iload (pc := 191) 2 dX0_tells_191 rfl ?_
            rw [kr _ (Option.some.inj hf).symm]
            exact xr_iret (pc := 193) dX0_tells_193 rfl
theorem met_f_c_X0_tells (l : Launch) {D : CD} {P : CP} {g : CG} {x0 : Nat} {x1 : Int32} {x2 : Int32} {τ : CC} {o_ : (Int32 × CC)} (hf : f_c_X0_tells g x0 x1 x2 τ = some o_) : xMet (wC D P) l yX0_tells (ws_ yX0_tells cX0_tells 11 (some .int)) 84 5040 (grc g) (grs g) [.ref x0, .int x1, .int x2] (g, τ) (some (.int o_.1), (g, o_.2)) := 
  xMet_of (by decide) (Nat.le_of_ble_eq_true rfl) KC_moved RPC_of (fun K _ _ _ => ok_f_c_X0_tells hf (fun _ h => by rw [h]))
abbrev mX0_keeps : xM := (cX0_keeps, 3, RX0, 1, 60, none, "keeps")
def Bc_X0_keeps_18 (g : CG) (x0 : Nat) (x1 : Nat) (x2 : Int32) (τ : CC) : Option ((Int32 × CC) ⊕ ((CC))) :=
  if (20 : Int32) ≤ x2 then
  some (.inr τ)
  else
  if gT g x0 = 1 then
  (gR g 120 x0).bind fun b6 =>
  if gT g b6 = 108 then
  if xin x2 (gN g b6) = true then
  (cP τ b6 x2.toNatClampNeg).bind fun b8 =>
  if gT g b8 = 6 then
  if xin (x2 - 1) (gN g b6) = true then
  some (.inl (x2 + 1, uP τ b6 (x2 - 1).toNatClampNeg (some b8)))
  else none
  else none
  else none
  else none
  else none
theorem ok_Bc_X0_keeps_18 {D : CD} {P : CP} {K : xK} {g : CG} {Z : Option Value × CS} {x0 : Nat} {x1 : Nat} {x2 : Int32} {τ : CC} {o_ : ((Int32 × CC) ⊕ ((CC)))} (hf : Bc_X0_keeps_18 g x0 x1 x2 τ = some o_) (kc : ∀ s_ : Int32 × CC, o_ = .inl s_ → xV (wC D P) K mX0_keeps (xQ (wC D P) K Z) (g, s_.2) 18 [(0, .ref x0), (1, .ref x1), (2, .int s_.1)] []) (ke0 : ∀ e_ : CC, o_ = .inr e_ → xV (wC D P) K mX0_keeps (xQ (wC D P) K Z) (g, e_) 44 [(0, .ref x0), (1, .ref x1)] []) : xV (wC D P) K mX0_keeps (xQ (wC D P) K Z) (g, τ) 18 [(0, .ref x0), (1, .ref x1), (2, .int x2)] [] := by
  unfold Bc_X0_keeps_18 at hf
  refine xr_iload_n (pc := 18) 2 dX0_keeps_18 rfl rfl ?_
  refine xr_bipush (pc := 19) dX0_keeps_19 xcb_20 ?_
  refine xr_icmp_ge (pc := 21) 44 dX0_keeps_21 (by decide) (fun c_ => ?_) (fun c_ => ?_)
  · have hf := xo_pos c_ hf
    refine xV_sub [0, 1] rfl ?_
    exact ke0 _ (Option.some.inj hf).symm
  · have hf := xo_neg c_ hf
    refine xr_aload_n (pc := 24) 0 dX0_keeps_24 rfl rfl ?_
    obtain ⟨ht5, hf⟩ := xo_if hf
    obtain ⟨b6, hb6, hf⟩ := xo_bind hf
    refine yc_getFs (pc := 25) 1 20 120 (gKo ht5 (by decide)) (by decide) (by decide) (by decide) rfl rfl hb6 q506 (ys_eq rfl) rfl dX0_keeps_25 ?_
    refine xr_iload_n (pc := 28) 2 dX0_keeps_28 rfl rfl ?_
    refine xr_iconst (pc := 29) dX0_keeps_29 xci_1 ?_
    refine xr_isub (pc := 30) dX0_keeps_30 ?_
    refine xr_aload_n (pc := 31) 0 dX0_keeps_31 rfl rfl ?_
    refine yc_getFs (pc := 32) 1 20 120 (gKo ht5 (by decide)) (by decide) (by decide) (by decide) rfl rfl hb6 q506 (ys_eq rfl) rfl dX0_keeps_32 ?_
    refine xr_iload_n (pc := 35) 2 dX0_keeps_35 rfl rfl ?_
    obtain ⟨ht7, hf⟩ := xo_if hf
    obtain ⟨hi_, hf⟩ := xo_if hf
    obtain ⟨b8, hb8, hf⟩ := xo_bind hf
    refine yc_aalds (pc := 36) 108 (gKo ht7 (by decide)) (by decide) (by decide) rfl rfl hi_ hb8 dX0_keeps_36 ?_
    obtain ⟨ht9, hf⟩ := xo_if hf
    obtain ⟨hi_, hf⟩ := xo_if hf
    refine yc_aast (pc := 37) 108 6 ht7 (by decide) (by decide) rfl rfl (gKo ht9 (by decide)) rfl hi_ dX0_keeps_37 ?_
    refine xr_iinc (pc := 38) (loc' := [(2, .int (x2 + 1)), (0, .ref x0), (1, .ref x1)]) 2 dX0_keeps_38 rfl xci_1 (by decide) rfl ?_
    refine xr_goto (pc := 41) 18 dX0_keeps_41 (by decide) ?_
    refine xV_sub [1, 2, 0] rfl ?_
    exact kc _ (Option.some.inj hf).symm
def Jc_X0_keeps_62 (g : CG) (x0 : Nat) (τ : CC) : Option CC :=
  if gT g x0 = 1 then
  (gR g 120 x0).bind fun b13 =>
  if gT g b13 = 108 then
  if xin (cI τ 121 x0) (gN g b13) = true then
  (cP τ b13 (cI τ 121 x0).toNatClampNeg).bind fun b15 =>
  (gR g 109 x0).bind fun b16 =>
  if gT g b15 = 6 then
  xbd (f_c_X5_copy g b15 b16 τ) fun r18 τ18 =>
  some (uI τ18 121 x0 ((cI τ18 121 x0) + 1))
  else none
  else none
  else none
  else none
theorem ok_Jc_X0_keeps_62 {D : CD} {P : CP} {K : xK} {g : CG} {Z : Option Value × CS} {x0 : Nat} {τ : CC} {o_ : CC} (hf : Jc_X0_keeps_62 g x0 τ = some o_) (kr : ∀ r_ : CC, o_ = r_ → Z = (none, (g, r_))) : xV (wC D P) K mX0_keeps (xQ (wC D P) K Z) (g, τ) 62 [(0, .ref x0)] [] := by
  unfold Jc_X0_keeps_62 at hf
  refine xr_aload_n (pc := 62) 0 dX0_keeps_62 rfl rfl ?_
  obtain ⟨ht12, hf⟩ := xo_if hf
  obtain ⟨b13, hb13, hf⟩ := xo_bind hf
  refine yc_getFs (pc := 63) 1 20 120 (gKo ht12 (by decide)) (by decide) (by decide) (by decide) rfl rfl hb13 q506 (ys_eq rfl) rfl dX0_keeps_63 ?_
  refine xr_aload_n (pc := 66) 0 dX0_keeps_66 rfl rfl ?_
  refine yc_getI (pc := 67) 1 21 121 (gKo ht12 (by decide)) (by decide) (by decide) (by decide) rfl rfl q507 (ys_eq rfl) rfl dX0_keeps_67 ?_
  obtain ⟨ht14, hf⟩ := xo_if hf
  obtain ⟨hi_, hf⟩ := xo_if hf
  obtain ⟨b15, hb15, hf⟩ := xo_bind hf
  refine yc_aalds (pc := 70) 108 (gKo ht14 (by decide)) (by decide) (by decide) rfl rfl hi_ hb15 dX0_keeps_70 ?_
  refine xr_aload_n (pc := 71) 0 dX0_keeps_71 rfl rfl ?_
  obtain ⟨b16, hb16, hf⟩ := xo_bind hf
  refine yc_getFs (pc := 72) 1 9 109 (gKo ht12 (by decide)) (by decide) (by decide) (by decide) rfl rfl hb16 q495 (ys_eq rfl) rfl dX0_keeps_72 ?_
  obtain ⟨ht17, hf⟩ := xo_if hf
  obtain ⟨r18, τ18, hτ18, hf⟩ := xo_bd hf
  refine call_f_c_X5_copy_X0_292 (pc := 75) hτ18 (gKo ht17 (by decide)) rfl (Nat.le_of_ble_eq_true rfl) (Nat.le_of_ble_eq_true rfl) (Nat.le_of_ble_eq_true rfl) dX0_keeps_75 ?_
  refine xr_pop (pc := 78) dX0_keeps_78 rfl ?_
  refine xr_aload_n (pc := 79) 0 dX0_keeps_79 rfl rfl ?_
  refine xr_dup (pc := 80) dX0_keeps_80 rfl ?_
  refine yc_getI (pc := 81) 1 21 121 (gKo ht12 (by decide)) (by decide) (by decide) (by decide) rfl rfl q507 (ys_eq rfl) rfl dX0_keeps_81 ?_
  refine xr_iconst (pc := 84) dX0_keeps_84 xci_1 ?_
  refine xr_iadd (pc := 85) dX0_keeps_85 ?_
  refine yc_putI (pc := 86) 1 21 121 ht12 (by decide) (by decide) (by decide) rfl rfl rfl (ty := .int) (by decide +kernel) rfl rfl q507 (ys_eq rfl) rfl dX0_keeps_86 ?_
  rw [kr _ (Option.some.inj hf).symm]
  exact xr_vret (pc := 89) dX0_keeps_89 rfl
def f_c_X0_keeps (g : CG) (x0 : Nat) (τ : CC) : Option CC :=
  if gT g x0 = 1 then
  if (cI τ 121 x0) = 20 then
  (gR g 120 x0).bind fun b2 =>
  if gT g b2 = 108 then
  if xin 0 (gN g b2) = true then
  (cP τ b2 (0 : Int32).toNatClampNeg).bind fun b4 =>
  (itr (fun s_ : Int32 × CC => Bc_X0_keeps_18 g x0 b4 s_.1 s_.2) 4096 (1, τ)).bind fun b10 =>
  if gT g b4 = 6 then
  if xin 19 (gN g b2) = true then
  Jc_X0_keeps_62 g x0 (uI (uP b10 b2 (19 : Int32).toNatClampNeg (some b4)) 121 x0 ((cI (uP b10 b2 (19 : Int32).toNatClampNeg (some b4)) 121 x0) - 1))
  else none
  else none
  else none
  else none
  else
  Jc_X0_keeps_62 g x0 τ
  else none
theorem ok_f_c_X0_keeps {D : CD} {P : CP} {K : xK} {g : CG} {Z : Option Value × CS} {x0 : Nat} {τ : CC} {o_ : CC} (hf : f_c_X0_keeps g x0 τ = some o_) (kr : ∀ r_ : CC, o_ = r_ → Z = (none, (g, r_))) : xV (wC D P) K mX0_keeps (xQ (wC D P) K Z) (g, τ) 0 [(0, .ref x0)] [] := by
  unfold f_c_X0_keeps at hf
  refine xr_aload_n (pc := 0) 0 dX0_keeps_0 rfl rfl ?_
  obtain ⟨ht1, hf⟩ := xo_if hf
  refine yc_getI (pc := 1) 1 21 121 (gKo ht1 (by decide)) (by decide) (by decide) (by decide) rfl rfl q507 (ys_eq rfl) rfl dX0_keeps_1 ?_
  refine xr_bipush (pc := 4) dX0_keeps_4 xcb_20 ?_
  refine xr_icmp_ne (pc := 6) 62 dX0_keeps_6 (by decide) (fun c_ => ?_) (fun c_ => ?_)
  · have hf := xo_pos c_ hf
    refine xr_aload_n (pc := 9) 0 dX0_keeps_9 rfl rfl ?_
    obtain ⟨b2, hb2, hf⟩ := xo_bind hf
    refine yc_getFs (pc := 10) 1 20 120 (gKo ht1 (by decide)) (by decide) (by decide) (by decide) rfl rfl hb2 q506 (ys_eq rfl) rfl dX0_keeps_10 ?_
    refine xr_iconst (pc := 13) dX0_keeps_13 xci_0 ?_
    obtain ⟨ht3, hf⟩ := xo_if hf
    obtain ⟨hi_, hf⟩ := xo_if hf
    obtain ⟨b4, hb4, hf⟩ := xo_bind hf
    refine yc_aalds (pc := 14) 108 (gKo ht3 (by decide)) (by decide) (by decide) rfl rfl hi_ hb4 dX0_keeps_14 ?_
    refine xr_astore_n (pc := 15) (loc' := [(1, .ref b4), (0, .ref x0)]) dX0_keeps_15 rfl (by decide) rfl ?_
    refine xr_iconst (pc := 16) dX0_keeps_16 xci_1 ?_
    refine xr_istore_n (pc := 17) (loc' := [(2, .int 1), (1, .ref b4), (0, .ref x0)]) dX0_keeps_17 rfl (by decide) rfl ?_
    refine xV_sub [2, 1, 0] rfl ?_
    obtain ⟨b10, hb10, hf⟩ := xo_bind hf
    refine itr_rule (P := fun s_ : Int32 × CC => xV (wC D P) K mX0_keeps (xQ (wC D P) K Z) (g, s_.2) 18 [(0, .ref x0), (1, .ref b4), (2, .int s_.1)] []) (fun s_ o_ hB_ hc_ he_ => ok_Bc_X0_keeps_18 hB_ hc_ (fun e_ h_ => ?_)) 4096 _ hb10
    · have e9_ := he_ _ h_
      rw [e9_]
      refine xr_aload_n (pc := 44) 0 dX0_keeps_44 rfl rfl ?_
      refine yc_getFs (pc := 45) 1 20 120 (gKo ht1 (by decide)) (by decide) (by decide) (by decide) rfl rfl hb2 q506 (ys_eq rfl) rfl dX0_keeps_45 ?_
      refine xr_bipush (pc := 48) dX0_keeps_48 xcb_19 ?_
      refine xr_aload_n (pc := 50) 1 dX0_keeps_50 rfl rfl ?_
      obtain ⟨ht11, hf⟩ := xo_if hf
      obtain ⟨hi_, hf⟩ := xo_if hf
      refine yc_aast (pc := 51) 108 6 ht3 (by decide) (by decide) rfl rfl (gKo ht11 (by decide)) rfl hi_ dX0_keeps_51 ?_
      refine xr_aload_n (pc := 52) 0 dX0_keeps_52 rfl rfl ?_
      refine xr_dup (pc := 53) dX0_keeps_53 rfl ?_
      refine yc_getI (pc := 54) 1 21 121 (gKo ht1 (by decide)) (by decide) (by decide) (by decide) rfl rfl q507 (ys_eq rfl) rfl dX0_keeps_54 ?_
      refine xr_iconst (pc := 57) dX0_keeps_57 xci_1 ?_
      refine xr_isub (pc := 58) dX0_keeps_58 ?_
      refine yc_putI (pc := 59) 1 21 121 ht1 (by decide) (by decide) (by decide) rfl rfl rfl (ty := .int) (by decide +kernel) rfl rfl q507 (ys_eq rfl) rfl dX0_keeps_59 ?_
      refine xV_sub [0] rfl ?_
      exact ok_Jc_X0_keeps_62 hf kr
  · have hf := xo_neg c_ hf
    exact ok_Jc_X0_keeps_62 hf kr
theorem met_f_c_X0_keeps (l : Launch) {D : CD} {P : CP} {g : CG} {x0 : Nat} {τ : CC} {o_ : CC} (hf : f_c_X0_keeps g x0 τ = some o_) : xMet (wC D P) l yX0_keeps (ws_ yX0_keeps cX0_keeps 3 none) 1 60 (grc g) (grs g) [.ref x0] (g, τ) (none, (g, o_)) := 
  xMet_of (by decide) (Nat.le_of_ble_eq_true rfl) KC_moved RPC_of (fun K _ _ _ => ok_f_c_X0_keeps hf (fun _ h => by rw [h]))
abbrev mX0_undo : xM := (cX0_undo, 1, RX0, 1, 60, (some .boolean), "undo")
def f_c_X0_undo (g : CG) (x0 : Nat) (τ : CC) : Option (Int32 × CC) :=
  if gT g x0 = 1 then
  if (cI τ 121 x0) = 0 then
  xbd (f_c_X0_refuses g x0 4 τ) fun r2 τ2 =>
  if r2 < 0 then
  some ((0, τ2))
  else
  some ((1, τ2))
  else
  (gR g 109 x0).bind fun b3 =>
  (gR g 120 x0).bind fun b4 =>
  if gT g b4 = 108 then
  if xin (cI (uI τ 121 x0 ((cI τ 121 x0) - 1)) 121 x0) (gN g b4) = true then
  (cP (uI τ 121 x0 ((cI τ 121 x0) - 1)) b4 (cI (uI τ 121 x0 ((cI τ 121 x0) - 1)) 121 x0).toNatClampNeg).bind fun b6 =>
  if gT g b3 = 6 then
  xbd (f_c_X5_copy g b3 b6 (uI τ 121 x0 ((cI τ 121 x0) - 1))) fun r8 τ8 =>
  some ((1, τ8))
  else none
  else none
  else none
  else none
theorem ok_f_c_X0_undo {D : CD} {P : CP} {K : xK} {g : CG} {Z : Option Value × CS} {x0 : Nat} {τ : CC} {o_ : (Int32 × CC)} (hf : f_c_X0_undo g x0 τ = some o_) (kr : ∀ r_ : (Int32 × CC), o_ = r_ → Z = (some (.int r_.1), (g, r_.2))) : xV (wC D P) K mX0_undo (xQ (wC D P) K Z) (g, τ) 0 [(0, .ref x0)] [] := by
  unfold f_c_X0_undo at hf
  refine xr_aload_n (pc := 0) 0 dX0_undo_0 rfl rfl ?_
  obtain ⟨ht1, hf⟩ := xo_if hf
  refine yc_getI (pc := 1) 1 21 121 (gKo ht1 (by decide)) (by decide) (by decide) (by decide) rfl rfl q507 (ys_eq rfl) rfl dX0_undo_1 ?_
  refine xr_if_ne (pc := 4) 21 dX0_undo_4 (by decide) (fun c_ => ?_) (fun c_ => ?_)
  · have hf := xo_pos c_ hf
    refine xr_aload_n (pc := 7) 0 dX0_undo_7 rfl rfl ?_
    refine xr_iconst (pc := 8) dX0_undo_8 xci_4 ?_
    obtain ⟨r2, τ2, hτ2, hf⟩ := xo_bd hf
    refine call_f_c_X0_refuses_X0_118 (pc := 9) hτ2 (gKo ht1 (by decide)) rfl (Nat.le_of_ble_eq_true rfl) (Nat.le_of_ble_eq_true rfl) (Nat.le_of_ble_eq_true rfl) dX0_undo_9 ?_
    refine xr_if_lt (pc := 12) 19 dX0_undo_12 (by decide) (fun c_ => ?_) (fun c_ => ?_)
    · have hf := xo_pos c_ hf
      refine xr_iconst (pc := 19) dX0_undo_19 xci_0 ?_
      rw [kr _ (Option.some.inj hf).symm]
      exact xr_zret (pc := 20) dX0_undo_20 rfl xz_0
    · have hf := xo_neg c_ hf
      refine xr_iconst (pc := 15) dX0_undo_15 xci_1 ?_
      refine xr_goto (pc := 16) 20 dX0_undo_16 (by decide) ?_
      rw [kr _ (Option.some.inj hf).symm]
      exact xr_zret (pc := 20) dX0_undo_20 rfl xz_1
  · have hf := xo_neg c_ hf
    refine xr_aload_n (pc := 21) 0 dX0_undo_21 rfl rfl ?_
    refine xr_dup (pc := 22) dX0_undo_22 rfl ?_
    refine yc_getI (pc := 23) 1 21 121 (gKo ht1 (by decide)) (by decide) (by decide) (by decide) rfl rfl q507 (ys_eq rfl) rfl dX0_undo_23 ?_
    refine xr_iconst (pc := 26) dX0_undo_26 xci_1 ?_
    refine xr_isub (pc := 27) dX0_undo_27 ?_
    refine yc_putI (pc := 28) 1 21 121 ht1 (by decide) (by decide) (by decide) rfl rfl rfl (ty := .int) (by decide +kernel) rfl rfl q507 (ys_eq rfl) rfl dX0_undo_28 ?_
    refine xr_aload_n (pc := 31) 0 dX0_undo_31 rfl rfl ?_
    obtain ⟨b3, hb3, hf⟩ := xo_bind hf
    refine yc_getFs (pc := 32) 1 9 109 (gKo ht1 (by decide)) (by decide) (by decide) (by decide) rfl rfl hb3 q495 (ys_eq rfl) rfl dX0_undo_32 ?_
    refine xr_aload_n (pc := 35) 0 dX0_undo_35 rfl rfl ?_
    obtain ⟨b4, hb4, hf⟩ := xo_bind hf
    refine yc_getFs (pc := 36) 1 20 120 (gKo ht1 (by decide)) (by decide) (by decide) (by decide) rfl rfl hb4 q506 (ys_eq rfl) rfl dX0_undo_36 ?_
    refine xr_aload_n (pc := 39) 0 dX0_undo_39 rfl rfl ?_
    refine yc_getI (pc := 40) 1 21 121 (gKo ht1 (by decide)) (by decide) (by decide) (by decide) rfl rfl q507 (ys_eq rfl) rfl dX0_undo_40 ?_
    obtain ⟨ht5, hf⟩ := xo_if hf
    obtain ⟨hi_, hf⟩ := xo_if hf
    obtain ⟨b6, hb6, hf⟩ := xo_bind hf
    refine yc_aalds (pc := 43) 108 (gKo ht5 (by decide)) (by decide) (by decide) rfl rfl hi_ hb6 dX0_undo_43 ?_
    obtain ⟨ht7, hf⟩ := xo_if hf
    obtain ⟨r8, τ8, hτ8, hf⟩ := xo_bd hf
    refine call_f_c_X5_copy_X0_292 (pc := 44) hτ8 (gKo ht7 (by decide)) rfl (Nat.le_of_ble_eq_true rfl) (Nat.le_of_ble_eq_true rfl) (Nat.le_of_ble_eq_true rfl) dX0_undo_44 ?_
    refine xr_pop (pc := 47) dX0_undo_47 rfl ?_
    refine xr_iconst (pc := 48) dX0_undo_48 xci_1 ?_
    rw [kr _ (Option.some.inj hf).symm]
    exact xr_zret (pc := 49) dX0_undo_49 rfl xz_1
theorem met_f_c_X0_undo (l : Launch) {D : CD} {P : CP} {g : CG} {x0 : Nat} {τ : CC} {o_ : (Int32 × CC)} (hf : f_c_X0_undo g x0 τ = some o_) : xMet (wC D P) l yX0_undo (ws_ yX0_undo cX0_undo 1 (some .boolean)) 1 60 (grc g) (grs g) [.ref x0] (g, τ) (some (.int o_.1), (g, o_.2)) := 
  xMet_of (by decide) (Nat.le_of_ble_eq_true rfl) KC_moved RPC_of (fun K _ _ _ => ok_f_c_X0_undo hf (fun _ h => by rw [h]))
theorem hd_f_c_X0_keeps : yX0_keeps.cls ≠ "java/lang/invoke/MethodHandle" ∧ yX0_keeps.cls ≠ "java/lang/invoke/VarHandle" ∧ (parseMethodDescriptor yX0_keeps.desc).map (fun d => d.parameters.length) = some 0 := by decide +kernel
theorem call_f_c_X0_keeps_X0_370 {D : CD} {P : CP} {K : xK} {M : xM} {Q : State → Prop} {g : CG} {c : CC} {x0 : Nat} {pc : Nat} {loc : List (Nat × Value)} {st : List Value} {c1 : CC} (hf : f_c_X0_keeps g x0 c = some c1) (hr : gK g x0 = 1) (ho : M.2.2.1 = RX0) (hfr : 2 ≤ M.2.2.2.1) (hlo : 82 ≤ M.2.2.2.2.1) (hcat : (st.map fun v => v.category).sum ≤ 8) (d : decode M.1 pc = .ok (.invokevirtual 370, 3)) (k : xV (wC D P) K M Q (g, c1) (pc + 3) loc st) : xV (wC D P) K M Q (g, c) pc loc (.ref x0 :: st) :=
  yc_callV (As := []) (rest := st) (met_f_c_X0_keeps K.2.1 hf) (lw_V q1627 q1629 qs60 q174 q1630) ⟨rfl, hd_f_c_X0_keeps⟩ ho hfr hlo rfl hr (by decide) (by decide) rfl rfl hcat d k
abbrev mX0_plant : xM := (cX0_plant, 3, RX0, 3, 180, (some .int), "plant")
def Jc_X0_plant_25 (g : CG) (x0 : Nat) (τ : CC) : Option (Int32 × CC) :=
  if gT g x0 = 1 then
  xbd (f_c_X0_refuses g x0 2 τ) fun r4 τ4 =>
  some ((r4, τ4))
  else none
theorem ok_Jc_X0_plant_25 {D : CD} {P : CP} {K : xK} {g : CG} {Z : Option Value × CS} {x0 : Nat} {τ : CC} {o_ : (Int32 × CC)} (hf : Jc_X0_plant_25 g x0 τ = some o_) (kr : ∀ r_ : (Int32 × CC), o_ = r_ → Z = (some (.int r_.1), (g, r_.2))) : xV (wC D P) K mX0_plant (xQ (wC D P) K Z) (g, τ) 25 [(0, .ref x0)] [] := by
  unfold Jc_X0_plant_25 at hf
  refine xr_aload_n (pc := 25) 0 dX0_plant_25 rfl rfl ?_
  refine xr_iconst (pc := 26) dX0_plant_26 xci_2 ?_
  obtain ⟨ht3, hf⟩ := xo_if hf
  obtain ⟨r4, τ4, hτ4, hf⟩ := xo_bd hf
  refine call_f_c_X0_refuses_X0_118 (pc := 27) hτ4 (gKo ht3 (by decide)) rfl (Nat.le_of_ble_eq_true rfl) (Nat.le_of_ble_eq_true rfl) (Nat.le_of_ble_eq_true rfl) dX0_plant_27 ?_
  rw [kr _ (Option.some.inj hf).symm]
  exact xr_iret (pc := 30) dX0_plant_30 rfl
def f_c_X0_plant (g : CG) (x0 : Nat) (x1 : Int32) (x2 : Int32) (τ : CC) : Option (Int32 × CC) :=
  if gT g x0 = 1 then
  xbd (f_c_X0_isCell g x0 x1 x2 τ) fun r2 τ2 =>
  if r2 = 0 then
  Jc_X0_plant_25 g x0 τ2
  else
  (gR g 109 x0).bind fun b5 =>
  if gT g b5 = 6 then
  (gR g 606 b5).bind fun b7 =>
  if gT g b7 = 105 then
  if xin x1 (gN g b7) = true then
  if gT g (gA g b7 x1.toNatClampNeg) = 100 then
  if xin x2 (gN g (gA g b7 x1.toNatClampNeg)) = true then
  if (cA τ2 (gA g b7 x1.toNatClampNeg) x2.toNatClampNeg) = 9 then
  Jc_X0_plant_25 g x0 τ2
  else
  (f_c_X0_keeps g x0 τ2).bind fun τ10 =>
  if xin x1 (gN g b7) = true then
  if xin x2 (gN g (gA g b7 x1.toNatClampNeg)) = true then
  if xin x2 (gN g (gA g b7 x1.toNatClampNeg)) = true then
  if xin x1 (gN g b7) = true then
  if xin x2 (gN g (gA g b7 x1.toNatClampNeg)) = true then
  some ((cA (uA τ10 (gA g b7 x1.toNatClampNeg) x2.toNatClampNeg ((cA τ10 (gA g b7 x1.toNatClampNeg) x2.toNatClampNeg) + 1)) (gA g b7 x1.toNatClampNeg) x2.toNatClampNeg, uA τ10 (gA g b7 x1.toNatClampNeg) x2.toNatClampNeg ((cA τ10 (gA g b7 x1.toNatClampNeg) x2.toNatClampNeg) + 1)))
  else none
  else none
  else none
  else none
  else none
  else none
  else none
  else none
  else none
  else none
  else none
theorem ok_f_c_X0_plant {D : CD} {P : CP} {K : xK} {g : CG} {Z : Option Value × CS} {x0 : Nat} {x1 : Int32} {x2 : Int32} {τ : CC} {o_ : (Int32 × CC)} (hf : f_c_X0_plant g x0 x1 x2 τ = some o_) (kr : ∀ r_ : (Int32 × CC), o_ = r_ → Z = (some (.int r_.1), (g, r_.2))) : xV (wC D P) K mX0_plant (xQ (wC D P) K Z) (g, τ) 0 [(0, .ref x0), (1, .int x1), (2, .int x2)] [] := by
  unfold f_c_X0_plant at hf
  refine xr_aload_n (pc := 0) 0 dX0_plant_0 rfl rfl ?_
  refine xr_iload_n (pc := 1) 1 dX0_plant_1 rfl rfl ?_
  refine xr_iload_n (pc := 2) 2 dX0_plant_2 rfl rfl ?_
  obtain ⟨ht1, hf⟩ := xo_if hf
  obtain ⟨r2, τ2, hτ2, hf⟩ := xo_bd hf
  refine call_f_c_X0_isCell_X0_250 (pc := 3) hτ2 (gKo ht1 (by decide)) rfl (Nat.le_of_ble_eq_true rfl) (Nat.le_of_ble_eq_true rfl) (Nat.le_of_ble_eq_true rfl) dX0_plant_3 ?_
  refine xr_if_eq (pc := 6) 25 dX0_plant_6 (by decide) (fun c_ => ?_) (fun c_ => ?_)
  · have hf := xo_pos c_ hf
    refine xV_sub [0] rfl ?_
    exact ok_Jc_X0_plant_25 hf kr
  · have hf := xo_neg c_ hf
    refine xr_aload_n (pc := 9) 0 dX0_plant_9 rfl rfl ?_
    obtain ⟨b5, hb5, hf⟩ := xo_bind hf
    refine yc_getFs (pc := 10) 1 9 109 (gKo ht1 (by decide)) (by decide) (by decide) (by decide) rfl rfl hb5 q495 (ys_eq rfl) rfl dX0_plant_10 ?_
    obtain ⟨ht6, hf⟩ := xo_if hf
    obtain ⟨b7, hb7, hf⟩ := xo_bind hf
    refine yc_getFsN (pc := 13) 6 6 606 (gKo ht6 (by decide)) (by decide) (by decide) (by decide) rfl rfl hb7 q447 (ys_eq rfl) rfl dX0_plant_13 ?_
    refine xr_iload_n (pc := 16) 1 dX0_plant_16 rfl rfl ?_
    obtain ⟨ht8, hf⟩ := xo_if hf
    obtain ⟨hi_, hf⟩ := xo_if hf
    refine yc_aaldF (pc := 17) 105 (gKo ht8 (by decide)) (by decide) (by decide) rfl rfl hi_ dX0_plant_17 ?_
    refine xr_iload_n (pc := 18) 2 dX0_plant_18 rfl rfl ?_
    obtain ⟨ht9, hf⟩ := xo_if hf
    obtain ⟨hi_, hf⟩ := xo_if hf
    refine yc_iald (pc := 19) (gKo ht9 (by decide)) hi_ dX0_plant_19 ?_
    refine xr_bipush (pc := 20) dX0_plant_20 xcb_9 ?_
    refine xr_icmp_ne (pc := 22) 31 dX0_plant_22 (by decide) (fun c_ => ?_) (fun c_ => ?_)
    · have hf := xo_pos c_ hf
      refine xV_sub [0] rfl ?_
      exact ok_Jc_X0_plant_25 hf kr
    · have hf := xo_neg c_ hf
      refine xr_aload_n (pc := 31) 0 dX0_plant_31 rfl rfl ?_
      obtain ⟨τ10, hτ10, hf⟩ := xo_bind hf
      refine call_f_c_X0_keeps_X0_370 (pc := 32) hτ10 (gKo ht1 (by decide)) rfl (Nat.le_of_ble_eq_true rfl) (Nat.le_of_ble_eq_true rfl) (Nat.le_of_ble_eq_true rfl) dX0_plant_32 ?_
      refine xr_aload_n (pc := 35) 0 dX0_plant_35 rfl rfl ?_
      refine yc_getFs (pc := 36) 1 9 109 (gKo ht1 (by decide)) (by decide) (by decide) (by decide) rfl rfl hb5 q495 (ys_eq rfl) rfl dX0_plant_36 ?_
      refine yc_getFsN (pc := 39) 6 6 606 (gKo ht6 (by decide)) (by decide) (by decide) (by decide) rfl rfl hb7 q447 (ys_eq rfl) rfl dX0_plant_39 ?_
      refine xr_iload_n (pc := 42) 1 dX0_plant_42 rfl rfl ?_
      obtain ⟨hi_, hf⟩ := xo_if hf
      refine yc_aaldF (pc := 43) 105 (gKo ht8 (by decide)) (by decide) (by decide) rfl rfl hi_ dX0_plant_43 ?_
      refine xr_iload_n (pc := 44) 2 dX0_plant_44 rfl rfl ?_
      refine xr_dup2_11 (pc := 45) dX0_plant_45 rfl rfl ?_
      obtain ⟨hi_, hf⟩ := xo_if hf
      refine yc_iald (pc := 46) (gKo ht9 (by decide)) hi_ dX0_plant_46 ?_
      refine xr_iconst (pc := 47) dX0_plant_47 xci_1 ?_
      refine xr_iadd (pc := 48) dX0_plant_48 ?_
      obtain ⟨hi_, hf⟩ := xo_if hf
      refine yc_iast (pc := 49) ht9 hi_ dX0_plant_49 ?_
      refine xr_aload_n (pc := 50) 0 dX0_plant_50 rfl rfl ?_
      refine yc_getFs (pc := 51) 1 9 109 (gKo ht1 (by decide)) (by decide) (by decide) (by decide) rfl rfl hb5 q495 (ys_eq rfl) rfl dX0_plant_51 ?_
      refine yc_getFsN (pc := 54) 6 6 606 (gKo ht6 (by decide)) (by decide) (by decide) (by decide) rfl rfl hb7 q447 (ys_eq rfl) rfl dX0_plant_54 ?_
      refine xr_iload_n (pc := 57) 1 dX0_plant_57 rfl rfl ?_
      obtain ⟨hi_, hf⟩ := xo_if hf
      refine yc_aaldF (pc := 58) 105 (gKo ht8 (by decide)) (by decide) (by decide) rfl rfl hi_ dX0_plant_58 ?_
      refine xr_iload_n (pc := 59) 2 dX0_plant_59 rfl rfl ?_
      obtain ⟨hi_, hf⟩ := xo_if hf
      refine yc_iald (pc := 60) (gKo ht9 (by decide)) hi_ dX0_plant_60 ?_
      rw [kr _ (Option.some.inj hf).symm]
      exact xr_iret (pc := 61) dX0_plant_61 rfl
theorem met_f_c_X0_plant (l : Launch) {D : CD} {P : CP} {g : CG} {x0 : Nat} {x1 : Int32} {x2 : Int32} {τ : CC} {o_ : (Int32 × CC)} (hf : f_c_X0_plant g x0 x1 x2 τ = some o_) : xMet (wC D P) l yX0_plant (ws_ yX0_plant cX0_plant 3 (some .int)) 3 180 (grc g) (grs g) [.ref x0, .int x1, .int x2] (g, τ) (some (.int o_.1), (g, o_.2)) := 
  xMet_of (by decide) (Nat.le_of_ble_eq_true rfl) KC_moved RPC_of (fun K _ _ _ => ok_f_c_X0_plant hf (fun _ h => by rw [h]))
abbrev mX0_offer : xM := (cX0_offer, 3, RX0, 3, 180, (some .boolean), "offer")
def Jc_X0_offer_39 (g : CG) (x0 : Nat) (τ : CC) : Option (Int32 × CC) :=
  if gT g x0 = 1 then
  xbd (f_c_X0_refuses g x0 2 τ) fun r4 τ4 =>
  if r4 < 0 then
  some ((0, τ4))
  else
  some ((1, τ4))
  else none
theorem ok_Jc_X0_offer_39 {D : CD} {P : CP} {K : xK} {g : CG} {Z : Option Value × CS} {x0 : Nat} {τ : CC} {o_ : (Int32 × CC)} (hf : Jc_X0_offer_39 g x0 τ = some o_) (kr : ∀ r_ : (Int32 × CC), o_ = r_ → Z = (some (.int r_.1), (g, r_.2))) : xV (wC D P) K mX0_offer (xQ (wC D P) K Z) (g, τ) 39 [(0, .ref x0)] [] := by
  unfold Jc_X0_offer_39 at hf
  refine xr_aload_n (pc := 39) 0 dX0_offer_39 rfl rfl ?_
  refine xr_iconst (pc := 40) dX0_offer_40 xci_2 ?_
  obtain ⟨ht3, hf⟩ := xo_if hf
  obtain ⟨r4, τ4, hτ4, hf⟩ := xo_bd hf
  refine call_f_c_X0_refuses_X0_118 (pc := 41) hτ4 (gKo ht3 (by decide)) rfl (Nat.le_of_ble_eq_true rfl) (Nat.le_of_ble_eq_true rfl) (Nat.le_of_ble_eq_true rfl) dX0_offer_41 ?_
  refine xr_if_lt (pc := 44) 51 dX0_offer_44 (by decide) (fun c_ => ?_) (fun c_ => ?_)
  · have hf := xo_pos c_ hf
    refine xr_iconst (pc := 51) dX0_offer_51 xci_0 ?_
    rw [kr _ (Option.some.inj hf).symm]
    exact xr_zret (pc := 52) dX0_offer_52 rfl xz_0
  · have hf := xo_neg c_ hf
    refine xr_iconst (pc := 47) dX0_offer_47 xci_1 ?_
    refine xr_goto (pc := 48) 52 dX0_offer_48 (by decide) ?_
    rw [kr _ (Option.some.inj hf).symm]
    exact xr_zret (pc := 52) dX0_offer_52 rfl xz_1
def Jc_X0_offer_36 (g : CG) (x0 : Nat) (x1 : Int32) (x2 : Int32) (s0 : Int32) (s1 : Int32) (τ : CC) : Option (Int32 × CC) :=
  if s1 = s0 then
  Jc_X0_offer_39 g x0 τ
  else
  if gT g x0 = 1 then
  (f_c_X0_keeps g x0 τ).bind fun τ11 =>
  (gR g 109 x0).bind fun b12 =>
  if gT g b12 = 6 then
  (gR g 605 b12).bind fun b14 =>
  if x2 = 1 then
  if gT g b14 = 104 then
  if xin x1 (gN g b14) = true then
  some ((1, uA τ11 b14 x1.toNatClampNeg ((1 : Int32) &&& (1 : Int32))))
  else none
  else none
  else
  if gT g b14 = 104 then
  if xin x1 (gN g b14) = true then
  some ((1, uA τ11 b14 x1.toNatClampNeg ((0 : Int32) &&& 1)))
  else none
  else none
  else none
  else none
theorem ok_Jc_X0_offer_36 {D : CD} {P : CP} {K : xK} {g : CG} {Z : Option Value × CS} {x0 : Nat} {x1 : Int32} {x2 : Int32} {s0 : Int32} {s1 : Int32} {τ : CC} {o_ : (Int32 × CC)} (hf : Jc_X0_offer_36 g x0 x1 x2 s0 s1 τ = some o_) (kr : ∀ r_ : (Int32 × CC), o_ = r_ → Z = (some (.int r_.1), (g, r_.2))) : xV (wC D P) K mX0_offer (xQ (wC D P) K Z) (g, τ) 36 [(0, .ref x0), (1, .int x1), (2, .int x2)] [.int s0, .int s1] := by
  unfold Jc_X0_offer_36 at hf
  refine xr_icmp_ne (pc := 36) 53 dX0_offer_36 (by decide) (fun c_ => ?_) (fun c_ => ?_)
  · have hf := xo_pos c_ hf
    refine xV_sub [0] rfl ?_
    exact ok_Jc_X0_offer_39 hf kr
  · have hf := xo_neg c_ hf
    refine xr_aload_n (pc := 53) 0 dX0_offer_53 rfl rfl ?_
    obtain ⟨ht10, hf⟩ := xo_if hf
    obtain ⟨τ11, hτ11, hf⟩ := xo_bind hf
    refine call_f_c_X0_keeps_X0_370 (pc := 54) hτ11 (gKo ht10 (by decide)) rfl (Nat.le_of_ble_eq_true rfl) (Nat.le_of_ble_eq_true rfl) (Nat.le_of_ble_eq_true rfl) dX0_offer_54 ?_
    refine xr_aload_n (pc := 57) 0 dX0_offer_57 rfl rfl ?_
    obtain ⟨b12, hb12, hf⟩ := xo_bind hf
    refine yc_getFs (pc := 58) 1 9 109 (gKo ht10 (by decide)) (by decide) (by decide) (by decide) rfl rfl hb12 q495 (ys_eq rfl) rfl dX0_offer_58 ?_
    obtain ⟨ht13, hf⟩ := xo_if hf
    obtain ⟨b14, hb14, hf⟩ := xo_bind hf
    refine yc_getFsN (pc := 61) 6 5 605 (gKo ht13 (by decide)) (by decide) (by decide) (by decide) rfl rfl hb14 q445 (ys_eq rfl) rfl dX0_offer_61 ?_
    refine xr_iload_n (pc := 64) 1 dX0_offer_64 rfl rfl ?_
    refine xr_iload_n (pc := 65) 2 dX0_offer_65 rfl rfl ?_
    refine xr_iconst (pc := 66) dX0_offer_66 xci_1 ?_
    refine xr_icmp_ne (pc := 67) 74 dX0_offer_67 (by decide) (fun c_ => ?_) (fun c_ => ?_)
    · have hf := xo_pos c_ hf
      refine xr_iconst (pc := 70) dX0_offer_70 xci_1 ?_
      refine xr_goto (pc := 71) 75 dX0_offer_71 (by decide) ?_
      obtain ⟨ht15, hf⟩ := xo_if hf
      obtain ⟨hi_, hf⟩ := xo_if hf
      refine yc_zast (pc := 75) ht15 hi_ dX0_offer_75 ?_
      refine xr_iconst (pc := 76) dX0_offer_76 xci_1 ?_
      rw [kr _ (Option.some.inj hf).symm]
      exact xr_zret (pc := 77) dX0_offer_77 rfl xz_1
    · have hf := xo_neg c_ hf
      refine xr_iconst (pc := 74) dX0_offer_74 xci_0 ?_
      obtain ⟨ht16, hf⟩ := xo_if hf
      obtain ⟨hi_, hf⟩ := xo_if hf
      refine yc_zast (pc := 75) ht16 hi_ dX0_offer_75 ?_
      refine xr_iconst (pc := 76) dX0_offer_76 xci_1 ?_
      rw [kr _ (Option.some.inj hf).symm]
      exact xr_zret (pc := 77) dX0_offer_77 rfl xz_1
def f_c_X0_offer (g : CG) (x0 : Nat) (x1 : Int32) (x2 : Int32) (τ : CC) : Option (Int32 × CC) :=
  if gT g x0 = 1 then
  xbd (f_c_X0_isLord g x0 x1 τ) fun r2 τ2 =>
  if r2 = 0 then
  Jc_X0_offer_39 g x0 τ2
  else
  xbd (f_c_X0_is g x2 0 1 τ2) fun r5 τ5 =>
  if r5 = 0 then
  Jc_X0_offer_39 g x0 τ5
  else
  (gR g 109 x0).bind fun b6 =>
  if gT g b6 = 6 then
  (gR g 605 b6).bind fun b8 =>
  if gT g b8 = 104 then
  if xin x1 (gN g b8) = true then
  if x2 = 1 then
  Jc_X0_offer_36 g x0 x1 x2 1 (cA τ5 b8 x1.toNatClampNeg) τ5
  else
  Jc_X0_offer_36 g x0 x1 x2 0 (cA τ5 b8 x1.toNatClampNeg) τ5
  else none
  else none
  else none
  else none
theorem ok_f_c_X0_offer {D : CD} {P : CP} {K : xK} {g : CG} {Z : Option Value × CS} {x0 : Nat} {x1 : Int32} {x2 : Int32} {τ : CC} {o_ : (Int32 × CC)} (hf : f_c_X0_offer g x0 x1 x2 τ = some o_) (kr : ∀ r_ : (Int32 × CC), o_ = r_ → Z = (some (.int r_.1), (g, r_.2))) : xV (wC D P) K mX0_offer (xQ (wC D P) K Z) (g, τ) 0 [(0, .ref x0), (1, .int x1), (2, .int x2)] [] := by
  unfold f_c_X0_offer at hf
  refine xr_aload_n (pc := 0) 0 dX0_offer_0 rfl rfl ?_
  refine xr_iload_n (pc := 1) 1 dX0_offer_1 rfl rfl ?_
  obtain ⟨ht1, hf⟩ := xo_if hf
  obtain ⟨r2, τ2, hτ2, hf⟩ := xo_bd hf
  refine call_f_c_X0_isLord_X0_228 (pc := 2) hτ2 (gKo ht1 (by decide)) rfl (Nat.le_of_ble_eq_true rfl) (Nat.le_of_ble_eq_true rfl) (Nat.le_of_ble_eq_true rfl) dX0_offer_2 ?_
  refine xr_if_eq (pc := 5) 39 dX0_offer_5 (by decide) (fun c_ => ?_) (fun c_ => ?_)
  · have hf := xo_pos c_ hf
    refine xV_sub [0] rfl ?_
    exact ok_Jc_X0_offer_39 hf kr
  · have hf := xo_neg c_ hf
    refine xr_iload_n (pc := 8) 2 dX0_offer_8 rfl rfl ?_
    refine xr_iconst (pc := 9) dX0_offer_9 xci_0 ?_
    refine xr_iconst (pc := 10) dX0_offer_10 xci_1 ?_
    obtain ⟨r5, τ5, hτ5, hf⟩ := xo_bd hf
    refine call_f_c_X0_is_X0_176 (pc := 11) hτ5 rfl (Nat.le_of_ble_eq_true rfl) (Nat.le_of_ble_eq_true rfl) (Nat.le_of_ble_eq_true rfl) dX0_offer_11 ?_
    refine xr_if_eq (pc := 14) 39 dX0_offer_14 (by decide) (fun c_ => ?_) (fun c_ => ?_)
    · have hf := xo_pos c_ hf
      refine xV_sub [0] rfl ?_
      exact ok_Jc_X0_offer_39 hf kr
    · have hf := xo_neg c_ hf
      refine xr_aload_n (pc := 17) 0 dX0_offer_17 rfl rfl ?_
      obtain ⟨b6, hb6, hf⟩ := xo_bind hf
      refine yc_getFs (pc := 18) 1 9 109 (gKo ht1 (by decide)) (by decide) (by decide) (by decide) rfl rfl hb6 q495 (ys_eq rfl) rfl dX0_offer_18 ?_
      obtain ⟨ht7, hf⟩ := xo_if hf
      obtain ⟨b8, hb8, hf⟩ := xo_bind hf
      refine yc_getFsN (pc := 21) 6 5 605 (gKo ht7 (by decide)) (by decide) (by decide) (by decide) rfl rfl hb8 q445 (ys_eq rfl) rfl dX0_offer_21 ?_
      refine xr_iload_n (pc := 24) 1 dX0_offer_24 rfl rfl ?_
      obtain ⟨ht9, hf⟩ := xo_if hf
      obtain ⟨hi_, hf⟩ := xo_if hf
      refine yc_zald (pc := 25) (gKo ht9 (by decide)) hi_ dX0_offer_25 ?_
      refine xr_iload_n (pc := 26) 2 dX0_offer_26 rfl rfl ?_
      refine xr_iconst (pc := 27) dX0_offer_27 xci_1 ?_
      refine xr_icmp_ne (pc := 28) 35 dX0_offer_28 (by decide) (fun c_ => ?_) (fun c_ => ?_)
      · have hf := xo_pos c_ hf
        refine xr_iconst (pc := 31) dX0_offer_31 xci_1 ?_
        refine xr_goto (pc := 32) 36 dX0_offer_32 (by decide) ?_
        exact ok_Jc_X0_offer_36 hf kr
      · have hf := xo_neg c_ hf
        refine xr_iconst (pc := 35) dX0_offer_35 xci_0 ?_
        exact ok_Jc_X0_offer_36 hf kr
theorem met_f_c_X0_offer (l : Launch) {D : CD} {P : CP} {g : CG} {x0 : Nat} {x1 : Int32} {x2 : Int32} {τ : CC} {o_ : (Int32 × CC)} (hf : f_c_X0_offer g x0 x1 x2 τ = some o_) : xMet (wC D P) l yX0_offer (ws_ yX0_offer cX0_offer 3 (some .boolean)) 3 180 (grc g) (grs g) [.ref x0, .int x1, .int x2] (g, τ) (some (.int o_.1), (g, o_.2)) := 
  xMet_of (by decide) (Nat.le_of_ble_eq_true rfl) KC_moved RPC_of (fun K _ _ _ => ok_f_c_X0_offer hf (fun _ h => by rw [h]))
abbrev mX0_cut : xM := (cX0_cut, 2, RX0, 3, 180, (some .boolean), "cut")
def Jc_X0_cut_34 (g : CG) (x0 : Nat) (τ : CC) : Option (Int32 × CC) :=
  if gT g x0 = 1 then
  xbd (f_c_X0_refuses g x0 2 τ) fun r5 τ5 =>
  if r5 < 0 then
  some ((0, τ5))
  else
  some ((1, τ5))
  else none
theorem ok_Jc_X0_cut_34 {D : CD} {P : CP} {K : xK} {g : CG} {Z : Option Value × CS} {x0 : Nat} {τ : CC} {o_ : (Int32 × CC)} (hf : Jc_X0_cut_34 g x0 τ = some o_) (kr : ∀ r_ : (Int32 × CC), o_ = r_ → Z = (some (.int r_.1), (g, r_.2))) : xV (wC D P) K mX0_cut (xQ (wC D P) K Z) (g, τ) 34 [(0, .ref x0)] [] := by
  unfold Jc_X0_cut_34 at hf
  refine xr_aload_n (pc := 34) 0 dX0_cut_34 rfl rfl ?_
  refine xr_iconst (pc := 35) dX0_cut_35 xci_2 ?_
  obtain ⟨ht4, hf⟩ := xo_if hf
  obtain ⟨r5, τ5, hτ5, hf⟩ := xo_bd hf
  refine call_f_c_X0_refuses_X0_118 (pc := 36) hτ5 (gKo ht4 (by decide)) rfl (Nat.le_of_ble_eq_true rfl) (Nat.le_of_ble_eq_true rfl) (Nat.le_of_ble_eq_true rfl) dX0_cut_36 ?_
  refine xr_if_lt (pc := 39) 46 dX0_cut_39 (by decide) (fun c_ => ?_) (fun c_ => ?_)
  · have hf := xo_pos c_ hf
    refine xr_iconst (pc := 46) dX0_cut_46 xci_0 ?_
    rw [kr _ (Option.some.inj hf).symm]
    exact xr_zret (pc := 47) dX0_cut_47 rfl xz_0
  · have hf := xo_neg c_ hf
    refine xr_iconst (pc := 42) dX0_cut_42 xci_1 ?_
    refine xr_goto (pc := 43) 47 dX0_cut_43 (by decide) ?_
    rw [kr _ (Option.some.inj hf).symm]
    exact xr_zret (pc := 47) dX0_cut_47 rfl xz_1
def f_c_X0_cut (g : CG) (x0 : Nat) (x1 : Int32) (τ : CC) : Option (Int32 × CC) :=
  if gT g x0 = 1 then
  xbd (f_c_X0_columns g x0 τ) fun r2 τ2 =>
  xbd (f_c_X0_is g x1 1 (r2 - 2) τ2) fun r3 τ3 =>
  if r3 = 0 then
  Jc_X0_cut_34 g x0 τ3
  else
  (gR g 109 x0).bind fun b6 =>
  if gT g b6 = 6 then
  (gR g 603 b6).bind fun b8 =>
  if gT g b8 = 100 then
  if xin x1 (gN g b8) = true then
  xbd (f_c_X5_half g b6 x1 τ3) fun r10 τ10 =>
  if (cA τ3 b8 x1.toNatClampNeg) = r10 then
  Jc_X0_cut_34 g x0 τ10
  else
  (f_c_X0_keeps g x0 τ10).bind fun τ11 =>
  xbd (f_c_X5_half g b6 x1 τ11) fun r12 τ12 =>
  if xin x1 (gN g b8) = true then
  some ((1, uA τ12 b8 x1.toNatClampNeg r12))
  else none
  else none
  else none
  else none
  else none
theorem ok_f_c_X0_cut {D : CD} {P : CP} {K : xK} {g : CG} {Z : Option Value × CS} {x0 : Nat} {x1 : Int32} {τ : CC} {o_ : (Int32 × CC)} (hf : f_c_X0_cut g x0 x1 τ = some o_) (kr : ∀ r_ : (Int32 × CC), o_ = r_ → Z = (some (.int r_.1), (g, r_.2))) : xV (wC D P) K mX0_cut (xQ (wC D P) K Z) (g, τ) 0 [(0, .ref x0), (1, .int x1)] [] := by
  unfold f_c_X0_cut at hf
  refine xr_iload_n (pc := 0) 1 dX0_cut_0 rfl rfl ?_
  refine xr_iconst (pc := 1) dX0_cut_1 xci_1 ?_
  refine xr_aload_n (pc := 2) 0 dX0_cut_2 rfl rfl ?_
  obtain ⟨ht1, hf⟩ := xo_if hf
  obtain ⟨r2, τ2, hτ2, hf⟩ := xo_bd hf
  refine call_f_c_X0_columns_X0_169 (pc := 3) hτ2 (gKo ht1 (by decide)) rfl (Nat.le_of_ble_eq_true rfl) (Nat.le_of_ble_eq_true rfl) (Nat.le_of_ble_eq_true rfl) dX0_cut_3 ?_
  refine xr_iconst (pc := 6) dX0_cut_6 xci_2 ?_
  refine xr_isub (pc := 7) dX0_cut_7 ?_
  obtain ⟨r3, τ3, hτ3, hf⟩ := xo_bd hf
  refine call_f_c_X0_is_X0_176 (pc := 8) hτ3 rfl (Nat.le_of_ble_eq_true rfl) (Nat.le_of_ble_eq_true rfl) (Nat.le_of_ble_eq_true rfl) dX0_cut_8 ?_
  refine xr_if_eq (pc := 11) 34 dX0_cut_11 (by decide) (fun c_ => ?_) (fun c_ => ?_)
  · have hf := xo_pos c_ hf
    refine xV_sub [0] rfl ?_
    exact ok_Jc_X0_cut_34 hf kr
  · have hf := xo_neg c_ hf
    refine xr_aload_n (pc := 14) 0 dX0_cut_14 rfl rfl ?_
    obtain ⟨b6, hb6, hf⟩ := xo_bind hf
    refine yc_getFs (pc := 15) 1 9 109 (gKo ht1 (by decide)) (by decide) (by decide) (by decide) rfl rfl hb6 q495 (ys_eq rfl) rfl dX0_cut_15 ?_
    obtain ⟨ht7, hf⟩ := xo_if hf
    obtain ⟨b8, hb8, hf⟩ := xo_bind hf
    refine yc_getFsN (pc := 18) 6 3 603 (gKo ht7 (by decide)) (by decide) (by decide) (by decide) rfl rfl hb8 q441 (ys_eq rfl) rfl dX0_cut_18 ?_
    refine xr_iload_n (pc := 21) 1 dX0_cut_21 rfl rfl ?_
    obtain ⟨ht9, hf⟩ := xo_if hf
    obtain ⟨hi_, hf⟩ := xo_if hf
    refine yc_iald (pc := 22) (gKo ht9 (by decide)) hi_ dX0_cut_22 ?_
    refine xr_aload_n (pc := 23) 0 dX0_cut_23 rfl rfl ?_
    refine yc_getFs (pc := 24) 1 9 109 (gKo ht1 (by decide)) (by decide) (by decide) (by decide) rfl rfl hb6 q495 (ys_eq rfl) rfl dX0_cut_24 ?_
    refine xr_iload_n (pc := 27) 1 dX0_cut_27 rfl rfl ?_
    obtain ⟨r10, τ10, hτ10, hf⟩ := xo_bd hf
    refine call_f_c_X5_half_X0_334 (pc := 28) hτ10 (gKo ht7 (by decide)) rfl (Nat.le_of_ble_eq_true rfl) (Nat.le_of_ble_eq_true rfl) (Nat.le_of_ble_eq_true rfl) dX0_cut_28 ?_
    refine xr_icmp_ne (pc := 31) 48 dX0_cut_31 (by decide) (fun c_ => ?_) (fun c_ => ?_)
    · have hf := xo_pos c_ hf
      refine xV_sub [0] rfl ?_
      exact ok_Jc_X0_cut_34 hf kr
    · have hf := xo_neg c_ hf
      refine xr_aload_n (pc := 48) 0 dX0_cut_48 rfl rfl ?_
      obtain ⟨τ11, hτ11, hf⟩ := xo_bind hf
      refine call_f_c_X0_keeps_X0_370 (pc := 49) hτ11 (gKo ht1 (by decide)) rfl (Nat.le_of_ble_eq_true rfl) (Nat.le_of_ble_eq_true rfl) (Nat.le_of_ble_eq_true rfl) dX0_cut_49 ?_
      refine xr_aload_n (pc := 52) 0 dX0_cut_52 rfl rfl ?_
      refine yc_getFs (pc := 53) 1 9 109 (gKo ht1 (by decide)) (by decide) (by decide) (by decide) rfl rfl hb6 q495 (ys_eq rfl) rfl dX0_cut_53 ?_
      refine yc_getFsN (pc := 56) 6 3 603 (gKo ht7 (by decide)) (by decide) (by decide) (by decide) rfl rfl hb8 q441 (ys_eq rfl) rfl dX0_cut_56 ?_
      refine xr_iload_n (pc := 59) 1 dX0_cut_59 rfl rfl ?_
      refine xr_aload_n (pc := 60) 0 dX0_cut_60 rfl rfl ?_
      refine yc_getFs (pc := 61) 1 9 109 (gKo ht1 (by decide)) (by decide) (by decide) (by decide) rfl rfl hb6 q495 (ys_eq rfl) rfl dX0_cut_61 ?_
      refine xr_iload_n (pc := 64) 1 dX0_cut_64 rfl rfl ?_
      obtain ⟨r12, τ12, hτ12, hf⟩ := xo_bd hf
      refine call_f_c_X5_half_X0_334 (pc := 65) hτ12 (gKo ht7 (by decide)) rfl (Nat.le_of_ble_eq_true rfl) (Nat.le_of_ble_eq_true rfl) (Nat.le_of_ble_eq_true rfl) dX0_cut_65 ?_
      obtain ⟨hi_, hf⟩ := xo_if hf
      refine yc_iast (pc := 68) ht9 hi_ dX0_cut_68 ?_
      refine xr_iconst (pc := 69) dX0_cut_69 xci_1 ?_
      rw [kr _ (Option.some.inj hf).symm]
      exact xr_zret (pc := 70) dX0_cut_70 rfl xz_1
theorem met_f_c_X0_cut (l : Launch) {D : CD} {P : CP} {g : CG} {x0 : Nat} {x1 : Int32} {τ : CC} {o_ : (Int32 × CC)} (hf : f_c_X0_cut g x0 x1 τ = some o_) : xMet (wC D P) l yX0_cut (ws_ yX0_cut cX0_cut 2 (some .boolean)) 3 180 (grc g) (grs g) [.ref x0, .int x1] (g, τ) (some (.int o_.1), (g, o_.2)) := 
  xMet_of (by decide) (Nat.le_of_ble_eq_true rfl) KC_moved RPC_of (fun K _ _ _ => ok_f_c_X0_cut hf (fun _ h => by rw [h]))
abbrev mX0_seasons : xM := (cX0_seasons, 4, RX0, 82, 4920, (some .int), "seasons")
def Bc_X0_seasons_25 (g : CG) (x0 : Nat) (x1 : Int32) (x2 : Int32) (x3 : Int32) (τ : CC) : Option ((Int32 × Int32 × CC) ⊕ ((Int32 × CC))) :=
  if x1 ≤ x3 then
  some (.inr (x2, τ))
  else
  if gT g x0 = 1 then
  (gR g 109 x0).bind fun b6 =>
  if gT g b6 = 6 then
  xbd (f_c_X5_passes g b6 τ) fun r8 τ8 =>
  some (.inl (x2 + r8, x3 + 1, τ8))
  else none
  else none
theorem ok_Bc_X0_seasons_25 {D : CD} {P : CP} {K : xK} {g : CG} {Z : Option Value × CS} {x0 : Nat} {x1 : Int32} {x2 : Int32} {x3 : Int32} {τ : CC} {o_ : ((Int32 × Int32 × CC) ⊕ ((Int32 × CC)))} (hf : Bc_X0_seasons_25 g x0 x1 x2 x3 τ = some o_) (kc : ∀ s_ : Int32 × Int32 × CC, o_ = .inl s_ → xV (wC D P) K mX0_seasons (xQ (wC D P) K Z) (g, s_.2.2) 25 [(0, .ref x0), (1, .int x1), (2, .int s_.1), (3, .int s_.2.1)] []) (ke0 : ∀ e_ : Int32 × CC, o_ = .inr e_ → xV (wC D P) K mX0_seasons (xQ (wC D P) K Z) (g, e_.2) 46 [(2, .int e_.1)] []) : xV (wC D P) K mX0_seasons (xQ (wC D P) K Z) (g, τ) 25 [(0, .ref x0), (1, .int x1), (2, .int x2), (3, .int x3)] [] := by
  unfold Bc_X0_seasons_25 at hf
  refine xr_iload_n (pc := 25) 3 dX0_seasons_25 rfl rfl ?_
  refine xr_iload_n (pc := 26) 1 dX0_seasons_26 rfl rfl ?_
  refine xr_icmp_ge (pc := 27) 46 dX0_seasons_27 (by decide) (fun c_ => ?_) (fun c_ => ?_)
  · have hf := xo_pos c_ hf
    refine xV_sub [2] rfl ?_
    exact ke0 _ (Option.some.inj hf).symm
  · have hf := xo_neg c_ hf
    refine xr_iload_n (pc := 30) 2 dX0_seasons_30 rfl rfl ?_
    refine xr_aload_n (pc := 31) 0 dX0_seasons_31 rfl rfl ?_
    obtain ⟨ht5, hf⟩ := xo_if hf
    obtain ⟨b6, hb6, hf⟩ := xo_bind hf
    refine yc_getFs (pc := 32) 1 9 109 (gKo ht5 (by decide)) (by decide) (by decide) (by decide) rfl rfl hb6 q495 (ys_eq rfl) rfl dX0_seasons_32 ?_
    obtain ⟨ht7, hf⟩ := xo_if hf
    obtain ⟨r8, τ8, hτ8, hf⟩ := xo_bd hf
    refine call_f_c_X5_passes_X0_300 (pc := 35) hτ8 (gKo ht7 (by decide)) rfl (Nat.le_of_ble_eq_true rfl) (Nat.le_of_ble_eq_true rfl) (Nat.le_of_ble_eq_true rfl) dX0_seasons_35 ?_
    refine xr_iadd (pc := 38) dX0_seasons_38 ?_
    refine xr_istore_n (pc := 39) (loc' := [(2, .int (x2 + r8)), (0, .ref x0), (1, .int x1), (3, .int x3)]) dX0_seasons_39 rfl (by decide) rfl ?_
    refine xr_iinc (pc := 40) (loc' := [(3, .int (x3 + 1)), (2, .int (x2 + r8)), (0, .ref x0), (1, .int x1)]) 3 dX0_seasons_40 rfl xci_1 (by decide) rfl ?_
    refine xr_goto (pc := 43) 25 dX0_seasons_43 (by decide) ?_
    refine xV_sub [2, 3, 1, 0] rfl ?_
    exact kc _ (Option.some.inj hf).symm
def f_c_X0_seasons (g : CG) (x0 : Nat) (x1 : Int32) (τ : CC) : Option (Int32 × CC) :=
  if gT g x0 = 1 then
  xbd (f_c_X0_isAhead g x0 x1 1 100 τ) fun r2 τ2 =>
  if r2 = 0 then
  xbd (f_c_X0_refuses g x0 3 τ2) fun r3 τ3 =>
  some ((r3, τ3))
  else
  (f_c_X0_keeps g x0 τ2).bind fun τ4 =>
  (itr (fun s_ : Int32 × Int32 × CC => Bc_X0_seasons_25 g x0 x1 s_.1 s_.2.1 s_.2.2) 4096 (0, 0, τ4)).bind fun b9 =>
  some ((b9.1, b9.2))
  else none
theorem ok_f_c_X0_seasons {D : CD} {P : CP} {K : xK} {g : CG} {Z : Option Value × CS} {x0 : Nat} {x1 : Int32} {τ : CC} {o_ : (Int32 × CC)} (hf : f_c_X0_seasons g x0 x1 τ = some o_) (kr : ∀ r_ : (Int32 × CC), o_ = r_ → Z = (some (.int r_.1), (g, r_.2))) : xV (wC D P) K mX0_seasons (xQ (wC D P) K Z) (g, τ) 0 [(0, .ref x0), (1, .int x1)] [] := by
  unfold f_c_X0_seasons at hf
  refine xr_aload_n (pc := 0) 0 dX0_seasons_0 rfl rfl ?_
  refine xr_iload_n (pc := 1) 1 dX0_seasons_1 rfl rfl ?_
  refine xr_iconst (pc := 2) dX0_seasons_2 xci_1 ?_
  refine xr_bipush (pc := 3) dX0_seasons_3 xcb_100 ?_
  obtain ⟨ht1, hf⟩ := xo_if hf
  obtain ⟨r2, τ2, hτ2, hf⟩ := xo_bd hf
  refine call_f_c_X0_isAhead_X0_289 (pc := 5) hτ2 (gKo ht1 (by decide)) rfl (Nat.le_of_ble_eq_true rfl) (Nat.le_of_ble_eq_true rfl) (Nat.le_of_ble_eq_true rfl) dX0_seasons_5 ?_
  refine xr_if_ne (pc := 8) 17 dX0_seasons_8 (by decide) (fun c_ => ?_) (fun c_ => ?_)
  · have hf := xo_pos c_ hf
    refine xr_aload_n (pc := 11) 0 dX0_seasons_11 rfl rfl ?_
    refine xr_iconst (pc := 12) dX0_seasons_12 xci_3 ?_
    obtain ⟨r3, τ3, hτ3, hf⟩ := xo_bd hf
    refine call_f_c_X0_refuses_X0_118 (pc := 13) hτ3 (gKo ht1 (by decide)) rfl (Nat.le_of_ble_eq_true rfl) (Nat.le_of_ble_eq_true rfl) (Nat.le_of_ble_eq_true rfl) dX0_seasons_13 ?_
    rw [kr _ (Option.some.inj hf).symm]
    exact xr_iret (pc := 16) dX0_seasons_16 rfl
  · have hf := xo_neg c_ hf
    refine xr_aload_n (pc := 17) 0 dX0_seasons_17 rfl rfl ?_
    obtain ⟨τ4, hτ4, hf⟩ := xo_bind hf
    refine call_f_c_X0_keeps_X0_370 (pc := 18) hτ4 (gKo ht1 (by decide)) rfl (Nat.le_of_ble_eq_true rfl) (Nat.le_of_ble_eq_true rfl) (Nat.le_of_ble_eq_true rfl) dX0_seasons_18 ?_
    refine xr_iconst (pc := 21) dX0_seasons_21 xci_0 ?_
    refine xr_istore_n (pc := 22) (loc' := [(2, .int 0), (0, .ref x0), (1, .int x1)]) dX0_seasons_22 rfl (by decide) rfl ?_
    refine xr_iconst (pc := 23) dX0_seasons_23 xci_0 ?_
    refine xr_istore_n (pc := 24) (loc' := [(3, .int 0), (2, .int 0), (0, .ref x0), (1, .int x1)]) dX0_seasons_24 rfl (by decide) rfl ?_
    refine xV_sub [2, 3, 1, 0] rfl ?_
    obtain ⟨b9, hb9, hf⟩ := xo_bind hf
    refine itr_rule (P := fun s_ : Int32 × Int32 × CC => xV (wC D P) K mX0_seasons (xQ (wC D P) K Z) (g, s_.2.2) 25 [(0, .ref x0), (1, .int x1), (2, .int s_.1), (3, .int s_.2.1)] []) (fun s_ o_ hB_ hc_ he_ => ok_Bc_X0_seasons_25 hB_ hc_ (fun e_ h_ => ?_)) 4096 _ hb9
    · have e9_ := he_ _ h_
      rw [e9_]
      refine xr_iload_n (pc := 46) 0 dX0_seasons_46 rfl rfl ?_
      rw [kr _ (Option.some.inj hf).symm]
      exact xr_iret (pc := 47) dX0_seasons_47 rfl
theorem met_f_c_X0_seasons (l : Launch) {D : CD} {P : CP} {g : CG} {x0 : Nat} {x1 : Int32} {τ : CC} {o_ : (Int32 × CC)} (hf : f_c_X0_seasons g x0 x1 τ = some o_) : xMet (wC D P) l yX0_seasons (ws_ yX0_seasons cX0_seasons 4 (some .int)) 82 4920 (grc g) (grs g) [.ref x0, .int x1] (g, τ) (some (.int o_.1), (g, o_.2)) := 
  xMet_of (by decide) (Nat.le_of_ble_eq_true rfl) KC_moved RPC_of (fun K _ _ _ => ok_f_c_X0_seasons hf (fun _ h => by rw [h]))
abbrev mX0_draw : xM := (cX0_draw, 2, RX0, 0, 0, (some .int), "draw")
def f_c_X0_draw (g : CG) (x0 : Nat) (x1 : Int32) (τ : CC) : Option (Int32 × CC) :=
  if gT g x0 = 1 then
  if ¬ x1.toInt64 = 0 then
  some (((((cL (uL τ 122 x0 (((1103515245 * (cL τ 122 x0)) + 12345) - ((1103515245 * (cL τ 122 x0)) + 12345) / 2147483648 * 2147483648)) 122 x0) / 64) - ((cL (uL τ 122 x0 (((1103515245 * (cL τ 122 x0)) + 12345) - ((1103515245 * (cL τ 122 x0)) + 12345) / 2147483648 * 2147483648)) 122 x0) / 64) / x1.toInt64 * x1.toInt64).toInt32, uL τ 122 x0 (((1103515245 * (cL τ 122 x0)) + 12345) - ((1103515245 * (cL τ 122 x0)) + 12345) / 2147483648 * 2147483648)))
  else none
  else none
theorem ok_f_c_X0_draw {D : CD} {P : CP} {K : xK} {g : CG} {Z : Option Value × CS} {x0 : Nat} {x1 : Int32} {τ : CC} {o_ : (Int32 × CC)} (hf : f_c_X0_draw g x0 x1 τ = some o_) (kr : ∀ r_ : (Int32 × CC), o_ = r_ → Z = (some (.int r_.1), (g, r_.2))) : xV (wC D P) K mX0_draw (xQ (wC D P) K Z) (g, τ) 0 [(0, .ref x0), (1, .int x1)] [] := by
  unfold f_c_X0_draw at hf
  refine xr_aload_n (pc := 0) 0 dX0_draw_0 rfl rfl ?_
  refine xr_ldc2 (pc := 1) q1651 dX0_draw_1 ?_
  refine xr_aload_n (pc := 4) 0 dX0_draw_4 rfl rfl ?_
  obtain ⟨ht1, hf⟩ := xo_if hf
  refine yc_getL (pc := 5) 1 22 122 (gKo ht1 (by decide)) (by decide) (by decide) (by decide) rfl rfl q508 (ys_eq rfl) rfl dX0_draw_5 ?_
  refine xr_lmul (pc := 8) dX0_draw_8 ?_
  refine xr_ldc2 (pc := 9) q1652 dX0_draw_9 ?_
  refine xr_ladd (pc := 12) dX0_draw_12 ?_
  refine xr_ldc2 (pc := 13) q1653 dX0_draw_13 ?_
  refine xr_lrem (pc := 16) dX0_draw_16 (by decide) ?_
  refine yc_putL (pc := 17) 1 22 122 ht1 (by decide) (by decide) (by decide) rfl rfl rfl (by decide +kernel) q508 (ys_eq rfl) rfl dX0_draw_17 ?_
  refine xr_aload_n (pc := 20) 0 dX0_draw_20 rfl rfl ?_
  refine yc_getL (pc := 21) 1 22 122 (gKo ht1 (by decide)) (by decide) (by decide) (by decide) rfl rfl q508 (ys_eq rfl) rfl dX0_draw_21 ?_
  refine xr_ldc2 (pc := 24) q1654 dX0_draw_24 ?_
  refine xr_ldiv (pc := 27) dX0_draw_27 (by decide) ?_
  refine xr_iload_n (pc := 28) 1 dX0_draw_28 rfl rfl ?_
  refine xr_i2l (pc := 29) dX0_draw_29 ?_
  obtain ⟨hz_, hf⟩ := xo_if hf
  refine xr_lrem (pc := 30) dX0_draw_30 hz_ ?_
  refine xr_l2i (pc := 31) dX0_draw_31 ?_
  rw [kr _ (Option.some.inj hf).symm]
  exact xr_iret (pc := 32) dX0_draw_32 rfl
theorem met_f_c_X0_draw (l : Launch) {D : CD} {P : CP} {g : CG} {x0 : Nat} {x1 : Int32} {τ : CC} {o_ : (Int32 × CC)} (hf : f_c_X0_draw g x0 x1 τ = some o_) : xMet (wC D P) l yX0_draw (ws_ yX0_draw cX0_draw 2 (some .int)) 0 0 (grc g) (grs g) [.ref x0, .int x1] (g, τ) (some (.int o_.1), (g, o_.2)) := 
  xMet_of (by decide) (Nat.le_of_ble_eq_true rfl) KC_moved RPC_of (fun K _ _ _ => ok_f_c_X0_draw hf (fun _ h => by rw [h]))
theorem hd_f_c_X0_draw : yX0_draw.cls ≠ "java/lang/invoke/MethodHandle" ∧ yX0_draw.cls ≠ "java/lang/invoke/VarHandle" ∧ (parseMethodDescriptor yX0_draw.desc).map (fun d => d.parameters.length) = some 1 := by decide +kernel
theorem call_f_c_X0_draw_X0_380 {D : CD} {P : CP} {K : xK} {M : xM} {Q : State → Prop} {g : CG} {c : CC} {x0 : Nat} {x1 : Int32} {pc : Nat} {loc : List (Nat × Value)} {st : List Value} {r : Int32} {c1 : CC} (hf : f_c_X0_draw g x0 x1 c = some (r, c1)) (hr : gK g x0 = 1) (ho : M.2.2.1 = RX0) (hfr : 1 ≤ M.2.2.2.1) (hlo : 21 ≤ M.2.2.2.2.1) (hcat : (st.map fun v => v.category).sum ≤ 8) (d : decode M.1 pc = .ok (.invokevirtual 380, 3)) (k : xV (wC D P) K M Q (g, c1) (pc + 3) loc (.int r :: st)) : xV (wC D P) K M Q (g, c) pc loc (.int x1 :: .ref x0 :: st) :=
  yc_callV (As := [.int x1]) (rest := st) (met_f_c_X0_draw K.2.1 hf) (lw_V q1647 q1649 qs61 q174 q1650) ⟨rfl, hd_f_c_X0_draw⟩ ho hfr hlo rfl hr (by decide) (by decide) rfl rfl hcat d k
abbrev mX0_chance : xM := (cX0_chance, 6, RX0, 82, 4920, (some .int), "chance")
def Jc_X0_chance_115 (g : CG) (x0 : Nat) (x1 : Int32) (x2 : Int32) (x3 : Int32) (τ : CC) : Option ((Int32 × Int32 × CC) ⊕ ((Int32 × CC))) :=
  if gT g x0 = 1 then
  (gR g 109 x0).bind fun b10 =>
  if gT g b10 = 6 then
  xbd (f_c_X5_passes g b10 τ) fun r12 τ12 =>
  some (.inl (x2, x3 + 1, τ12))
  else none
  else none
theorem ok_Jc_X0_chance_115 {D : CD} {P : CP} {K : xK} {g : CG} {Z : Option Value × CS} {x0 : Nat} {x1 : Int32} {x2 : Int32} {x3 : Int32} {τ : CC} {o_ : ((Int32 × Int32 × CC) ⊕ ((Int32 × CC)))} (hf : Jc_X0_chance_115 g x0 x1 x2 x3 τ = some o_) (kc : ∀ s_ : Int32 × Int32 × CC, o_ = .inl s_ → xV (wC D P) K mX0_chance (xQ (wC D P) K Z) (g, s_.2.2) 25 [(0, .ref x0), (1, .int x1), (2, .int s_.1), (3, .int s_.2.1)] []) (ke0 : ∀ e_ : Int32 × CC, o_ = .inr e_ → xV (wC D P) K mX0_chance (xQ (wC D P) K Z) (g, e_.2) 129 [(2, .int e_.1)] []) : xV (wC D P) K mX0_chance (xQ (wC D P) K Z) (g, τ) 115 [(0, .ref x0), (1, .int x1), (2, .int x2), (3, .int x3)] [] := by
  unfold Jc_X0_chance_115 at hf
  refine xr_aload_n (pc := 115) 0 dX0_chance_115 rfl rfl ?_
  obtain ⟨ht9, hf⟩ := xo_if hf
  obtain ⟨b10, hb10, hf⟩ := xo_bind hf
  refine yc_getFs (pc := 116) 1 9 109 (gKo ht9 (by decide)) (by decide) (by decide) (by decide) rfl rfl hb10 q495 (ys_eq rfl) rfl dX0_chance_116 ?_
  obtain ⟨ht11, hf⟩ := xo_if hf
  obtain ⟨r12, τ12, hτ12, hf⟩ := xo_bd hf
  refine call_f_c_X5_passes_X0_300 (pc := 119) hτ12 (gKo ht11 (by decide)) rfl (Nat.le_of_ble_eq_true rfl) (Nat.le_of_ble_eq_true rfl) (Nat.le_of_ble_eq_true rfl) dX0_chance_119 ?_
  refine xr_pop (pc := 122) dX0_chance_122 rfl ?_
  refine xr_iinc (pc := 123) (loc' := [(3, .int (x3 + 1)), (0, .ref x0), (1, .int x1), (2, .int x2)]) 3 dX0_chance_123 rfl xci_1 (by decide) rfl ?_
  refine xr_goto (pc := 126) 25 dX0_chance_126 (by decide) ?_
  refine xV_sub [1, 2, 3, 0] rfl ?_
  exact kc _ (Option.some.inj hf).symm
def Jc_X0_chance_112 (g : CG) (x0 : Nat) (x1 : Int32) (x2 : Int32) (x3 : Int32) (τ : CC) : Option ((Int32 × Int32 × CC) ⊕ ((Int32 × CC))) :=
  Jc_X0_chance_115 g x0 x1 (x2 + 1) x3 τ
theorem ok_Jc_X0_chance_112 {D : CD} {P : CP} {K : xK} {g : CG} {Z : Option Value × CS} {x0 : Nat} {x1 : Int32} {x2 : Int32} {x3 : Int32} {τ : CC} {o_ : ((Int32 × Int32 × CC) ⊕ ((Int32 × CC)))} (hf : Jc_X0_chance_112 g x0 x1 x2 x3 τ = some o_) (kc : ∀ s_ : Int32 × Int32 × CC, o_ = .inl s_ → xV (wC D P) K mX0_chance (xQ (wC D P) K Z) (g, s_.2.2) 25 [(0, .ref x0), (1, .int x1), (2, .int s_.1), (3, .int s_.2.1)] []) (ke0 : ∀ e_ : Int32 × CC, o_ = .inr e_ → xV (wC D P) K mX0_chance (xQ (wC D P) K Z) (g, e_.2) 129 [(2, .int e_.1)] []) : xV (wC D P) K mX0_chance (xQ (wC D P) K Z) (g, τ) 112 [(0, .ref x0), (1, .int x1), (2, .int x2), (3, .int x3)] [] := by
  unfold Jc_X0_chance_112 at hf
  refine xr_iinc (pc := 112) (loc' := [(2, .int (x2 + 1)), (0, .ref x0), (1, .int x1), (3, .int x3)]) 2 dX0_chance_112 rfl xci_1 (by decide) rfl ?_
  refine xV_sub [1, 2, 0, 3] rfl ?_
  exact ok_Jc_X0_chance_115 hf kc ke0
def Jc_X0_chance_79 (g : CG) (x0 : Nat) (x1 : Int32) (x2 : Int32) (x3 : Int32) (x4 : Int32) (s0 : Int32) (s1 : Int32) (τ : CC) : Option ((Int32 × Int32 × CC) ⊕ ((Int32 × CC))) :=
  if gT g x0 = 1 then
  (cR τ 100 x0).bind fun b21 =>
  if gT g b21 = 2 then
  xbd (f_c_X0_is g (s1 + s0) 0 ((cI τ 202 b21) - 1) τ) fun r23 τ23 =>
  if r23 = 0 then
  Jc_X0_chance_112 g x0 x1 x2 x3 τ23
  else
  (gR g 109 x0).bind fun b24 =>
  if gT g b24 = 6 then
  (gR g 603 b24).bind fun b26 =>
  if gT g b26 = 100 then
  if xin x4 (gN g b26) = true then
  Jc_X0_chance_112 g x0 x1 x2 x3 (uA τ23 b26 x4.toNatClampNeg (s1 + s0))
  else none
  else none
  else none
  else none
  else none
theorem ok_Jc_X0_chance_79 {D : CD} {P : CP} {K : xK} {g : CG} {Z : Option Value × CS} {x0 : Nat} {x1 : Int32} {x2 : Int32} {x3 : Int32} {x4 : Int32} {s0 : Int32} {s1 : Int32} {τ : CC} {o_ : ((Int32 × Int32 × CC) ⊕ ((Int32 × CC)))} (hf : Jc_X0_chance_79 g x0 x1 x2 x3 x4 s0 s1 τ = some o_) (kc : ∀ s_ : Int32 × Int32 × CC, o_ = .inl s_ → xV (wC D P) K mX0_chance (xQ (wC D P) K Z) (g, s_.2.2) 25 [(0, .ref x0), (1, .int x1), (2, .int s_.1), (3, .int s_.2.1)] []) (ke0 : ∀ e_ : Int32 × CC, o_ = .inr e_ → xV (wC D P) K mX0_chance (xQ (wC D P) K Z) (g, e_.2) 129 [(2, .int e_.1)] []) : xV (wC D P) K mX0_chance (xQ (wC D P) K Z) (g, τ) 79 [(0, .ref x0), (1, .int x1), (2, .int x2), (3, .int x3), (4, .int x4)] [.int s0, .int s1] := by
  unfold Jc_X0_chance_79 at hf
  refine xr_iadd (pc := 79) dX0_chance_79 ?_
  refine xr_istore (pc := 80) (loc' := [(5, .int (s1 + s0)), (0, .ref x0), (1, .int x1), (2, .int x2), (3, .int x3), (4, .int x4)]) dX0_chance_80 (by decide) rfl ?_
  refine xr_iload (pc := 82) 0 dX0_chance_82 rfl ?_
  refine xr_iconst (pc := 84) dX0_chance_84 xci_0 ?_
  refine xr_aload_n (pc := 85) 1 dX0_chance_85 rfl rfl ?_
  obtain ⟨ht20, hf⟩ := xo_if hf
  obtain ⟨b21, hb21, hf⟩ := xo_bind hf
  refine yc_getRs (pc := 86) 1 0 100 (gKo ht20 (by decide)) (by decide) (by decide) (by decide) rfl rfl hb21 q484 (ys_eq rfl) rfl dX0_chance_86 ?_
  obtain ⟨ht22, hf⟩ := xo_if hf
  refine yc_getIN (pc := 89) 2 2 202 (gKo ht22 (by decide)) (by decide) (by decide) (by decide) rfl rfl q263 (ys_eq rfl) rfl dX0_chance_89 ?_
  refine xr_iconst (pc := 92) dX0_chance_92 xci_1 ?_
  refine xr_isub (pc := 93) dX0_chance_93 ?_
  obtain ⟨r23, τ23, hτ23, hf⟩ := xo_bd hf
  refine call_f_c_X0_is_X0_176 (pc := 94) hτ23 rfl (Nat.le_of_ble_eq_true rfl) (Nat.le_of_ble_eq_true rfl) (Nat.le_of_ble_eq_true rfl) dX0_chance_94 ?_
  refine xr_if_eq (pc := 97) 112 dX0_chance_97 (by decide) (fun c_ => ?_) (fun c_ => ?_)
  · have hf := xo_pos c_ hf
    refine xV_sub [1, 2, 3, 4] rfl ?_
    exact ok_Jc_X0_chance_112 hf kc ke0
  · have hf := xo_neg c_ hf
    refine xr_aload_n (pc := 100) 1 dX0_chance_100 rfl rfl ?_
    obtain ⟨b24, hb24, hf⟩ := xo_bind hf
    refine yc_getFs (pc := 101) 1 9 109 (gKo ht20 (by decide)) (by decide) (by decide) (by decide) rfl rfl hb24 q495 (ys_eq rfl) rfl dX0_chance_101 ?_
    obtain ⟨ht25, hf⟩ := xo_if hf
    obtain ⟨b26, hb26, hf⟩ := xo_bind hf
    refine yc_getFsN (pc := 104) 6 3 603 (gKo ht25 (by decide)) (by decide) (by decide) (by decide) rfl rfl hb26 q441 (ys_eq rfl) rfl dX0_chance_104 ?_
    refine xr_iload (pc := 107) 5 dX0_chance_107 rfl ?_
    refine xr_iload (pc := 109) 0 dX0_chance_109 rfl ?_
    obtain ⟨ht27, hf⟩ := xo_if hf
    obtain ⟨hi_, hf⟩ := xo_if hf
    refine yc_iast (pc := 111) ht27 hi_ dX0_chance_111 ?_
    refine xV_sub [1, 2, 3, 4] rfl ?_
    exact ok_Jc_X0_chance_112 hf kc ke0
def Bc_X0_chance_25 (g : CG) (x0 : Nat) (x1 : Int32) (x2 : Int32) (x3 : Int32) (τ : CC) : Option ((Int32 × Int32 × CC) ⊕ ((Int32 × CC))) :=
  if x1 ≤ x3 then
  some (.inr (x2, τ))
  else
  if gT g x0 = 1 then
  xbd (f_c_X0_draw g x0 100 τ) fun r6 τ6 =>
  (cR τ6 100 x0).bind fun b7 =>
  if gT g b7 = 2 then
  if (cI τ6 204 b7) ≤ r6 then
  Jc_X0_chance_115 g x0 x1 x2 x3 τ6
  else
  xbd (f_c_X0_columns g x0 τ6) fun r13 τ13 =>
  xbd (f_c_X0_draw g x0 r13 τ13) fun r14 τ14 =>
  (gR g 109 x0).bind fun b15 =>
  if gT g b15 = 6 then
  (gR g 603 b15).bind fun b17 =>
  if gT g b17 = 100 then
  if xin r14 (gN g b17) = true then
  xbd (f_c_X0_draw g x0 2 τ14) fun r19 τ19 =>
  if r19 = 0 then
  Jc_X0_chance_79 g x0 x1 x2 x3 r14 (-1) (cA τ14 b17 r14.toNatClampNeg) τ19
  else
  Jc_X0_chance_79 g x0 x1 x2 x3 r14 1 (cA τ14 b17 r14.toNatClampNeg) τ19
  else none
  else none
  else none
  else none
  else none
theorem ok_Bc_X0_chance_25 {D : CD} {P : CP} {K : xK} {g : CG} {Z : Option Value × CS} {x0 : Nat} {x1 : Int32} {x2 : Int32} {x3 : Int32} {τ : CC} {o_ : ((Int32 × Int32 × CC) ⊕ ((Int32 × CC)))} (hf : Bc_X0_chance_25 g x0 x1 x2 x3 τ = some o_) (kc : ∀ s_ : Int32 × Int32 × CC, o_ = .inl s_ → xV (wC D P) K mX0_chance (xQ (wC D P) K Z) (g, s_.2.2) 25 [(0, .ref x0), (1, .int x1), (2, .int s_.1), (3, .int s_.2.1)] []) (ke0 : ∀ e_ : Int32 × CC, o_ = .inr e_ → xV (wC D P) K mX0_chance (xQ (wC D P) K Z) (g, e_.2) 129 [(2, .int e_.1)] []) : xV (wC D P) K mX0_chance (xQ (wC D P) K Z) (g, τ) 25 [(0, .ref x0), (1, .int x1), (2, .int x2), (3, .int x3)] [] := by
  unfold Bc_X0_chance_25 at hf
  refine xr_iload_n (pc := 25) 3 dX0_chance_25 rfl rfl ?_
  refine xr_iload_n (pc := 26) 1 dX0_chance_26 rfl rfl ?_
  refine xr_icmp_ge (pc := 27) 129 dX0_chance_27 (by decide) (fun c_ => ?_) (fun c_ => ?_)
  · have hf := xo_pos c_ hf
    refine xV_sub [2] rfl ?_
    exact ke0 _ (Option.some.inj hf).symm
  · have hf := xo_neg c_ hf
    refine xr_aload_n (pc := 30) 0 dX0_chance_30 rfl rfl ?_
    refine xr_bipush (pc := 31) dX0_chance_31 xcb_100 ?_
    obtain ⟨ht5, hf⟩ := xo_if hf
    obtain ⟨r6, τ6, hτ6, hf⟩ := xo_bd hf
    refine call_f_c_X0_draw_X0_380 (pc := 33) hτ6 (gKo ht5 (by decide)) rfl (Nat.le_of_ble_eq_true rfl) (Nat.le_of_ble_eq_true rfl) (Nat.le_of_ble_eq_true rfl) dX0_chance_33 ?_
    refine xr_aload_n (pc := 36) 0 dX0_chance_36 rfl rfl ?_
    obtain ⟨b7, hb7, hf⟩ := xo_bind hf
    refine yc_getRs (pc := 37) 1 0 100 (gKo ht5 (by decide)) (by decide) (by decide) (by decide) rfl rfl hb7 q484 (ys_eq rfl) rfl dX0_chance_37 ?_
    obtain ⟨ht8, hf⟩ := xo_if hf
    refine yc_getIN (pc := 40) 2 4 204 (gKo ht8 (by decide)) (by decide) (by decide) (by decide) rfl rfl q268 (ys_eq rfl) rfl dX0_chance_40 ?_
    refine xr_icmp_ge (pc := 43) 115 dX0_chance_43 (by decide) (fun c_ => ?_) (fun c_ => ?_)
    · have hf := xo_pos c_ hf
      exact ok_Jc_X0_chance_115 hf kc ke0
    · have hf := xo_neg c_ hf
      refine xr_aload_n (pc := 46) 0 dX0_chance_46 rfl rfl ?_
      refine xr_aload_n (pc := 47) 0 dX0_chance_47 rfl rfl ?_
      obtain ⟨r13, τ13, hτ13, hf⟩ := xo_bd hf
      refine call_f_c_X0_columns_X0_169 (pc := 48) hτ13 (gKo ht5 (by decide)) rfl (Nat.le_of_ble_eq_true rfl) (Nat.le_of_ble_eq_true rfl) (Nat.le_of_ble_eq_true rfl) dX0_chance_48 ?_
      obtain ⟨r14, τ14, hτ14, hf⟩ := xo_bd hf
      refine call_f_c_X0_draw_X0_380 (pc := 51) hτ14 (gKo ht5 (by decide)) rfl (Nat.le_of_ble_eq_true rfl) (Nat.le_of_ble_eq_true rfl) (Nat.le_of_ble_eq_true rfl) dX0_chance_51 ?_
      refine xr_istore (pc := 54) (loc' := [(4, .int r14), (0, .ref x0), (1, .int x1), (2, .int x2), (3, .int x3)]) dX0_chance_54 (by decide) rfl ?_
      refine xr_aload_n (pc := 56) 1 dX0_chance_56 rfl rfl ?_
      obtain ⟨b15, hb15, hf⟩ := xo_bind hf
      refine yc_getFs (pc := 57) 1 9 109 (gKo ht5 (by decide)) (by decide) (by decide) (by decide) rfl rfl hb15 q495 (ys_eq rfl) rfl dX0_chance_57 ?_
      obtain ⟨ht16, hf⟩ := xo_if hf
      obtain ⟨b17, hb17, hf⟩ := xo_bind hf
      refine yc_getFsN (pc := 60) 6 3 603 (gKo ht16 (by decide)) (by decide) (by decide) (by decide) rfl rfl hb17 q441 (ys_eq rfl) rfl dX0_chance_60 ?_
      refine xr_iload (pc := 63) 0 dX0_chance_63 rfl ?_
      obtain ⟨ht18, hf⟩ := xo_if hf
      obtain ⟨hi_, hf⟩ := xo_if hf
      refine yc_iald (pc := 65) (gKo ht18 (by decide)) hi_ dX0_chance_65 ?_
      refine xr_aload_n (pc := 66) 1 dX0_chance_66 rfl rfl ?_
      refine xr_iconst (pc := 67) dX0_chance_67 xci_2 ?_
      obtain ⟨r19, τ19, hτ19, hf⟩ := xo_bd hf
      refine call_f_c_X0_draw_X0_380 (pc := 68) hτ19 (gKo ht5 (by decide)) rfl (Nat.le_of_ble_eq_true rfl) (Nat.le_of_ble_eq_true rfl) (Nat.le_of_ble_eq_true rfl) dX0_chance_68 ?_
      refine xr_if_ne (pc := 71) 78 dX0_chance_71 (by decide) (fun c_ => ?_) (fun c_ => ?_)
      · have hf := xo_pos c_ hf
        refine xr_iconst (pc := 74) dX0_chance_74 xci_m1 ?_
        refine xr_goto (pc := 75) 79 dX0_chance_75 (by decide) ?_
        refine xV_sub [1, 2, 3, 4, 0] rfl ?_
        exact ok_Jc_X0_chance_79 hf kc ke0
      · have hf := xo_neg c_ hf
        refine xr_iconst (pc := 78) dX0_chance_78 xci_1 ?_
        refine xV_sub [1, 2, 3, 4, 0] rfl ?_
        exact ok_Jc_X0_chance_79 hf kc ke0
def f_c_X0_chance (g : CG) (x0 : Nat) (x1 : Int32) (τ : CC) : Option (Int32 × CC) :=
  if gT g x0 = 1 then
  xbd (f_c_X0_isAhead g x0 x1 1 100 τ) fun r2 τ2 =>
  if r2 = 0 then
  xbd (f_c_X0_refuses g x0 3 τ2) fun r3 τ3 =>
  some ((r3, τ3))
  else
  (f_c_X0_keeps g x0 τ2).bind fun τ4 =>
  (itr (fun s_ : Int32 × Int32 × CC => Bc_X0_chance_25 g x0 x1 s_.1 s_.2.1 s_.2.2) 4096 (0, 0, τ4)).bind fun b28 =>
  some ((b28.1, b28.2))
  else none
theorem ok_f_c_X0_chance {D : CD} {P : CP} {K : xK} {g : CG} {Z : Option Value × CS} {x0 : Nat} {x1 : Int32} {τ : CC} {o_ : (Int32 × CC)} (hf : f_c_X0_chance g x0 x1 τ = some o_) (kr : ∀ r_ : (Int32 × CC), o_ = r_ → Z = (some (.int r_.1), (g, r_.2))) : xV (wC D P) K mX0_chance (xQ (wC D P) K Z) (g, τ) 0 [(0, .ref x0), (1, .int x1)] [] := by
  unfold f_c_X0_chance at hf
  refine xr_aload_n (pc := 0) 0 dX0_chance_0 rfl rfl ?_
  refine xr_iload_n (pc := 1) 1 dX0_chance_1 rfl rfl ?_
  refine xr_iconst (pc := 2) dX0_chance_2 xci_1 ?_
  refine xr_bipush (pc := 3) dX0_chance_3 xcb_100 ?_
  obtain ⟨ht1, hf⟩ := xo_if hf
  obtain ⟨r2, τ2, hτ2, hf⟩ := xo_bd hf
  refine call_f_c_X0_isAhead_X0_289 (pc := 5) hτ2 (gKo ht1 (by decide)) rfl (Nat.le_of_ble_eq_true rfl) (Nat.le_of_ble_eq_true rfl) (Nat.le_of_ble_eq_true rfl) dX0_chance_5 ?_
  refine xr_if_ne (pc := 8) 17 dX0_chance_8 (by decide) (fun c_ => ?_) (fun c_ => ?_)
  · have hf := xo_pos c_ hf
    refine xr_aload_n (pc := 11) 0 dX0_chance_11 rfl rfl ?_
    refine xr_iconst (pc := 12) dX0_chance_12 xci_3 ?_
    obtain ⟨r3, τ3, hτ3, hf⟩ := xo_bd hf
    refine call_f_c_X0_refuses_X0_118 (pc := 13) hτ3 (gKo ht1 (by decide)) rfl (Nat.le_of_ble_eq_true rfl) (Nat.le_of_ble_eq_true rfl) (Nat.le_of_ble_eq_true rfl) dX0_chance_13 ?_
    rw [kr _ (Option.some.inj hf).symm]
    exact xr_iret (pc := 16) dX0_chance_16 rfl
  · have hf := xo_neg c_ hf
    refine xr_aload_n (pc := 17) 0 dX0_chance_17 rfl rfl ?_
    obtain ⟨τ4, hτ4, hf⟩ := xo_bind hf
    refine call_f_c_X0_keeps_X0_370 (pc := 18) hτ4 (gKo ht1 (by decide)) rfl (Nat.le_of_ble_eq_true rfl) (Nat.le_of_ble_eq_true rfl) (Nat.le_of_ble_eq_true rfl) dX0_chance_18 ?_
    refine xr_iconst (pc := 21) dX0_chance_21 xci_0 ?_
    refine xr_istore_n (pc := 22) (loc' := [(2, .int 0), (0, .ref x0), (1, .int x1)]) dX0_chance_22 rfl (by decide) rfl ?_
    refine xr_iconst (pc := 23) dX0_chance_23 xci_0 ?_
    refine xr_istore_n (pc := 24) (loc' := [(3, .int 0), (2, .int 0), (0, .ref x0), (1, .int x1)]) dX0_chance_24 rfl (by decide) rfl ?_
    refine xV_sub [2, 3, 1, 0] rfl ?_
    obtain ⟨b28, hb28, hf⟩ := xo_bind hf
    refine itr_rule (P := fun s_ : Int32 × Int32 × CC => xV (wC D P) K mX0_chance (xQ (wC D P) K Z) (g, s_.2.2) 25 [(0, .ref x0), (1, .int x1), (2, .int s_.1), (3, .int s_.2.1)] []) (fun s_ o_ hB_ hc_ he_ => ok_Bc_X0_chance_25 hB_ hc_ (fun e_ h_ => ?_)) 4096 _ hb28
    · have e9_ := he_ _ h_
      rw [e9_]
      refine xr_iload_n (pc := 129) 0 dX0_chance_129 rfl rfl ?_
      rw [kr _ (Option.some.inj hf).symm]
      exact xr_iret (pc := 130) dX0_chance_130 rfl
theorem met_f_c_X0_chance (l : Launch) {D : CD} {P : CP} {g : CG} {x0 : Nat} {x1 : Int32} {τ : CC} {o_ : (Int32 × CC)} (hf : f_c_X0_chance g x0 x1 τ = some o_) : xMet (wC D P) l yX0_chance (ws_ yX0_chance cX0_chance 6 (some .int)) 82 4920 (grc g) (grs g) [.ref x0, .int x1] (g, τ) (some (.int o_.1), (g, o_.2)) := 
  xMet_of (by decide) (Nat.le_of_ble_eq_true rfl) KC_moved RPC_of (fun K _ _ _ => ok_f_c_X0_chance hf (fun _ h => by rw [h]))
abbrev mX0_seed : xM := (cX0_seed, 2, RX0, 1, 60, (some .boolean), "seed")
def f_c_X0_seed (g : CG) (x0 : Nat) (x1 : Int32) (τ : CC) : Option (Int32 × CC) :=
  if (0 : Int32) ≤ x1 then
  if gT g x0 = 1 then
  some ((1, uL τ 122 x0 x1.toInt64))
  else none
  else
  if gT g x0 = 1 then
  xbd (f_c_X0_refuses g x0 5 τ) fun r3 τ3 =>
  if r3 < 0 then
  some ((0, τ3))
  else
  some ((1, τ3))
  else none
theorem ok_f_c_X0_seed {D : CD} {P : CP} {K : xK} {g : CG} {Z : Option Value × CS} {x0 : Nat} {x1 : Int32} {τ : CC} {o_ : (Int32 × CC)} (hf : f_c_X0_seed g x0 x1 τ = some o_) (kr : ∀ r_ : (Int32 × CC), o_ = r_ → Z = (some (.int r_.1), (g, r_.2))) : xV (wC D P) K mX0_seed (xQ (wC D P) K Z) (g, τ) 0 [(0, .ref x0), (1, .int x1)] [] := by
  unfold f_c_X0_seed at hf
  refine xr_iload_n (pc := 0) 1 dX0_seed_0 rfl rfl ?_
  refine xr_if_ge (pc := 1) 18 dX0_seed_1 (by decide) (fun c_ => ?_) (fun c_ => ?_)
  · have hf := xo_pos c_ hf
    refine xr_aload_n (pc := 18) 0 dX0_seed_18 rfl rfl ?_
    refine xr_iload_n (pc := 19) 1 dX0_seed_19 rfl rfl ?_
    refine xr_i2l (pc := 20) dX0_seed_20 ?_
    obtain ⟨ht1, hf⟩ := xo_if hf
    refine yc_putL (pc := 21) 1 22 122 ht1 (by decide) (by decide) (by decide) rfl rfl rfl (by decide +kernel) q508 (ys_eq rfl) rfl dX0_seed_21 ?_
    refine xr_iconst (pc := 24) dX0_seed_24 xci_1 ?_
    rw [kr _ (Option.some.inj hf).symm]
    exact xr_zret (pc := 25) dX0_seed_25 rfl xz_1
  · have hf := xo_neg c_ hf
    refine xr_aload_n (pc := 4) 0 dX0_seed_4 rfl rfl ?_
    refine xr_iconst (pc := 5) dX0_seed_5 xci_5 ?_
    obtain ⟨ht2, hf⟩ := xo_if hf
    obtain ⟨r3, τ3, hτ3, hf⟩ := xo_bd hf
    refine call_f_c_X0_refuses_X0_118 (pc := 6) hτ3 (gKo ht2 (by decide)) rfl (Nat.le_of_ble_eq_true rfl) (Nat.le_of_ble_eq_true rfl) (Nat.le_of_ble_eq_true rfl) dX0_seed_6 ?_
    refine xr_if_lt (pc := 9) 16 dX0_seed_9 (by decide) (fun c_ => ?_) (fun c_ => ?_)
    · have hf := xo_pos c_ hf
      refine xr_iconst (pc := 16) dX0_seed_16 xci_0 ?_
      rw [kr _ (Option.some.inj hf).symm]
      exact xr_zret (pc := 17) dX0_seed_17 rfl xz_0
    · have hf := xo_neg c_ hf
      refine xr_iconst (pc := 12) dX0_seed_12 xci_1 ?_
      refine xr_goto (pc := 13) 17 dX0_seed_13 (by decide) ?_
      rw [kr _ (Option.some.inj hf).symm]
      exact xr_zret (pc := 17) dX0_seed_17 rfl xz_1
theorem met_f_c_X0_seed (l : Launch) {D : CD} {P : CP} {g : CG} {x0 : Nat} {x1 : Int32} {τ : CC} {o_ : (Int32 × CC)} (hf : f_c_X0_seed g x0 x1 τ = some o_) : xMet (wC D P) l yX0_seed (ws_ yX0_seed cX0_seed 2 (some .boolean)) 1 60 (grc g) (grs g) [.ref x0, .int x1] (g, τ) (some (.int o_.1), (g, o_.2)) := 
  xMet_of (by decide) (Nat.le_of_ble_eq_true rfl) KC_moved RPC_of (fun K _ _ _ => ok_f_c_X0_seed hf (fun _ h => by rw [h]))
abbrev mX0_writes : xM := (cX0_writes, 4, RX0, 0, 0, none, "writes")
def Bc_X0_writes_4 (g : CG) (x0 : Nat) (x1 : Int32) (x3 : Int32) (τ : CC) : Option ((Int32 × CC) ⊕ ((CC))) :=
  if x3 < 0 then
  some (.inr τ)
  else
  if gT g x0 = 1 then
  (gR g 123 x0).bind fun b2 =>
  if gT g b2 = 103 then
  if xin (cI τ 124 x0) (gN g b2) = true then
  some (.inl (x3 + (-1), uA (uI τ 124 x0 ((cI τ 124 x0) + 1)) b2 (cI τ 124 x0).toNatClampNeg ((((x1 : Int32) >>> ((8 * x3) &&& 31)).toInt8.toInt32).toInt8.toInt32)))
  else none
  else none
  else none
theorem ok_Bc_X0_writes_4 {D : CD} {P : CP} {K : xK} {g : CG} {Z : Option Value × CS} {x0 : Nat} {x1 : Int32} {x3 : Int32} {τ : CC} {o_ : ((Int32 × CC) ⊕ ((CC)))} (hf : Bc_X0_writes_4 g x0 x1 x3 τ = some o_) (kc : ∀ s_ : Int32 × CC, o_ = .inl s_ → xV (wC D P) K mX0_writes (xQ (wC D P) K Z) (g, s_.2) 4 [(0, .ref x0), (1, .int x1), (3, .int s_.1)] []) (ke0 : ∀ e_ : CC, o_ = .inr e_ → xV (wC D P) K mX0_writes (xQ (wC D P) K Z) (g, e_) 37 [] []) : xV (wC D P) K mX0_writes (xQ (wC D P) K Z) (g, τ) 4 [(0, .ref x0), (1, .int x1), (3, .int x3)] [] := by
  unfold Bc_X0_writes_4 at hf
  refine xr_iload_n (pc := 4) 2 dX0_writes_4 rfl rfl ?_
  refine xr_if_lt (pc := 5) 37 dX0_writes_5 (by decide) (fun c_ => ?_) (fun c_ => ?_)
  · have hf := xo_pos c_ hf
    refine xV_sub [] rfl ?_
    exact ke0 _ (Option.some.inj hf).symm
  · have hf := xo_neg c_ hf
    refine xr_aload_n (pc := 8) 0 dX0_writes_8 rfl rfl ?_
    obtain ⟨ht1, hf⟩ := xo_if hf
    obtain ⟨b2, hb2, hf⟩ := xo_bind hf
    refine yc_getFs (pc := 9) 1 23 123 (gKo ht1 (by decide)) (by decide) (by decide) (by decide) rfl rfl hb2 q509 (ys_eq rfl) rfl dX0_writes_9 ?_
    refine xr_aload_n (pc := 12) 0 dX0_writes_12 rfl rfl ?_
    refine xr_dup (pc := 13) dX0_writes_13 rfl ?_
    refine yc_getI (pc := 14) 1 24 124 (gKo ht1 (by decide)) (by decide) (by decide) (by decide) rfl rfl q510 (ys_eq rfl) rfl dX0_writes_14 ?_
    refine xr_dup_x1 (pc := 17) dX0_writes_17 rfl rfl ?_
    refine xr_iconst (pc := 18) dX0_writes_18 xci_1 ?_
    refine xr_iadd (pc := 19) dX0_writes_19 ?_
    refine yc_putI (pc := 20) 1 24 124 ht1 (by decide) (by decide) (by decide) rfl rfl rfl (ty := .int) (by decide +kernel) rfl rfl q510 (ys_eq rfl) rfl dX0_writes_20 ?_
    refine xr_iload_n (pc := 23) 1 dX0_writes_23 rfl rfl ?_
    refine xr_bipush (pc := 24) dX0_writes_24 xcb_8 ?_
    refine xr_iload_n (pc := 26) 2 dX0_writes_26 rfl rfl ?_
    refine xr_imul (pc := 27) dX0_writes_27 ?_
    refine xr_ishr (pc := 28) dX0_writes_28 ?_
    refine xr_i2b (pc := 29) dX0_writes_29 ?_
    obtain ⟨ht3, hf⟩ := xo_if hf
    obtain ⟨hi_, hf⟩ := xo_if hf
    refine yc_bast (pc := 30) ht3 hi_ dX0_writes_30 ?_
    refine xr_iinc (pc := 31) (loc' := [(3, .int (x3 + (-1))), (0, .ref x0), (1, .int x1)]) 2 dX0_writes_31 rfl xci_m1 (by decide) rfl ?_
    refine xr_goto (pc := 34) 4 dX0_writes_34 (by decide) ?_
    refine xV_sub [1, 2, 0] rfl ?_
    exact kc _ (Option.some.inj hf).symm
def f_c_X0_writes (g : CG) (x0 : Nat) (x1 : Int32) (x2 : Int32) (τ : CC) : Option CC :=
  (itr (fun s_ : Int32 × CC => Bc_X0_writes_4 g x0 x1 s_.1 s_.2) 4096 (x2 - 1, τ)).bind fun b4 =>
  some (b4)
theorem ok_f_c_X0_writes {D : CD} {P : CP} {K : xK} {g : CG} {Z : Option Value × CS} {x0 : Nat} {x1 : Int32} {x2 : Int32} {τ : CC} {o_ : CC} (hf : f_c_X0_writes g x0 x1 x2 τ = some o_) (kr : ∀ r_ : CC, o_ = r_ → Z = (none, (g, r_))) : xV (wC D P) K mX0_writes (xQ (wC D P) K Z) (g, τ) 0 [(0, .ref x0), (1, .int x1), (2, .int x2)] [] := by
  unfold f_c_X0_writes at hf
  refine xr_iload_n (pc := 0) 2 dX0_writes_0 rfl rfl ?_
  refine xr_iconst (pc := 1) dX0_writes_1 xci_1 ?_
  refine xr_isub (pc := 2) dX0_writes_2 ?_
  refine xr_istore_n (pc := 3) (loc' := [(3, .int (x2 - 1)), (0, .ref x0), (1, .int x1), (2, .int x2)]) dX0_writes_3 rfl (by decide) rfl ?_
  refine xV_sub [1, 2, 0] rfl ?_
  obtain ⟨b4, hb4, hf⟩ := xo_bind hf
  refine itr_rule (P := fun s_ : Int32 × CC => xV (wC D P) K mX0_writes (xQ (wC D P) K Z) (g, s_.2) 4 [(0, .ref x0), (1, .int x1), (3, .int s_.1)] []) (fun s_ o_ hB_ hc_ he_ => ok_Bc_X0_writes_4 hB_ hc_ (fun e_ h_ => ?_)) 4096 _ hb4
  · have e9_ := he_ _ h_
    rw [e9_]
    rw [kr _ (Option.some.inj hf).symm]
    exact xr_vret (pc := 37) dX0_writes_37 rfl
theorem met_f_c_X0_writes (l : Launch) {D : CD} {P : CP} {g : CG} {x0 : Nat} {x1 : Int32} {x2 : Int32} {τ : CC} {o_ : CC} (hf : f_c_X0_writes g x0 x1 x2 τ = some o_) : xMet (wC D P) l yX0_writes (ws_ yX0_writes cX0_writes 4 none) 0 0 (grc g) (grs g) [.ref x0, .int x1, .int x2] (g, τ) (none, (g, o_)) := 
  xMet_of (by decide) (Nat.le_of_ble_eq_true rfl) KC_moved RPC_of (fun K _ _ _ => ok_f_c_X0_writes hf (fun _ h => by rw [h]))
abbrev mX0_check : xM := (cX0_check, 4, RX0, 0, 0, (some .int), "check")
def Bc_X0_check_6 (g : CG) (x0 : Nat) (x1 : Int32) (x2 : Int32) (x3 : Int32) (τ : CC) : Option ((Int32 × Int32 × CC) ⊕ ((Int32 × CC))) :=
  if x1 ≤ x3 then
  some (.inr (x2, τ))
  else
  if gT g x0 = 103 then
  if xin x3 (gN g x0) = true then
  some (.inl (((3 * x2) + ((cA τ x0 x3.toNatClampNeg) &&& 255)) - ((3 * x2) + ((cA τ x0 x3.toNatClampNeg) &&& 255)) / 251 * 251, x3 + 1, τ))
  else none
  else none
theorem ok_Bc_X0_check_6 {D : CD} {P : CP} {K : xK} {g : CG} {Z : Option Value × CS} {x0 : Nat} {x1 : Int32} {x2 : Int32} {x3 : Int32} {τ : CC} {o_ : ((Int32 × Int32 × CC) ⊕ ((Int32 × CC)))} (hf : Bc_X0_check_6 g x0 x1 x2 x3 τ = some o_) (kc : ∀ s_ : Int32 × Int32 × CC, o_ = .inl s_ → xV (wC D P) K mX0_check (xQ (wC D P) K Z) (g, s_.2.2) 6 [(0, .ref x0), (1, .int x1), (2, .int s_.1), (3, .int s_.2.1)] []) (ke0 : ∀ e_ : Int32 × CC, o_ = .inr e_ → xV (wC D P) K mX0_check (xQ (wC D P) K Z) (g, e_.2) 33 [(2, .int e_.1)] []) : xV (wC D P) K mX0_check (xQ (wC D P) K Z) (g, τ) 6 [(0, .ref x0), (1, .int x1), (2, .int x2), (3, .int x3)] [] := by
  unfold Bc_X0_check_6 at hf
  refine xr_iload_n (pc := 6) 3 dX0_check_6 rfl rfl ?_
  refine xr_iload_n (pc := 7) 1 dX0_check_7 rfl rfl ?_
  refine xr_icmp_ge (pc := 8) 33 dX0_check_8 (by decide) (fun c_ => ?_) (fun c_ => ?_)
  · have hf := xo_pos c_ hf
    refine xV_sub [2] rfl ?_
    exact ke0 _ (Option.some.inj hf).symm
  · have hf := xo_neg c_ hf
    refine xr_iconst (pc := 11) dX0_check_11 xci_3 ?_
    refine xr_iload_n (pc := 12) 2 dX0_check_12 rfl rfl ?_
    refine xr_imul (pc := 13) dX0_check_13 ?_
    refine xr_aload_n (pc := 14) 0 dX0_check_14 rfl rfl ?_
    refine xr_iload_n (pc := 15) 3 dX0_check_15 rfl rfl ?_
    obtain ⟨ht1, hf⟩ := xo_if hf
    obtain ⟨hi_, hf⟩ := xo_if hf
    refine yc_bald (pc := 16) (gKo ht1 (by decide)) hi_ dX0_check_16 ?_
    refine xr_sipush (pc := 17) dX0_check_17 xcs_255 ?_
    refine xr_iand (pc := 20) dX0_check_20 ?_
    refine xr_iadd (pc := 21) dX0_check_21 ?_
    refine xr_sipush (pc := 22) dX0_check_22 xcs_251 ?_
    refine xr_irem (pc := 25) dX0_check_25 (by decide) ?_
    refine xr_istore_n (pc := 26) (loc' := [(2, .int (((3 * x2) + ((cA τ x0 x3.toNatClampNeg) &&& 255)) - ((3 * x2) + ((cA τ x0 x3.toNatClampNeg) &&& 255)) / 251 * 251)), (0, .ref x0), (1, .int x1), (3, .int x3)]) dX0_check_26 rfl (by decide) rfl ?_
    refine xr_iinc (pc := 27) (loc' := [(3, .int (x3 + 1)), (2, .int (((3 * x2) + ((cA τ x0 x3.toNatClampNeg) &&& 255)) - ((3 * x2) + ((cA τ x0 x3.toNatClampNeg) &&& 255)) / 251 * 251)), (0, .ref x0), (1, .int x1)]) 3 dX0_check_27 rfl xci_1 (by decide) rfl ?_
    refine xr_goto (pc := 30) 6 dX0_check_30 (by decide) ?_
    refine xV_sub [2, 3, 1, 0] rfl ?_
    exact kc _ (Option.some.inj hf).symm
def f_c_X0_check (g : CG) (x0 : Nat) (x1 : Int32) (τ : CC) : Option (Int32 × CC) :=
  (itr (fun s_ : Int32 × Int32 × CC => Bc_X0_check_6 g x0 x1 s_.1 s_.2.1 s_.2.2) 4096 (179, 0, τ)).bind fun b2 =>
  some ((b2.1, b2.2))
theorem ok_f_c_X0_check {D : CD} {P : CP} {K : xK} {g : CG} {Z : Option Value × CS} {x0 : Nat} {x1 : Int32} {τ : CC} {o_ : (Int32 × CC)} (hf : f_c_X0_check g x0 x1 τ = some o_) (kr : ∀ r_ : (Int32 × CC), o_ = r_ → Z = (some (.int r_.1), (g, r_.2))) : xV (wC D P) K mX0_check (xQ (wC D P) K Z) (g, τ) 0 [(0, .ref x0), (1, .int x1)] [] := by
  unfold f_c_X0_check at hf
  refine xr_sipush (pc := 0) dX0_check_0 xcs_179 ?_
  refine xr_istore_n (pc := 3) (loc' := [(2, .int 179), (0, .ref x0), (1, .int x1)]) dX0_check_3 rfl (by decide) rfl ?_
  refine xr_iconst (pc := 4) dX0_check_4 xci_0 ?_
  refine xr_istore_n (pc := 5) (loc' := [(3, .int 0), (2, .int 179), (0, .ref x0), (1, .int x1)]) dX0_check_5 rfl (by decide) rfl ?_
  refine xV_sub [2, 3, 1, 0] rfl ?_
  obtain ⟨b2, hb2, hf⟩ := xo_bind hf
  refine itr_rule (P := fun s_ : Int32 × Int32 × CC => xV (wC D P) K mX0_check (xQ (wC D P) K Z) (g, s_.2.2) 6 [(0, .ref x0), (1, .int x1), (2, .int s_.1), (3, .int s_.2.1)] []) (fun s_ o_ hB_ hc_ he_ => ok_Bc_X0_check_6 hB_ hc_ (fun e_ h_ => ?_)) 4096 _ hb2
  · have e9_ := he_ _ h_
    rw [e9_]
    refine xr_iload_n (pc := 33) 0 dX0_check_33 rfl rfl ?_
    rw [kr _ (Option.some.inj hf).symm]
    exact xr_iret (pc := 34) dX0_check_34 rfl
theorem met_f_c_X0_check (l : Launch) {D : CD} {P : CP} {g : CG} {x0 : Nat} {x1 : Int32} {τ : CC} {o_ : (Int32 × CC)} (hf : f_c_X0_check g x0 x1 τ = some o_) : xMet (wC D P) l yX0_check (ws_ yX0_check cX0_check 4 (some .int)) 0 0 (grc g) (grs g) [.ref x0, .int x1] (g, τ) (some (.int o_.1), (g, o_.2)) := 
  xMet_of (by decide) (Nat.le_of_ble_eq_true rfl) KC_moved RPC_of (fun K _ _ _ => ok_f_c_X0_check hf (fun _ h => by rw [h]))
theorem hd_f_c_X0_writes : yX0_writes.cls ≠ "java/lang/invoke/MethodHandle" ∧ yX0_writes.cls ≠ "java/lang/invoke/VarHandle" ∧ (parseMethodDescriptor yX0_writes.desc).map (fun d => d.parameters.length) = some 2 := by decide +kernel
theorem call_f_c_X0_writes_X0_405 {D : CD} {P : CP} {K : xK} {M : xM} {Q : State → Prop} {g : CG} {c : CC} {x0 : Nat} {x1 : Int32} {x2 : Int32} {pc : Nat} {loc : List (Nat × Value)} {st : List Value} {c1 : CC} (hf : f_c_X0_writes g x0 x1 x2 c = some c1) (hr : gK g x0 = 1) (ho : M.2.2.1 = RX0) (hfr : 1 ≤ M.2.2.2.1) (hlo : 23 ≤ M.2.2.2.2.1) (hcat : (st.map fun v => v.category).sum ≤ 8) (d : decode M.1 pc = .ok (.invokevirtual 405, 3)) (k : xV (wC D P) K M Q (g, c1) (pc + 3) loc st) : xV (wC D P) K M Q (g, c) pc loc (.int x2 :: .int x1 :: .ref x0 :: st) :=
  yc_callV (As := [.int x1, .int x2]) (rest := st) (met_f_c_X0_writes K.2.1 hf) (lw_V q1708 q1710 qs62 q174 q1711) ⟨rfl, hd_f_c_X0_writes⟩ ho hfr hlo rfl hr (by decide) (by decide) rfl rfl hcat d k
theorem hd_f_c_X0_check : yX0_check.cls ≠ "java/lang/invoke/MethodHandle" ∧ yX0_check.cls ≠ "java/lang/invoke/VarHandle" ∧ (parseMethodDescriptor yX0_check.desc).map (fun d => d.parameters.length) = some 2 := by decide +kernel
theorem call_f_c_X0_check_X0_409 {D : CD} {P : CP} {K : xK} {M : xM} {Q : State → Prop} {g : CG} {c : CC} {x0 : Nat} {x1 : Int32} {pc : Nat} {loc : List (Nat × Value)} {st : List Value} {r : Int32} {c1 : CC} (hf : f_c_X0_check g x0 x1 c = some (r, c1)) (ho : M.2.2.1 = RX0) (hfr : 1 ≤ M.2.2.2.1) (hlo : 23 ≤ M.2.2.2.2.1) (hcat : (st.map fun v => v.category).sum ≤ 8) (d : decode M.1 pc = .ok (.invokestatic 409, 3)) (k : xV (wC D P) K M Q (g, c1) (pc + 3) loc (.int r :: st)) : xV (wC D P) K M Q (g, c) pc loc (.int x1 :: .ref x0 :: st) :=
  yc_callS (As := [.ref x0, .int x1]) (rest := st) (met_f_c_X0_check K.2.1 hf) (lw_S q1712 q1713 q174 q1714) hd_f_c_X0_check ho hfr hlo rfl rfl hcat d k
abbrev mX0_image : xM := (cX0_image, 2, RX0, 2, 120, (some .int), "image")
def Bc_X0_image_31 (g : CG) (x0 : Nat) (x1 : Int32) (τ : CC) : Option ((Int32 × CC) ⊕ ((CC))) :=
  if gT g x0 = 1 then
  xbd (f_c_X0_columns g x0 τ) fun r7 τ7 =>
  if r7 ≤ x1 then
  some (.inr τ7)
  else
  (gR g 109 x0).bind fun b8 =>
  if gT g b8 = 6 then
  (gR g 603 b8).bind fun b10 =>
  if gT g b10 = 100 then
  if xin x1 (gN g b10) = true then
  (f_c_X0_writes g x0 (cA τ7 b10 x1.toNatClampNeg) 1 τ7).bind fun τ12 =>
  some (.inl (x1 + 1, τ12))
  else none
  else none
  else none
  else none
theorem ok_Bc_X0_image_31 {D : CD} {P : CP} {K : xK} {g : CG} {Z : Option Value × CS} {x0 : Nat} {x1 : Int32} {τ : CC} {o_ : ((Int32 × CC) ⊕ ((CC)))} (hf : Bc_X0_image_31 g x0 x1 τ = some o_) (kc : ∀ s_ : Int32 × CC, o_ = .inl s_ → xV (wC D P) K mX0_image (xQ (wC D P) K Z) (g, s_.2) 31 [(0, .ref x0), (1, .int s_.1)] []) (ke0 : ∀ e_ : CC, o_ = .inr e_ → xV (wC D P) K mX0_image (xQ (wC D P) K Z) (g, e_) 59 [(0, .ref x0)] []) : xV (wC D P) K mX0_image (xQ (wC D P) K Z) (g, τ) 31 [(0, .ref x0), (1, .int x1)] [] := by
  unfold Bc_X0_image_31 at hf
  refine xr_iload_n (pc := 31) 1 dX0_image_31 rfl rfl ?_
  refine xr_aload_n (pc := 32) 0 dX0_image_32 rfl rfl ?_
  obtain ⟨ht6, hf⟩ := xo_if hf
  obtain ⟨r7, τ7, hτ7, hf⟩ := xo_bd hf
  refine call_f_c_X0_columns_X0_169 (pc := 33) hτ7 (gKo ht6 (by decide)) rfl (Nat.le_of_ble_eq_true rfl) (Nat.le_of_ble_eq_true rfl) (Nat.le_of_ble_eq_true rfl) dX0_image_33 ?_
  refine xr_icmp_ge (pc := 36) 59 dX0_image_36 (by decide) (fun c_ => ?_) (fun c_ => ?_)
  · have hf := xo_pos c_ hf
    refine xV_sub [0] rfl ?_
    exact ke0 _ (Option.some.inj hf).symm
  · have hf := xo_neg c_ hf
    refine xr_aload_n (pc := 39) 0 dX0_image_39 rfl rfl ?_
    refine xr_aload_n (pc := 40) 0 dX0_image_40 rfl rfl ?_
    obtain ⟨b8, hb8, hf⟩ := xo_bind hf
    refine yc_getFs (pc := 41) 1 9 109 (gKo ht6 (by decide)) (by decide) (by decide) (by decide) rfl rfl hb8 q495 (ys_eq rfl) rfl dX0_image_41 ?_
    obtain ⟨ht9, hf⟩ := xo_if hf
    obtain ⟨b10, hb10, hf⟩ := xo_bind hf
    refine yc_getFsN (pc := 44) 6 3 603 (gKo ht9 (by decide)) (by decide) (by decide) (by decide) rfl rfl hb10 q441 (ys_eq rfl) rfl dX0_image_44 ?_
    refine xr_iload_n (pc := 47) 1 dX0_image_47 rfl rfl ?_
    obtain ⟨ht11, hf⟩ := xo_if hf
    obtain ⟨hi_, hf⟩ := xo_if hf
    refine yc_iald (pc := 48) (gKo ht11 (by decide)) hi_ dX0_image_48 ?_
    refine xr_iconst (pc := 49) dX0_image_49 xci_1 ?_
    obtain ⟨τ12, hτ12, hf⟩ := xo_bind hf
    refine call_f_c_X0_writes_X0_405 (pc := 50) hτ12 (gKo ht6 (by decide)) rfl (Nat.le_of_ble_eq_true rfl) (Nat.le_of_ble_eq_true rfl) (Nat.le_of_ble_eq_true rfl) dX0_image_50 ?_
    refine xr_iinc (pc := 53) (loc' := [(1, .int (x1 + 1)), (0, .ref x0)]) 1 dX0_image_53 rfl xci_1 (by decide) rfl ?_
    refine xr_goto (pc := 56) 31 dX0_image_56 (by decide) ?_
    refine xV_sub [1, 0] rfl ?_
    exact kc _ (Option.some.inj hf).symm
def Bc_X0_image_61 (g : CG) (x0 : Nat) (x1 : Int32) (τ : CC) : Option ((Int32 × CC) ⊕ ((CC))) :=
  if gT g x0 = 1 then
  xbd (f_c_X0_places g x0 τ) fun r15 τ15 =>
  if r15 ≤ x1 then
  some (.inr τ15)
  else
  (gR g 109 x0).bind fun b16 =>
  if gT g b16 = 6 then
  (gR g 606 b16).bind fun b18 =>
  (cR τ15 100 x0).bind fun b19 =>
  if gT g b19 = 2 then
  if ¬ (cI τ15 202 b19) = 0 then
  if gT g b18 = 105 then
  if xin (x1 / (cI τ15 202 b19)) (gN g b18) = true then
  (cR τ15 100 x0).bind fun b22 =>
  if gT g b22 = 2 then
  if ¬ (cI τ15 202 b22) = 0 then
  if gT g (gA g b18 (x1 / (cI τ15 202 b19)).toNatClampNeg) = 100 then
  if xin (x1 - x1 / (cI τ15 202 b22) * (cI τ15 202 b22)) (gN g (gA g b18 (x1 / (cI τ15 202 b19)).toNatClampNeg)) = true then
  (f_c_X0_writes g x0 (cA τ15 (gA g b18 (x1 / (cI τ15 202 b19)).toNatClampNeg) (x1 - x1 / (cI τ15 202 b22) * (cI τ15 202 b22)).toNatClampNeg) 1 τ15).bind fun τ25 =>
  (gR g 607 b16).bind fun b26 =>
  (cR τ25 100 x0).bind fun b27 =>
  if gT g b27 = 2 then
  if ¬ (cI τ25 202 b27) = 0 then
  if gT g b26 = 105 then
  if xin (x1 / (cI τ25 202 b27)) (gN g b26) = true then
  (cR τ25 100 x0).bind fun b30 =>
  if gT g b30 = 2 then
  if ¬ (cI τ25 202 b30) = 0 then
  if gT g (gA g b26 (x1 / (cI τ25 202 b27)).toNatClampNeg) = 100 then
  if xin (x1 - x1 / (cI τ25 202 b30) * (cI τ25 202 b30)) (gN g (gA g b26 (x1 / (cI τ25 202 b27)).toNatClampNeg)) = true then
  (f_c_X0_writes g x0 (cA τ25 (gA g b26 (x1 / (cI τ25 202 b27)).toNatClampNeg) (x1 - x1 / (cI τ25 202 b30) * (cI τ25 202 b30)).toNatClampNeg) 1 τ25).bind fun τ33 =>
  some (.inl (x1 + 1, τ33))
  else none
  else none
  else none
  else none
  else none
  else none
  else none
  else none
  else none
  else none
  else none
  else none
  else none
  else none
  else none
  else none
  else none
  else none
theorem ok_Bc_X0_image_61 {D : CD} {P : CP} {K : xK} {g : CG} {Z : Option Value × CS} {x0 : Nat} {x1 : Int32} {τ : CC} {o_ : ((Int32 × CC) ⊕ ((CC)))} (hf : Bc_X0_image_61 g x0 x1 τ = some o_) (kc : ∀ s_ : Int32 × CC, o_ = .inl s_ → xV (wC D P) K mX0_image (xQ (wC D P) K Z) (g, s_.2) 61 [(0, .ref x0), (1, .int s_.1)] []) (ke0 : ∀ e_ : CC, o_ = .inr e_ → xV (wC D P) K mX0_image (xQ (wC D P) K Z) (g, e_) 139 [(0, .ref x0)] []) : xV (wC D P) K mX0_image (xQ (wC D P) K Z) (g, τ) 61 [(0, .ref x0), (1, .int x1)] [] := by
  unfold Bc_X0_image_61 at hf
  refine xr_iload_n (pc := 61) 1 dX0_image_61 rfl rfl ?_
  refine xr_aload_n (pc := 62) 0 dX0_image_62 rfl rfl ?_
  obtain ⟨ht14, hf⟩ := xo_if hf
  obtain ⟨r15, τ15, hτ15, hf⟩ := xo_bd hf
  refine call_f_c_X0_places_X0_303 (pc := 63) hτ15 (gKo ht14 (by decide)) rfl (Nat.le_of_ble_eq_true rfl) (Nat.le_of_ble_eq_true rfl) (Nat.le_of_ble_eq_true rfl) dX0_image_63 ?_
  refine xr_icmp_ge (pc := 66) 139 dX0_image_66 (by decide) (fun c_ => ?_) (fun c_ => ?_)
  · have hf := xo_pos c_ hf
    refine xV_sub [0] rfl ?_
    exact ke0 _ (Option.some.inj hf).symm
  · have hf := xo_neg c_ hf
    refine xr_aload_n (pc := 69) 0 dX0_image_69 rfl rfl ?_
    refine xr_aload_n (pc := 70) 0 dX0_image_70 rfl rfl ?_
    obtain ⟨b16, hb16, hf⟩ := xo_bind hf
    refine yc_getFs (pc := 71) 1 9 109 (gKo ht14 (by decide)) (by decide) (by decide) (by decide) rfl rfl hb16 q495 (ys_eq rfl) rfl dX0_image_71 ?_
    obtain ⟨ht17, hf⟩ := xo_if hf
    obtain ⟨b18, hb18, hf⟩ := xo_bind hf
    refine yc_getFsN (pc := 74) 6 6 606 (gKo ht17 (by decide)) (by decide) (by decide) (by decide) rfl rfl hb18 q447 (ys_eq rfl) rfl dX0_image_74 ?_
    refine xr_iload_n (pc := 77) 1 dX0_image_77 rfl rfl ?_
    refine xr_aload_n (pc := 78) 0 dX0_image_78 rfl rfl ?_
    obtain ⟨b19, hb19, hf⟩ := xo_bind hf
    refine yc_getRs (pc := 79) 1 0 100 (gKo ht14 (by decide)) (by decide) (by decide) (by decide) rfl rfl hb19 q484 (ys_eq rfl) rfl dX0_image_79 ?_
    obtain ⟨ht20, hf⟩ := xo_if hf
    refine yc_getIN (pc := 82) 2 2 202 (gKo ht20 (by decide)) (by decide) (by decide) (by decide) rfl rfl q263 (ys_eq rfl) rfl dX0_image_82 ?_
    obtain ⟨hz_, hf⟩ := xo_if hf
    refine xr_idiv (pc := 85) dX0_image_85 hz_ ?_
    obtain ⟨ht21, hf⟩ := xo_if hf
    obtain ⟨hi_, hf⟩ := xo_if hf
    refine yc_aaldF (pc := 86) 105 (gKo ht21 (by decide)) (by decide) (by decide) rfl rfl hi_ dX0_image_86 ?_
    refine xr_iload_n (pc := 87) 1 dX0_image_87 rfl rfl ?_
    refine xr_aload_n (pc := 88) 0 dX0_image_88 rfl rfl ?_
    obtain ⟨b22, hb22, hf⟩ := xo_bind hf
    refine yc_getRs (pc := 89) 1 0 100 (gKo ht14 (by decide)) (by decide) (by decide) (by decide) rfl rfl hb22 q484 (ys_eq rfl) rfl dX0_image_89 ?_
    obtain ⟨ht23, hf⟩ := xo_if hf
    refine yc_getIN (pc := 92) 2 2 202 (gKo ht23 (by decide)) (by decide) (by decide) (by decide) rfl rfl q263 (ys_eq rfl) rfl dX0_image_92 ?_
    obtain ⟨hz_, hf⟩ := xo_if hf
    refine xr_irem (pc := 95) dX0_image_95 hz_ ?_
    obtain ⟨ht24, hf⟩ := xo_if hf
    obtain ⟨hi_, hf⟩ := xo_if hf
    refine yc_iald (pc := 96) (gKo ht24 (by decide)) hi_ dX0_image_96 ?_
    refine xr_iconst (pc := 97) dX0_image_97 xci_1 ?_
    obtain ⟨τ25, hτ25, hf⟩ := xo_bind hf
    refine call_f_c_X0_writes_X0_405 (pc := 98) hτ25 (gKo ht14 (by decide)) rfl (Nat.le_of_ble_eq_true rfl) (Nat.le_of_ble_eq_true rfl) (Nat.le_of_ble_eq_true rfl) dX0_image_98 ?_
    refine xr_aload_n (pc := 101) 0 dX0_image_101 rfl rfl ?_
    refine xr_aload_n (pc := 102) 0 dX0_image_102 rfl rfl ?_
    refine yc_getFs (pc := 103) 1 9 109 (gKo ht14 (by decide)) (by decide) (by decide) (by decide) rfl rfl hb16 q495 (ys_eq rfl) rfl dX0_image_103 ?_
    obtain ⟨b26, hb26, hf⟩ := xo_bind hf
    refine yc_getFsN (pc := 106) 6 7 607 (gKo ht17 (by decide)) (by decide) (by decide) (by decide) rfl rfl hb26 q449 (ys_eq rfl) rfl dX0_image_106 ?_
    refine xr_iload_n (pc := 109) 1 dX0_image_109 rfl rfl ?_
    refine xr_aload_n (pc := 110) 0 dX0_image_110 rfl rfl ?_
    obtain ⟨b27, hb27, hf⟩ := xo_bind hf
    refine yc_getRs (pc := 111) 1 0 100 (gKo ht14 (by decide)) (by decide) (by decide) (by decide) rfl rfl hb27 q484 (ys_eq rfl) rfl dX0_image_111 ?_
    obtain ⟨ht28, hf⟩ := xo_if hf
    refine yc_getIN (pc := 114) 2 2 202 (gKo ht28 (by decide)) (by decide) (by decide) (by decide) rfl rfl q263 (ys_eq rfl) rfl dX0_image_114 ?_
    obtain ⟨hz_, hf⟩ := xo_if hf
    refine xr_idiv (pc := 117) dX0_image_117 hz_ ?_
    obtain ⟨ht29, hf⟩ := xo_if hf
    obtain ⟨hi_, hf⟩ := xo_if hf
    refine yc_aaldF (pc := 118) 105 (gKo ht29 (by decide)) (by decide) (by decide) rfl rfl hi_ dX0_image_118 ?_
    refine xr_iload_n (pc := 119) 1 dX0_image_119 rfl rfl ?_
    refine xr_aload_n (pc := 120) 0 dX0_image_120 rfl rfl ?_
    obtain ⟨b30, hb30, hf⟩ := xo_bind hf
    refine yc_getRs (pc := 121) 1 0 100 (gKo ht14 (by decide)) (by decide) (by decide) (by decide) rfl rfl hb30 q484 (ys_eq rfl) rfl dX0_image_121 ?_
    obtain ⟨ht31, hf⟩ := xo_if hf
    refine yc_getIN (pc := 124) 2 2 202 (gKo ht31 (by decide)) (by decide) (by decide) (by decide) rfl rfl q263 (ys_eq rfl) rfl dX0_image_124 ?_
    obtain ⟨hz_, hf⟩ := xo_if hf
    refine xr_irem (pc := 127) dX0_image_127 hz_ ?_
    obtain ⟨ht32, hf⟩ := xo_if hf
    obtain ⟨hi_, hf⟩ := xo_if hf
    refine yc_iald (pc := 128) (gKo ht32 (by decide)) hi_ dX0_image_128 ?_
    refine xr_iconst (pc := 129) dX0_image_129 xci_1 ?_
    obtain ⟨τ33, hτ33, hf⟩ := xo_bind hf
    refine call_f_c_X0_writes_X0_405 (pc := 130) hτ33 (gKo ht14 (by decide)) rfl (Nat.le_of_ble_eq_true rfl) (Nat.le_of_ble_eq_true rfl) (Nat.le_of_ble_eq_true rfl) dX0_image_130 ?_
    refine xr_iinc (pc := 133) (loc' := [(1, .int (x1 + 1)), (0, .ref x0)]) 1 dX0_image_133 rfl xci_1 (by decide) rfl ?_
    refine xr_goto (pc := 136) 61 dX0_image_136 (by decide) ?_
    refine xV_sub [1, 0] rfl ?_
    exact kc _ (Option.some.inj hf).symm
def Jc_X0_image_167 (g : CG) (x0 : Nat) (x1 : Int32) (s0 : Int32) (s1 : Nat) (τ : CC) : Option ((Int32 × CC) ⊕ ((CC))) :=
  if gT g s1 = 1 then
  (f_c_X0_writes g s1 s0 1 τ).bind fun τ42 =>
  if gT g x0 = 1 then
  (gR g 109 x0).bind fun b44 =>
  if gT g b44 = 6 then
  (gR g 604 b44).bind fun b46 =>
  if gT g b46 = 100 then
  if xin x1 (gN g b46) = true then
  (f_c_X0_writes g x0 (cA τ42 b46 x1.toNatClampNeg) 2 τ42).bind fun τ48 =>
  some (.inl (x1 + 1, τ48))
  else none
  else none
  else none
  else none
  else none
theorem ok_Jc_X0_image_167 {D : CD} {P : CP} {K : xK} {g : CG} {Z : Option Value × CS} {x0 : Nat} {x1 : Int32} {s0 : Int32} {s1 : Nat} {τ : CC} {o_ : ((Int32 × CC) ⊕ ((CC)))} (hf : Jc_X0_image_167 g x0 x1 s0 s1 τ = some o_) (kc : ∀ s_ : Int32 × CC, o_ = .inl s_ → xV (wC D P) K mX0_image (xQ (wC D P) K Z) (g, s_.2) 141 [(0, .ref x0), (1, .int s_.1)] []) (ke0 : ∀ e_ : CC, o_ = .inr e_ → xV (wC D P) K mX0_image (xQ (wC D P) K Z) (g, e_) 191 [(0, .ref x0)] []) : xV (wC D P) K mX0_image (xQ (wC D P) K Z) (g, τ) 167 [(0, .ref x0), (1, .int x1)] [.int s0, .ref s1] := by
  unfold Jc_X0_image_167 at hf
  refine xr_iconst (pc := 167) dX0_image_167 xci_1 ?_
  obtain ⟨ht41, hf⟩ := xo_if hf
  obtain ⟨τ42, hτ42, hf⟩ := xo_bind hf
  refine call_f_c_X0_writes_X0_405 (pc := 168) hτ42 (gKo ht41 (by decide)) rfl (Nat.le_of_ble_eq_true rfl) (Nat.le_of_ble_eq_true rfl) (Nat.le_of_ble_eq_true rfl) dX0_image_168 ?_
  refine xr_aload_n (pc := 171) 0 dX0_image_171 rfl rfl ?_
  refine xr_aload_n (pc := 172) 0 dX0_image_172 rfl rfl ?_
  obtain ⟨ht43, hf⟩ := xo_if hf
  obtain ⟨b44, hb44, hf⟩ := xo_bind hf
  refine yc_getFs (pc := 173) 1 9 109 (gKo ht43 (by decide)) (by decide) (by decide) (by decide) rfl rfl hb44 q495 (ys_eq rfl) rfl dX0_image_173 ?_
  obtain ⟨ht45, hf⟩ := xo_if hf
  obtain ⟨b46, hb46, hf⟩ := xo_bind hf
  refine yc_getFsN (pc := 176) 6 4 604 (gKo ht45 (by decide)) (by decide) (by decide) (by decide) rfl rfl hb46 q443 (ys_eq rfl) rfl dX0_image_176 ?_
  refine xr_iload_n (pc := 179) 1 dX0_image_179 rfl rfl ?_
  obtain ⟨ht47, hf⟩ := xo_if hf
  obtain ⟨hi_, hf⟩ := xo_if hf
  refine yc_iald (pc := 180) (gKo ht47 (by decide)) hi_ dX0_image_180 ?_
  refine xr_iconst (pc := 181) dX0_image_181 xci_2 ?_
  obtain ⟨τ48, hτ48, hf⟩ := xo_bind hf
  refine call_f_c_X0_writes_X0_405 (pc := 182) hτ48 (gKo ht43 (by decide)) rfl (Nat.le_of_ble_eq_true rfl) (Nat.le_of_ble_eq_true rfl) (Nat.le_of_ble_eq_true rfl) dX0_image_182 ?_
  refine xr_iinc (pc := 185) (loc' := [(1, .int (x1 + 1)), (0, .ref x0)]) 1 dX0_image_185 rfl xci_1 (by decide) rfl ?_
  refine xr_goto (pc := 188) 141 dX0_image_188 (by decide) ?_
  refine xV_sub [1, 0] rfl ?_
  exact kc _ (Option.some.inj hf).symm
def Bc_X0_image_141 (g : CG) (x0 : Nat) (x1 : Int32) (τ : CC) : Option ((Int32 × CC) ⊕ ((CC))) :=
  if gT g x0 = 1 then
  xbd (f_c_X0_lords g x0 τ) fun r36 τ36 =>
  if r36 ≤ x1 then
  some (.inr τ36)
  else
  (gR g 109 x0).bind fun b37 =>
  if gT g b37 = 6 then
  (gR g 605 b37).bind fun b39 =>
  if gT g b39 = 104 then
  if xin x1 (gN g b39) = true then
  if (cA τ36 b39 x1.toNatClampNeg) = 0 then
  Jc_X0_image_167 g x0 x1 0 x0 τ36
  else
  Jc_X0_image_167 g x0 x1 1 x0 τ36
  else none
  else none
  else none
  else none
theorem ok_Bc_X0_image_141 {D : CD} {P : CP} {K : xK} {g : CG} {Z : Option Value × CS} {x0 : Nat} {x1 : Int32} {τ : CC} {o_ : ((Int32 × CC) ⊕ ((CC)))} (hf : Bc_X0_image_141 g x0 x1 τ = some o_) (kc : ∀ s_ : Int32 × CC, o_ = .inl s_ → xV (wC D P) K mX0_image (xQ (wC D P) K Z) (g, s_.2) 141 [(0, .ref x0), (1, .int s_.1)] []) (ke0 : ∀ e_ : CC, o_ = .inr e_ → xV (wC D P) K mX0_image (xQ (wC D P) K Z) (g, e_) 191 [(0, .ref x0)] []) : xV (wC D P) K mX0_image (xQ (wC D P) K Z) (g, τ) 141 [(0, .ref x0), (1, .int x1)] [] := by
  unfold Bc_X0_image_141 at hf
  refine xr_iload_n (pc := 141) 1 dX0_image_141 rfl rfl ?_
  refine xr_aload_n (pc := 142) 0 dX0_image_142 rfl rfl ?_
  obtain ⟨ht35, hf⟩ := xo_if hf
  obtain ⟨r36, τ36, hτ36, hf⟩ := xo_bd hf
  refine call_f_c_X0_lords_X0_180 (pc := 143) hτ36 (gKo ht35 (by decide)) rfl (Nat.le_of_ble_eq_true rfl) (Nat.le_of_ble_eq_true rfl) (Nat.le_of_ble_eq_true rfl) dX0_image_143 ?_
  refine xr_icmp_ge (pc := 146) 191 dX0_image_146 (by decide) (fun c_ => ?_) (fun c_ => ?_)
  · have hf := xo_pos c_ hf
    refine xV_sub [0] rfl ?_
    exact ke0 _ (Option.some.inj hf).symm
  · have hf := xo_neg c_ hf
    refine xr_aload_n (pc := 149) 0 dX0_image_149 rfl rfl ?_
    refine xr_aload_n (pc := 150) 0 dX0_image_150 rfl rfl ?_
    obtain ⟨b37, hb37, hf⟩ := xo_bind hf
    refine yc_getFs (pc := 151) 1 9 109 (gKo ht35 (by decide)) (by decide) (by decide) (by decide) rfl rfl hb37 q495 (ys_eq rfl) rfl dX0_image_151 ?_
    obtain ⟨ht38, hf⟩ := xo_if hf
    obtain ⟨b39, hb39, hf⟩ := xo_bind hf
    refine yc_getFsN (pc := 154) 6 5 605 (gKo ht38 (by decide)) (by decide) (by decide) (by decide) rfl rfl hb39 q445 (ys_eq rfl) rfl dX0_image_154 ?_
    refine xr_iload_n (pc := 157) 1 dX0_image_157 rfl rfl ?_
    obtain ⟨ht40, hf⟩ := xo_if hf
    obtain ⟨hi_, hf⟩ := xo_if hf
    refine yc_zald (pc := 158) (gKo ht40 (by decide)) hi_ dX0_image_158 ?_
    refine xr_if_eq (pc := 159) 166 dX0_image_159 (by decide) (fun c_ => ?_) (fun c_ => ?_)
    · have hf := xo_pos c_ hf
      refine xr_iconst (pc := 166) dX0_image_166 xci_0 ?_
      exact ok_Jc_X0_image_167 hf kc ke0
    · have hf := xo_neg c_ hf
      refine xr_iconst (pc := 162) dX0_image_162 xci_1 ?_
      refine xr_goto (pc := 163) 167 dX0_image_163 (by decide) ?_
      exact ok_Jc_X0_image_167 hf kc ke0
def f_c_X0_image (g : CG) (x0 : Nat) (τ : CC) : Option (Int32 × CC) :=
  if gT g x0 = 1 then
  (gR g 109 x0).bind fun b2 =>
  if gT g b2 = 6 then
  (f_c_X0_writes g x0 (cI (uI τ 124 x0 0) 600 b2) 2 (uI τ 124 x0 0)).bind fun τ4 =>
  (f_c_X0_writes g x0 (cI τ4 601 b2) 3 τ4).bind fun τ5 =>
  (itr (fun s_ : Int32 × CC => Bc_X0_image_31 g x0 s_.1 s_.2) 4096 (0, τ5)).bind fun b13 =>
  (itr (fun s_ : Int32 × CC => Bc_X0_image_61 g x0 s_.1 s_.2) 4096 (0, b13)).bind fun b34 =>
  (itr (fun s_ : Int32 × CC => Bc_X0_image_141 g x0 s_.1 s_.2) 4096 (0, b34)).bind fun b49 =>
  (gR g 123 x0).bind fun b50 =>
  xbd (f_c_X0_check g b50 (cI b49 124 x0) b49) fun r51 τ51 =>
  (f_c_X0_writes g x0 r51 1 τ51).bind fun τ52 =>
  some ((cI τ52 124 x0, τ52))
  else none
  else none
theorem ok_f_c_X0_image {D : CD} {P : CP} {K : xK} {g : CG} {Z : Option Value × CS} {x0 : Nat} {τ : CC} {o_ : (Int32 × CC)} (hf : f_c_X0_image g x0 τ = some o_) (kr : ∀ r_ : (Int32 × CC), o_ = r_ → Z = (some (.int r_.1), (g, r_.2))) : xV (wC D P) K mX0_image (xQ (wC D P) K Z) (g, τ) 0 [(0, .ref x0)] [] := by
  unfold f_c_X0_image at hf
  refine xr_aload_n (pc := 0) 0 dX0_image_0 rfl rfl ?_
  refine xr_iconst (pc := 1) dX0_image_1 xci_0 ?_
  obtain ⟨ht1, hf⟩ := xo_if hf
  refine yc_putI (pc := 2) 1 24 124 ht1 (by decide) (by decide) (by decide) rfl rfl rfl (ty := .int) (by decide +kernel) rfl rfl q510 (ys_eq rfl) rfl dX0_image_2 ?_
  refine xr_aload_n (pc := 5) 0 dX0_image_5 rfl rfl ?_
  refine xr_aload_n (pc := 6) 0 dX0_image_6 rfl rfl ?_
  obtain ⟨b2, hb2, hf⟩ := xo_bind hf
  refine yc_getFs (pc := 7) 1 9 109 (gKo ht1 (by decide)) (by decide) (by decide) (by decide) rfl rfl hb2 q495 (ys_eq rfl) rfl dX0_image_7 ?_
  obtain ⟨ht3, hf⟩ := xo_if hf
  refine yc_getIN (pc := 10) 6 0 600 (gKo ht3 (by decide)) (by decide) (by decide) (by decide) rfl rfl q435 (ys_eq rfl) rfl dX0_image_10 ?_
  refine xr_iconst (pc := 13) dX0_image_13 xci_2 ?_
  obtain ⟨τ4, hτ4, hf⟩ := xo_bind hf
  refine call_f_c_X0_writes_X0_405 (pc := 14) hτ4 (gKo ht1 (by decide)) rfl (Nat.le_of_ble_eq_true rfl) (Nat.le_of_ble_eq_true rfl) (Nat.le_of_ble_eq_true rfl) dX0_image_14 ?_
  refine xr_aload_n (pc := 17) 0 dX0_image_17 rfl rfl ?_
  refine xr_aload_n (pc := 18) 0 dX0_image_18 rfl rfl ?_
  refine yc_getFs (pc := 19) 1 9 109 (gKo ht1 (by decide)) (by decide) (by decide) (by decide) rfl rfl hb2 q495 (ys_eq rfl) rfl dX0_image_19 ?_
  refine yc_getIN (pc := 22) 6 1 601 (gKo ht3 (by decide)) (by decide) (by decide) (by decide) rfl rfl q437 (ys_eq rfl) rfl dX0_image_22 ?_
  refine xr_iconst (pc := 25) dX0_image_25 xci_3 ?_
  obtain ⟨τ5, hτ5, hf⟩ := xo_bind hf
  refine call_f_c_X0_writes_X0_405 (pc := 26) hτ5 (gKo ht1 (by decide)) rfl (Nat.le_of_ble_eq_true rfl) (Nat.le_of_ble_eq_true rfl) (Nat.le_of_ble_eq_true rfl) dX0_image_26 ?_
  refine xr_iconst (pc := 29) dX0_image_29 xci_0 ?_
  refine xr_istore_n (pc := 30) (loc' := [(1, .int 0), (0, .ref x0)]) dX0_image_30 rfl (by decide) rfl ?_
  refine xV_sub [1, 0] rfl ?_
  obtain ⟨b13, hb13, hf⟩ := xo_bind hf
  refine itr_rule (P := fun s_ : Int32 × CC => xV (wC D P) K mX0_image (xQ (wC D P) K Z) (g, s_.2) 31 [(0, .ref x0), (1, .int s_.1)] []) (fun s_ o_ hB_ hc_ he_ => ok_Bc_X0_image_31 hB_ hc_ (fun e_ h_ => ?_)) 4096 _ hb13
  · have e9_ := he_ _ h_
    rw [e9_]
    refine xr_iconst (pc := 59) dX0_image_59 xci_0 ?_
    refine xr_istore_n (pc := 60) (loc' := [(1, .int 0), (0, .ref x0)]) dX0_image_60 rfl (by decide) rfl ?_
    refine xV_sub [1, 0] rfl ?_
    obtain ⟨b34, hb34, hf⟩ := xo_bind hf
    refine itr_rule (P := fun s_ : Int32 × CC => xV (wC D P) K mX0_image (xQ (wC D P) K Z) (g, s_.2) 61 [(0, .ref x0), (1, .int s_.1)] []) (fun s_ o_ hB_ hc_ he_ => ok_Bc_X0_image_61 hB_ hc_ (fun e_ h_ => ?_)) 4096 _ hb34
    · have e9_ := he_ _ h_
      rw [e9_]
      refine xr_iconst (pc := 139) dX0_image_139 xci_0 ?_
      refine xr_istore_n (pc := 140) (loc' := [(1, .int 0), (0, .ref x0)]) dX0_image_140 rfl (by decide) rfl ?_
      refine xV_sub [1, 0] rfl ?_
      obtain ⟨b49, hb49, hf⟩ := xo_bind hf
      refine itr_rule (P := fun s_ : Int32 × CC => xV (wC D P) K mX0_image (xQ (wC D P) K Z) (g, s_.2) 141 [(0, .ref x0), (1, .int s_.1)] []) (fun s_ o_ hB_ hc_ he_ => ok_Bc_X0_image_141 hB_ hc_ (fun e_ h_ => ?_)) 4096 _ hb49
      · have e9_ := he_ _ h_
        rw [e9_]
        refine xr_aload_n (pc := 191) 0 dX0_image_191 rfl rfl ?_
        refine xr_aload_n (pc := 192) 0 dX0_image_192 rfl rfl ?_
        obtain ⟨b50, hb50, hf⟩ := xo_bind hf
        refine yc_getFs (pc := 193) 1 23 123 (gKo ht1 (by decide)) (by decide) (by decide) (by decide) rfl rfl hb50 q509 (ys_eq rfl) rfl dX0_image_193 ?_
        refine xr_aload_n (pc := 196) 0 dX0_image_196 rfl rfl ?_
        refine yc_getI (pc := 197) 1 24 124 (gKo ht1 (by decide)) (by decide) (by decide) (by decide) rfl rfl q510 (ys_eq rfl) rfl dX0_image_197 ?_
        obtain ⟨r51, τ51, hτ51, hf⟩ := xo_bd hf
        refine call_f_c_X0_check_X0_409 (pc := 200) hτ51 rfl (Nat.le_of_ble_eq_true rfl) (Nat.le_of_ble_eq_true rfl) (Nat.le_of_ble_eq_true rfl) dX0_image_200 ?_
        refine xr_iconst (pc := 203) dX0_image_203 xci_1 ?_
        obtain ⟨τ52, hτ52, hf⟩ := xo_bind hf
        refine call_f_c_X0_writes_X0_405 (pc := 204) hτ52 (gKo ht1 (by decide)) rfl (Nat.le_of_ble_eq_true rfl) (Nat.le_of_ble_eq_true rfl) (Nat.le_of_ble_eq_true rfl) dX0_image_204 ?_
        refine xr_aload_n (pc := 207) 0 dX0_image_207 rfl rfl ?_
        refine yc_getI (pc := 208) 1 24 124 (gKo ht1 (by decide)) (by decide) (by decide) (by decide) rfl rfl q510 (ys_eq rfl) rfl dX0_image_208 ?_
        rw [kr _ (Option.some.inj hf).symm]
        exact xr_iret (pc := 211) dX0_image_211 rfl
theorem met_f_c_X0_image (l : Launch) {D : CD} {P : CP} {g : CG} {x0 : Nat} {τ : CC} {o_ : (Int32 × CC)} (hf : f_c_X0_image g x0 τ = some o_) : xMet (wC D P) l yX0_image (ws_ yX0_image cX0_image 2 (some .int)) 2 120 (grc g) (grs g) [.ref x0] (g, τ) (some (.int o_.1), (g, o_.2)) := 
  xMet_of (by decide) (Nat.le_of_ble_eq_true rfl) KC_moved RPC_of (fun K _ _ _ => ok_f_c_X0_image hf (fun _ h => by rw [h]))
abbrev mX0_octet : xM := (cX0_octet, 2, RX0, 0, 0, (some .int), "octet")
def Jc_X0_octet_12 (g : CG) (τ : CC) : Option (Int32 × CC) :=
  some (((-1), τ))
theorem ok_Jc_X0_octet_12 {D : CD} {P : CP} {K : xK} {g : CG} {Z : Option Value × CS} {τ : CC} {o_ : (Int32 × CC)} (hf : Jc_X0_octet_12 g τ = some o_) (kr : ∀ r_ : (Int32 × CC), o_ = r_ → Z = (some (.int r_.1), (g, r_.2))) : xV (wC D P) K mX0_octet (xQ (wC D P) K Z) (g, τ) 12 [] [] := by
  unfold Jc_X0_octet_12 at hf
  refine xr_iconst (pc := 12) dX0_octet_12 xci_m1 ?_
  refine xr_goto (pc := 13) 26 dX0_octet_13 (by decide) ?_
  rw [kr _ (Option.some.inj hf).symm]
  exact xr_iret (pc := 26) dX0_octet_26 rfl
def f_c_X0_octet (g : CG) (x0 : Nat) (x1 : Int32) (τ : CC) : Option (Int32 × CC) :=
  if x1 < 0 then
  Jc_X0_octet_12 g τ
  else
  if gT g x0 = 1 then
  if x1 < (cI τ 124 x0) then
  (gR g 123 x0).bind fun b2 =>
  if gT g b2 = 103 then
  if xin x1 (gN g b2) = true then
  some (((cA τ b2 x1.toNatClampNeg) &&& 255, τ))
  else none
  else none
  else
  Jc_X0_octet_12 g τ
  else none
theorem ok_f_c_X0_octet {D : CD} {P : CP} {K : xK} {g : CG} {Z : Option Value × CS} {x0 : Nat} {x1 : Int32} {τ : CC} {o_ : (Int32 × CC)} (hf : f_c_X0_octet g x0 x1 τ = some o_) (kr : ∀ r_ : (Int32 × CC), o_ = r_ → Z = (some (.int r_.1), (g, r_.2))) : xV (wC D P) K mX0_octet (xQ (wC D P) K Z) (g, τ) 0 [(0, .ref x0), (1, .int x1)] [] := by
  unfold f_c_X0_octet at hf
  refine xr_iload_n (pc := 0) 1 dX0_octet_0 rfl rfl ?_
  refine xr_if_lt (pc := 1) 12 dX0_octet_1 (by decide) (fun c_ => ?_) (fun c_ => ?_)
  · have hf := xo_pos c_ hf
    refine xV_sub [] rfl ?_
    exact ok_Jc_X0_octet_12 hf kr
  · have hf := xo_neg c_ hf
    refine xr_iload_n (pc := 4) 1 dX0_octet_4 rfl rfl ?_
    refine xr_aload_n (pc := 5) 0 dX0_octet_5 rfl rfl ?_
    obtain ⟨ht1, hf⟩ := xo_if hf
    refine yc_getI (pc := 6) 1 24 124 (gKo ht1 (by decide)) (by decide) (by decide) (by decide) rfl rfl q510 (ys_eq rfl) rfl dX0_octet_6 ?_
    refine xr_icmp_lt (pc := 9) 16 dX0_octet_9 (by decide) (fun c_ => ?_) (fun c_ => ?_)
    · have hf := xo_pos c_ hf
      refine xr_aload_n (pc := 16) 0 dX0_octet_16 rfl rfl ?_
      obtain ⟨b2, hb2, hf⟩ := xo_bind hf
      refine yc_getFs (pc := 17) 1 23 123 (gKo ht1 (by decide)) (by decide) (by decide) (by decide) rfl rfl hb2 q509 (ys_eq rfl) rfl dX0_octet_17 ?_
      refine xr_iload_n (pc := 20) 1 dX0_octet_20 rfl rfl ?_
      obtain ⟨ht3, hf⟩ := xo_if hf
      obtain ⟨hi_, hf⟩ := xo_if hf
      refine yc_bald (pc := 21) (gKo ht3 (by decide)) hi_ dX0_octet_21 ?_
      refine xr_sipush (pc := 22) dX0_octet_22 xcs_255 ?_
      refine xr_iand (pc := 25) dX0_octet_25 ?_
      rw [kr _ (Option.some.inj hf).symm]
      exact xr_iret (pc := 26) dX0_octet_26 rfl
    · have hf := xo_neg c_ hf
      refine xV_sub [] rfl ?_
      exact ok_Jc_X0_octet_12 hf kr
theorem met_f_c_X0_octet (l : Launch) {D : CD} {P : CP} {g : CG} {x0 : Nat} {x1 : Int32} {τ : CC} {o_ : (Int32 × CC)} (hf : f_c_X0_octet g x0 x1 τ = some o_) : xMet (wC D P) l yX0_octet (ws_ yX0_octet cX0_octet 2 (some .int)) 0 0 (grc g) (grs g) [.ref x0, .int x1] (g, τ) (some (.int o_.1), (g, o_.2)) := 
  xMet_of (by decide) (Nat.le_of_ble_eq_true rfl) KC_moved RPC_of (fun K _ _ _ => ok_f_c_X0_octet hf (fun _ h => by rw [h]))
abbrev mX0_riverOn : xM := (cX0_riverOn, 4, RX0, 2, 120, (some .boolean), "riverOn")
def Jc_X0_riverOn_54 (g : CG) (x0 : Nat) (x2 : Int32) (s0 : Int32) (τ : CC) : Option ((Int32 × Int32 × CC) ⊕ ((Int32 × CC))) :=
  some (.inl (s0, x2 + 1, τ))
theorem ok_Jc_X0_riverOn_54 {D : CD} {P : CP} {K : xK} {g : CG} {Z : Option Value × CS} {x0 : Nat} {x2 : Int32} {s0 : Int32} {τ : CC} {o_ : ((Int32 × Int32 × CC) ⊕ ((Int32 × CC)))} (hf : Jc_X0_riverOn_54 g x0 x2 s0 τ = some o_) (kc : ∀ s_ : Int32 × Int32 × CC, o_ = .inl s_ → xV (wC D P) K mX0_riverOn (xQ (wC D P) K Z) (g, s_.2.2) 4 [(0, .ref x0), (1, .int s_.1), (2, .int s_.2.1)] []) (ke0 : ∀ e_ : Int32 × CC, o_ = .inr e_ → xV (wC D P) K mX0_riverOn (xQ (wC D P) K Z) (g, e_.2) 61 [(0, .ref x0), (1, .int e_.1)] []) : xV (wC D P) K mX0_riverOn (xQ (wC D P) K Z) (g, τ) 54 [(0, .ref x0), (2, .int x2)] [.int s0] := by
  unfold Jc_X0_riverOn_54 at hf
  refine xr_istore_n (pc := 54) (loc' := [(1, .int s0), (0, .ref x0), (2, .int x2)]) dX0_riverOn_54 rfl (by decide) rfl ?_
  refine xr_iinc (pc := 55) (loc' := [(2, .int (x2 + 1)), (1, .int s0), (0, .ref x0)]) 2 dX0_riverOn_55 rfl xci_1 (by decide) rfl ?_
  refine xr_goto (pc := 58) 4 dX0_riverOn_58 (by decide) ?_
  refine xV_sub [2, 1, 0] rfl ?_
  exact kc _ (Option.some.inj hf).symm
def Jc_X0_riverOn_53 (g : CG) (x0 : Nat) (x2 : Int32) (τ : CC) : Option ((Int32 × Int32 × CC) ⊕ ((Int32 × CC))) :=
  Jc_X0_riverOn_54 g x0 x2 0 τ
theorem ok_Jc_X0_riverOn_53 {D : CD} {P : CP} {K : xK} {g : CG} {Z : Option Value × CS} {x0 : Nat} {x2 : Int32} {τ : CC} {o_ : ((Int32 × Int32 × CC) ⊕ ((Int32 × CC)))} (hf : Jc_X0_riverOn_53 g x0 x2 τ = some o_) (kc : ∀ s_ : Int32 × Int32 × CC, o_ = .inl s_ → xV (wC D P) K mX0_riverOn (xQ (wC D P) K Z) (g, s_.2.2) 4 [(0, .ref x0), (1, .int s_.1), (2, .int s_.2.1)] []) (ke0 : ∀ e_ : Int32 × CC, o_ = .inr e_ → xV (wC D P) K mX0_riverOn (xQ (wC D P) K Z) (g, e_.2) 61 [(0, .ref x0), (1, .int e_.1)] []) : xV (wC D P) K mX0_riverOn (xQ (wC D P) K Z) (g, τ) 53 [(0, .ref x0), (2, .int x2)] [] := by
  unfold Jc_X0_riverOn_53 at hf
  refine xr_iconst (pc := 53) dX0_riverOn_53 xci_0 ?_
  exact ok_Jc_X0_riverOn_54 hf kc ke0
def Bc_X0_riverOn_4 (g : CG) (x0 : Nat) (x1 : Int32) (x2 : Int32) (τ : CC) : Option ((Int32 × Int32 × CC) ⊕ ((Int32 × CC))) :=
  if gT g x0 = 1 then
  xbd (f_c_X0_columns g x0 τ) fun r2 τ2 =>
  if r2 ≤ x2 then
  some (.inr (x1, τ2))
  else
  (gR g 110 x0).bind fun b3 =>
  if gT g b3 = 6 then
  (gR g 603 b3).bind fun b5 =>
  xbd (f_c_X0_byteAt g x0 (5 + x2) τ2) fun r6 τ6 =>
  if gT g b5 = 100 then
  if xin x2 (gN g b5) = true then
  if x1 = 0 then
  Jc_X0_riverOn_53 g x0 x2 (uA τ6 b5 x2.toNatClampNeg r6)
  else
  xbd (f_c_X0_byteAt g x0 (5 + x2) (uA τ6 b5 x2.toNatClampNeg r6)) fun r8 τ8 =>
  (cR τ8 100 x0).bind fun b9 =>
  if gT g b9 = 2 then
  if (cI τ8 202 b9) ≤ r8 then
  Jc_X0_riverOn_53 g x0 x2 τ8
  else
  Jc_X0_riverOn_54 g x0 x2 1 τ8
  else none
  else none
  else none
  else none
  else none
theorem ok_Bc_X0_riverOn_4 {D : CD} {P : CP} {K : xK} {g : CG} {Z : Option Value × CS} {x0 : Nat} {x1 : Int32} {x2 : Int32} {τ : CC} {o_ : ((Int32 × Int32 × CC) ⊕ ((Int32 × CC)))} (hf : Bc_X0_riverOn_4 g x0 x1 x2 τ = some o_) (kc : ∀ s_ : Int32 × Int32 × CC, o_ = .inl s_ → xV (wC D P) K mX0_riverOn (xQ (wC D P) K Z) (g, s_.2.2) 4 [(0, .ref x0), (1, .int s_.1), (2, .int s_.2.1)] []) (ke0 : ∀ e_ : Int32 × CC, o_ = .inr e_ → xV (wC D P) K mX0_riverOn (xQ (wC D P) K Z) (g, e_.2) 61 [(0, .ref x0), (1, .int e_.1)] []) : xV (wC D P) K mX0_riverOn (xQ (wC D P) K Z) (g, τ) 4 [(0, .ref x0), (1, .int x1), (2, .int x2)] [] := by
  unfold Bc_X0_riverOn_4 at hf
  refine xr_iload_n (pc := 4) 2 dX0_riverOn_4 rfl rfl ?_
  refine xr_aload_n (pc := 5) 0 dX0_riverOn_5 rfl rfl ?_
  obtain ⟨ht1, hf⟩ := xo_if hf
  obtain ⟨r2, τ2, hτ2, hf⟩ := xo_bd hf
  refine call_f_c_X0_columns_X0_169 (pc := 6) hτ2 (gKo ht1 (by decide)) rfl (Nat.le_of_ble_eq_true rfl) (Nat.le_of_ble_eq_true rfl) (Nat.le_of_ble_eq_true rfl) dX0_riverOn_6 ?_
  refine xr_icmp_ge (pc := 9) 61 dX0_riverOn_9 (by decide) (fun c_ => ?_) (fun c_ => ?_)
  · have hf := xo_pos c_ hf
    refine xV_sub [0, 1] rfl ?_
    exact ke0 _ (Option.some.inj hf).symm
  · have hf := xo_neg c_ hf
    refine xr_aload_n (pc := 12) 0 dX0_riverOn_12 rfl rfl ?_
    obtain ⟨b3, hb3, hf⟩ := xo_bind hf
    refine yc_getFs (pc := 13) 1 10 110 (gKo ht1 (by decide)) (by decide) (by decide) (by decide) rfl rfl hb3 q496 (ys_eq rfl) rfl dX0_riverOn_13 ?_
    obtain ⟨ht4, hf⟩ := xo_if hf
    obtain ⟨b5, hb5, hf⟩ := xo_bind hf
    refine yc_getFsN (pc := 16) 6 3 603 (gKo ht4 (by decide)) (by decide) (by decide) (by decide) rfl rfl hb5 q441 (ys_eq rfl) rfl dX0_riverOn_16 ?_
    refine xr_iload_n (pc := 19) 2 dX0_riverOn_19 rfl rfl ?_
    refine xr_aload_n (pc := 20) 0 dX0_riverOn_20 rfl rfl ?_
    refine xr_iconst (pc := 21) dX0_riverOn_21 xci_5 ?_
    refine xr_iload_n (pc := 22) 2 dX0_riverOn_22 rfl rfl ?_
    refine xr_iadd (pc := 23) dX0_riverOn_23 ?_
    obtain ⟨r6, τ6, hτ6, hf⟩ := xo_bd hf
    refine call_f_c_X0_byteAt_X0_360 (pc := 24) hτ6 (gKo ht1 (by decide)) rfl (Nat.le_of_ble_eq_true rfl) (Nat.le_of_ble_eq_true rfl) (Nat.le_of_ble_eq_true rfl) dX0_riverOn_24 ?_
    obtain ⟨ht7, hf⟩ := xo_if hf
    obtain ⟨hi_, hf⟩ := xo_if hf
    refine yc_iast (pc := 27) ht7 hi_ dX0_riverOn_27 ?_
    refine xr_iload_n (pc := 28) 1 dX0_riverOn_28 rfl rfl ?_
    refine xr_if_eq (pc := 29) 53 dX0_riverOn_29 (by decide) (fun c_ => ?_) (fun c_ => ?_)
    · have hf := xo_pos c_ hf
      refine xV_sub [0, 2] rfl ?_
      exact ok_Jc_X0_riverOn_53 hf kc ke0
    · have hf := xo_neg c_ hf
      refine xr_aload_n (pc := 32) 0 dX0_riverOn_32 rfl rfl ?_
      refine xr_iconst (pc := 33) dX0_riverOn_33 xci_5 ?_
      refine xr_iload_n (pc := 34) 2 dX0_riverOn_34 rfl rfl ?_
      refine xr_iadd (pc := 35) dX0_riverOn_35 ?_
      obtain ⟨r8, τ8, hτ8, hf⟩ := xo_bd hf
      refine call_f_c_X0_byteAt_X0_360 (pc := 36) hτ8 (gKo ht1 (by decide)) rfl (Nat.le_of_ble_eq_true rfl) (Nat.le_of_ble_eq_true rfl) (Nat.le_of_ble_eq_true rfl) dX0_riverOn_36 ?_
      refine xr_aload_n (pc := 39) 0 dX0_riverOn_39 rfl rfl ?_
      obtain ⟨b9, hb9, hf⟩ := xo_bind hf
      refine yc_getRs (pc := 40) 1 0 100 (gKo ht1 (by decide)) (by decide) (by decide) (by decide) rfl rfl hb9 q484 (ys_eq rfl) rfl dX0_riverOn_40 ?_
      obtain ⟨ht10, hf⟩ := xo_if hf
      refine yc_getIN (pc := 43) 2 2 202 (gKo ht10 (by decide)) (by decide) (by decide) (by decide) rfl rfl q263 (ys_eq rfl) rfl dX0_riverOn_43 ?_
      refine xr_icmp_ge (pc := 46) 53 dX0_riverOn_46 (by decide) (fun c_ => ?_) (fun c_ => ?_)
      · have hf := xo_pos c_ hf
        refine xV_sub [0, 2] rfl ?_
        exact ok_Jc_X0_riverOn_53 hf kc ke0
      · have hf := xo_neg c_ hf
        refine xr_iconst (pc := 49) dX0_riverOn_49 xci_1 ?_
        refine xr_goto (pc := 50) 54 dX0_riverOn_50 (by decide) ?_
        refine xV_sub [0, 2] rfl ?_
        exact ok_Jc_X0_riverOn_54 hf kc ke0
def Jc_X0_riverOn_179 (g : CG) (x0 : Nat) (x2 : Int32) (s0 : Int32) (τ : CC) : Option ((Int32 × Int32 × CC) ⊕ ((Int32 × CC))) :=
  some (.inl (s0, x2 + 1, τ))
theorem ok_Jc_X0_riverOn_179 {D : CD} {P : CP} {K : xK} {g : CG} {Z : Option Value × CS} {x0 : Nat} {x2 : Int32} {s0 : Int32} {τ : CC} {o_ : ((Int32 × Int32 × CC) ⊕ ((Int32 × CC)))} (hf : Jc_X0_riverOn_179 g x0 x2 s0 τ = some o_) (kc : ∀ s_ : Int32 × Int32 × CC, o_ = .inl s_ → xV (wC D P) K mX0_riverOn (xQ (wC D P) K Z) (g, s_.2.2) 63 [(0, .ref x0), (1, .int s_.1), (2, .int s_.2.1)] []) (ke0 : ∀ e_ : Int32 × CC, o_ = .inr e_ → xV (wC D P) K mX0_riverOn (xQ (wC D P) K Z) (g, e_.2) 186 [(1, .int e_.1)] []) : xV (wC D P) K mX0_riverOn (xQ (wC D P) K Z) (g, τ) 179 [(0, .ref x0), (2, .int x2)] [.int s0] := by
  unfold Jc_X0_riverOn_179 at hf
  refine xr_istore_n (pc := 179) (loc' := [(1, .int s0), (0, .ref x0), (2, .int x2)]) dX0_riverOn_179 rfl (by decide) rfl ?_
  refine xr_iinc (pc := 180) (loc' := [(2, .int (x2 + 1)), (1, .int s0), (0, .ref x0)]) 2 dX0_riverOn_180 rfl xci_1 (by decide) rfl ?_
  refine xr_goto (pc := 183) 63 dX0_riverOn_183 (by decide) ?_
  refine xV_sub [2, 1, 0] rfl ?_
  exact kc _ (Option.some.inj hf).symm
def Jc_X0_riverOn_178 (g : CG) (x0 : Nat) (x2 : Int32) (τ : CC) : Option ((Int32 × Int32 × CC) ⊕ ((Int32 × CC))) :=
  Jc_X0_riverOn_179 g x0 x2 0 τ
theorem ok_Jc_X0_riverOn_178 {D : CD} {P : CP} {K : xK} {g : CG} {Z : Option Value × CS} {x0 : Nat} {x2 : Int32} {τ : CC} {o_ : ((Int32 × Int32 × CC) ⊕ ((Int32 × CC)))} (hf : Jc_X0_riverOn_178 g x0 x2 τ = some o_) (kc : ∀ s_ : Int32 × Int32 × CC, o_ = .inl s_ → xV (wC D P) K mX0_riverOn (xQ (wC D P) K Z) (g, s_.2.2) 63 [(0, .ref x0), (1, .int s_.1), (2, .int s_.2.1)] []) (ke0 : ∀ e_ : Int32 × CC, o_ = .inr e_ → xV (wC D P) K mX0_riverOn (xQ (wC D P) K Z) (g, e_.2) 186 [(1, .int e_.1)] []) : xV (wC D P) K mX0_riverOn (xQ (wC D P) K Z) (g, τ) 178 [(0, .ref x0), (2, .int x2)] [] := by
  unfold Jc_X0_riverOn_178 at hf
  refine xr_iconst (pc := 178) dX0_riverOn_178 xci_0 ?_
  exact ok_Jc_X0_riverOn_179 hf kc ke0
def Bc_X0_riverOn_63 (g : CG) (x0 : Nat) (x1 : Int32) (x2 : Int32) (τ : CC) : Option ((Int32 × Int32 × CC) ⊕ ((Int32 × CC))) :=
  if gT g x0 = 1 then
  xbd (f_c_X0_places g x0 τ) fun r13 τ13 =>
  if r13 ≤ x2 then
  some (.inr (x1, τ13))
  else
  xbd (f_c_X0_columns g x0 τ13) fun r14 τ14 =>
  (gR g 110 x0).bind fun b15 =>
  if gT g b15 = 6 then
  (gR g 606 b15).bind fun b17 =>
  (cR τ14 100 x0).bind fun b18 =>
  if gT g b18 = 2 then
  if ¬ (cI τ14 202 b18) = 0 then
  if gT g b17 = 105 then
  if xin (x2 / (cI τ14 202 b18)) (gN g b17) = true then
  (cR τ14 100 x0).bind fun b21 =>
  if gT g b21 = 2 then
  if ¬ (cI τ14 202 b21) = 0 then
  xbd (f_c_X0_byteAt g x0 ((5 + r14) + (2 * x2)) τ14) fun r23 τ23 =>
  if gT g (gA g b17 (x2 / (cI τ14 202 b18)).toNatClampNeg) = 100 then
  if xin (x2 - x2 / (cI τ14 202 b21) * (cI τ14 202 b21)) (gN g (gA g b17 (x2 / (cI τ14 202 b18)).toNatClampNeg)) = true then
  (gR g 607 b15).bind fun b25 =>
  (cR (uA τ23 (gA g b17 (x2 / (cI τ14 202 b18)).toNatClampNeg) (x2 - x2 / (cI τ14 202 b21) * (cI τ14 202 b21)).toNatClampNeg r23) 100 x0).bind fun b26 =>
  if gT g b26 = 2 then
  if ¬ (cI (uA τ23 (gA g b17 (x2 / (cI τ14 202 b18)).toNatClampNeg) (x2 - x2 / (cI τ14 202 b21) * (cI τ14 202 b21)).toNatClampNeg r23) 202 b26) = 0 then
  if gT g b25 = 105 then
  if xin (x2 / (cI (uA τ23 (gA g b17 (x2 / (cI τ14 202 b18)).toNatClampNeg) (x2 - x2 / (cI τ14 202 b21) * (cI τ14 202 b21)).toNatClampNeg r23) 202 b26)) (gN g b25) = true then
  (cR (uA τ23 (gA g b17 (x2 / (cI τ14 202 b18)).toNatClampNeg) (x2 - x2 / (cI τ14 202 b21) * (cI τ14 202 b21)).toNatClampNeg r23) 100 x0).bind fun b29 =>
  if gT g b29 = 2 then
  if ¬ (cI (uA τ23 (gA g b17 (x2 / (cI τ14 202 b18)).toNatClampNeg) (x2 - x2 / (cI τ14 202 b21) * (cI τ14 202 b21)).toNatClampNeg r23) 202 b29) = 0 then
  xbd (f_c_X0_byteAt g x0 (((5 + r14) + (2 * x2)) + 1) (uA τ23 (gA g b17 (x2 / (cI τ14 202 b18)).toNatClampNeg) (x2 - x2 / (cI τ14 202 b21) * (cI τ14 202 b21)).toNatClampNeg r23)) fun r31 τ31 =>
  if gT g (gA g b25 (x2 / (cI (uA τ23 (gA g b17 (x2 / (cI τ14 202 b18)).toNatClampNeg) (x2 - x2 / (cI τ14 202 b21) * (cI τ14 202 b21)).toNatClampNeg r23) 202 b26)).toNatClampNeg) = 100 then
  if xin (x2 - x2 / (cI (uA τ23 (gA g b17 (x2 / (cI τ14 202 b18)).toNatClampNeg) (x2 - x2 / (cI τ14 202 b21) * (cI τ14 202 b21)).toNatClampNeg r23) 202 b29) * (cI (uA τ23 (gA g b17 (x2 / (cI τ14 202 b18)).toNatClampNeg) (x2 - x2 / (cI τ14 202 b21) * (cI τ14 202 b21)).toNatClampNeg r23) 202 b29)) (gN g (gA g b25 (x2 / (cI (uA τ23 (gA g b17 (x2 / (cI τ14 202 b18)).toNatClampNeg) (x2 - x2 / (cI τ14 202 b21) * (cI τ14 202 b21)).toNatClampNeg r23) 202 b26)).toNatClampNeg)) = true then
  if x1 = 0 then
  Jc_X0_riverOn_178 g x0 x2 (uA τ31 (gA g b25 (x2 / (cI (uA τ23 (gA g b17 (x2 / (cI τ14 202 b18)).toNatClampNeg) (x2 - x2 / (cI τ14 202 b21) * (cI τ14 202 b21)).toNatClampNeg r23) 202 b26)).toNatClampNeg) (x2 - x2 / (cI (uA τ23 (gA g b17 (x2 / (cI τ14 202 b18)).toNatClampNeg) (x2 - x2 / (cI τ14 202 b21) * (cI τ14 202 b21)).toNatClampNeg r23) 202 b29) * (cI (uA τ23 (gA g b17 (x2 / (cI τ14 202 b18)).toNatClampNeg) (x2 - x2 / (cI τ14 202 b21) * (cI τ14 202 b21)).toNatClampNeg r23) 202 b29)).toNatClampNeg r31)
  else
  xbd (f_c_X0_byteAt g x0 ((5 + r14) + (2 * x2)) (uA τ31 (gA g b25 (x2 / (cI (uA τ23 (gA g b17 (x2 / (cI τ14 202 b18)).toNatClampNeg) (x2 - x2 / (cI τ14 202 b21) * (cI τ14 202 b21)).toNatClampNeg r23) 202 b26)).toNatClampNeg) (x2 - x2 / (cI (uA τ23 (gA g b17 (x2 / (cI τ14 202 b18)).toNatClampNeg) (x2 - x2 / (cI τ14 202 b21) * (cI τ14 202 b21)).toNatClampNeg r23) 202 b29) * (cI (uA τ23 (gA g b17 (x2 / (cI τ14 202 b18)).toNatClampNeg) (x2 - x2 / (cI τ14 202 b21) * (cI τ14 202 b21)).toNatClampNeg r23) 202 b29)).toNatClampNeg r31)) fun r33 τ33 =>
  if (9 : Int32) < r33 then
  Jc_X0_riverOn_178 g x0 x2 τ33
  else
  xbd (f_c_X0_byteAt g x0 (((5 + r14) + (2 * x2)) + 1) τ33) fun r34 τ34 =>
  if (99 : Int32) < r34 then
  Jc_X0_riverOn_178 g x0 x2 τ34
  else
  Jc_X0_riverOn_179 g x0 x2 1 τ34
  else none
  else none
  else none
  else none
  else none
  else none
  else none
  else none
  else none
  else none
  else none
  else none
  else none
  else none
  else none
  else none
  else none
  else none
theorem ok_Bc_X0_riverOn_63 {D : CD} {P : CP} {K : xK} {g : CG} {Z : Option Value × CS} {x0 : Nat} {x1 : Int32} {x2 : Int32} {τ : CC} {o_ : ((Int32 × Int32 × CC) ⊕ ((Int32 × CC)))} (hf : Bc_X0_riverOn_63 g x0 x1 x2 τ = some o_) (kc : ∀ s_ : Int32 × Int32 × CC, o_ = .inl s_ → xV (wC D P) K mX0_riverOn (xQ (wC D P) K Z) (g, s_.2.2) 63 [(0, .ref x0), (1, .int s_.1), (2, .int s_.2.1)] []) (ke0 : ∀ e_ : Int32 × CC, o_ = .inr e_ → xV (wC D P) K mX0_riverOn (xQ (wC D P) K Z) (g, e_.2) 186 [(1, .int e_.1)] []) : xV (wC D P) K mX0_riverOn (xQ (wC D P) K Z) (g, τ) 63 [(0, .ref x0), (1, .int x1), (2, .int x2)] [] := by
  unfold Bc_X0_riverOn_63 at hf
  refine xr_iload_n (pc := 63) 2 dX0_riverOn_63 rfl rfl ?_
  refine xr_aload_n (pc := 64) 0 dX0_riverOn_64 rfl rfl ?_
  obtain ⟨ht12, hf⟩ := xo_if hf
  obtain ⟨r13, τ13, hτ13, hf⟩ := xo_bd hf
  refine call_f_c_X0_places_X0_303 (pc := 65) hτ13 (gKo ht12 (by decide)) rfl (Nat.le_of_ble_eq_true rfl) (Nat.le_of_ble_eq_true rfl) (Nat.le_of_ble_eq_true rfl) dX0_riverOn_65 ?_
  refine xr_icmp_ge (pc := 68) 186 dX0_riverOn_68 (by decide) (fun c_ => ?_) (fun c_ => ?_)
  · have hf := xo_pos c_ hf
    refine xV_sub [1] rfl ?_
    exact ke0 _ (Option.some.inj hf).symm
  · have hf := xo_neg c_ hf
    refine xr_iconst (pc := 71) dX0_riverOn_71 xci_5 ?_
    refine xr_aload_n (pc := 72) 0 dX0_riverOn_72 rfl rfl ?_
    obtain ⟨r14, τ14, hτ14, hf⟩ := xo_bd hf
    refine call_f_c_X0_columns_X0_169 (pc := 73) hτ14 (gKo ht12 (by decide)) rfl (Nat.le_of_ble_eq_true rfl) (Nat.le_of_ble_eq_true rfl) (Nat.le_of_ble_eq_true rfl) dX0_riverOn_73 ?_
    refine xr_iadd (pc := 76) dX0_riverOn_76 ?_
    refine xr_iconst (pc := 77) dX0_riverOn_77 xci_2 ?_
    refine xr_iload_n (pc := 78) 2 dX0_riverOn_78 rfl rfl ?_
    refine xr_imul (pc := 79) dX0_riverOn_79 ?_
    refine xr_iadd (pc := 80) dX0_riverOn_80 ?_
    refine xr_istore_n (pc := 81) (loc' := [(3, .int ((5 + r14) + (2 * x2))), (0, .ref x0), (1, .int x1), (2, .int x2)]) dX0_riverOn_81 rfl (by decide) rfl ?_
    refine xr_aload_n (pc := 82) 1 dX0_riverOn_82 rfl rfl ?_
    obtain ⟨b15, hb15, hf⟩ := xo_bind hf
    refine yc_getFs (pc := 83) 1 10 110 (gKo ht12 (by decide)) (by decide) (by decide) (by decide) rfl rfl hb15 q496 (ys_eq rfl) rfl dX0_riverOn_83 ?_
    obtain ⟨ht16, hf⟩ := xo_if hf
    obtain ⟨b17, hb17, hf⟩ := xo_bind hf
    refine yc_getFsN (pc := 86) 6 6 606 (gKo ht16 (by decide)) (by decide) (by decide) (by decide) rfl rfl hb17 q447 (ys_eq rfl) rfl dX0_riverOn_86 ?_
    refine xr_iload_n (pc := 89) 3 dX0_riverOn_89 rfl rfl ?_
    refine xr_aload_n (pc := 90) 1 dX0_riverOn_90 rfl rfl ?_
    obtain ⟨b18, hb18, hf⟩ := xo_bind hf
    refine yc_getRs (pc := 91) 1 0 100 (gKo ht12 (by decide)) (by decide) (by decide) (by decide) rfl rfl hb18 q484 (ys_eq rfl) rfl dX0_riverOn_91 ?_
    obtain ⟨ht19, hf⟩ := xo_if hf
    refine yc_getIN (pc := 94) 2 2 202 (gKo ht19 (by decide)) (by decide) (by decide) (by decide) rfl rfl q263 (ys_eq rfl) rfl dX0_riverOn_94 ?_
    obtain ⟨hz_, hf⟩ := xo_if hf
    refine xr_idiv (pc := 97) dX0_riverOn_97 hz_ ?_
    obtain ⟨ht20, hf⟩ := xo_if hf
    obtain ⟨hi_, hf⟩ := xo_if hf
    refine yc_aaldF (pc := 98) 105 (gKo ht20 (by decide)) (by decide) (by decide) rfl rfl hi_ dX0_riverOn_98 ?_
    refine xr_iload_n (pc := 99) 3 dX0_riverOn_99 rfl rfl ?_
    refine xr_aload_n (pc := 100) 1 dX0_riverOn_100 rfl rfl ?_
    obtain ⟨b21, hb21, hf⟩ := xo_bind hf
    refine yc_getRs (pc := 101) 1 0 100 (gKo ht12 (by decide)) (by decide) (by decide) (by decide) rfl rfl hb21 q484 (ys_eq rfl) rfl dX0_riverOn_101 ?_
    obtain ⟨ht22, hf⟩ := xo_if hf
    refine yc_getIN (pc := 104) 2 2 202 (gKo ht22 (by decide)) (by decide) (by decide) (by decide) rfl rfl q263 (ys_eq rfl) rfl dX0_riverOn_104 ?_
    obtain ⟨hz_, hf⟩ := xo_if hf
    refine xr_irem (pc := 107) dX0_riverOn_107 hz_ ?_
    refine xr_aload_n (pc := 108) 1 dX0_riverOn_108 rfl rfl ?_
    refine xr_iload_n (pc := 109) 0 dX0_riverOn_109 rfl rfl ?_
    obtain ⟨r23, τ23, hτ23, hf⟩ := xo_bd hf
    refine call_f_c_X0_byteAt_X0_360 (pc := 110) hτ23 (gKo ht12 (by decide)) rfl (Nat.le_of_ble_eq_true rfl) (Nat.le_of_ble_eq_true rfl) (Nat.le_of_ble_eq_true rfl) dX0_riverOn_110 ?_
    obtain ⟨ht24, hf⟩ := xo_if hf
    obtain ⟨hi_, hf⟩ := xo_if hf
    refine yc_iast (pc := 113) ht24 hi_ dX0_riverOn_113 ?_
    refine xr_aload_n (pc := 114) 1 dX0_riverOn_114 rfl rfl ?_
    refine yc_getFs (pc := 115) 1 10 110 (gKo ht12 (by decide)) (by decide) (by decide) (by decide) rfl rfl hb15 q496 (ys_eq rfl) rfl dX0_riverOn_115 ?_
    obtain ⟨b25, hb25, hf⟩ := xo_bind hf
    refine yc_getFsN (pc := 118) 6 7 607 (gKo ht16 (by decide)) (by decide) (by decide) (by decide) rfl rfl hb25 q449 (ys_eq rfl) rfl dX0_riverOn_118 ?_
    refine xr_iload_n (pc := 121) 3 dX0_riverOn_121 rfl rfl ?_
    refine xr_aload_n (pc := 122) 1 dX0_riverOn_122 rfl rfl ?_
    obtain ⟨b26, hb26, hf⟩ := xo_bind hf
    refine yc_getRs (pc := 123) 1 0 100 (gKo ht12 (by decide)) (by decide) (by decide) (by decide) rfl rfl hb26 q484 (ys_eq rfl) rfl dX0_riverOn_123 ?_
    obtain ⟨ht27, hf⟩ := xo_if hf
    refine yc_getIN (pc := 126) 2 2 202 (gKo ht27 (by decide)) (by decide) (by decide) (by decide) rfl rfl q263 (ys_eq rfl) rfl dX0_riverOn_126 ?_
    obtain ⟨hz_, hf⟩ := xo_if hf
    refine xr_idiv (pc := 129) dX0_riverOn_129 hz_ ?_
    obtain ⟨ht28, hf⟩ := xo_if hf
    obtain ⟨hi_, hf⟩ := xo_if hf
    refine yc_aaldF (pc := 130) 105 (gKo ht28 (by decide)) (by decide) (by decide) rfl rfl hi_ dX0_riverOn_130 ?_
    refine xr_iload_n (pc := 131) 3 dX0_riverOn_131 rfl rfl ?_
    refine xr_aload_n (pc := 132) 1 dX0_riverOn_132 rfl rfl ?_
    obtain ⟨b29, hb29, hf⟩ := xo_bind hf
    refine yc_getRs (pc := 133) 1 0 100 (gKo ht12 (by decide)) (by decide) (by decide) (by decide) rfl rfl hb29 q484 (ys_eq rfl) rfl dX0_riverOn_133 ?_
    obtain ⟨ht30, hf⟩ := xo_if hf
    refine yc_getIN (pc := 136) 2 2 202 (gKo ht30 (by decide)) (by decide) (by decide) (by decide) rfl rfl q263 (ys_eq rfl) rfl dX0_riverOn_136 ?_
    obtain ⟨hz_, hf⟩ := xo_if hf
    refine xr_irem (pc := 139) dX0_riverOn_139 hz_ ?_
    refine xr_aload_n (pc := 140) 1 dX0_riverOn_140 rfl rfl ?_
    refine xr_iload_n (pc := 141) 0 dX0_riverOn_141 rfl rfl ?_
    refine xr_iconst (pc := 142) dX0_riverOn_142 xci_1 ?_
    refine xr_iadd (pc := 143) dX0_riverOn_143 ?_
    obtain ⟨r31, τ31, hτ31, hf⟩ := xo_bd hf
    refine call_f_c_X0_byteAt_X0_360 (pc := 144) hτ31 (gKo ht12 (by decide)) rfl (Nat.le_of_ble_eq_true rfl) (Nat.le_of_ble_eq_true rfl) (Nat.le_of_ble_eq_true rfl) dX0_riverOn_144 ?_
    obtain ⟨ht32, hf⟩ := xo_if hf
    obtain ⟨hi_, hf⟩ := xo_if hf
    refine yc_iast (pc := 147) ht32 hi_ dX0_riverOn_147 ?_
    refine xr_iload_n (pc := 148) 2 dX0_riverOn_148 rfl rfl ?_
    refine xr_if_eq (pc := 149) 178 dX0_riverOn_149 (by decide) (fun c_ => ?_) (fun c_ => ?_)
    · have hf := xo_pos c_ hf
      refine xV_sub [1, 3] rfl ?_
      exact ok_Jc_X0_riverOn_178 hf kc ke0
    · have hf := xo_neg c_ hf
      refine xr_aload_n (pc := 152) 1 dX0_riverOn_152 rfl rfl ?_
      refine xr_iload_n (pc := 153) 0 dX0_riverOn_153 rfl rfl ?_
      obtain ⟨r33, τ33, hτ33, hf⟩ := xo_bd hf
      refine call_f_c_X0_byteAt_X0_360 (pc := 154) hτ33 (gKo ht12 (by decide)) rfl (Nat.le_of_ble_eq_true rfl) (Nat.le_of_ble_eq_true rfl) (Nat.le_of_ble_eq_true rfl) dX0_riverOn_154 ?_
      refine xr_bipush (pc := 157) dX0_riverOn_157 xcb_9 ?_
      refine xr_icmp_gt (pc := 159) 178 dX0_riverOn_159 (by decide) (fun c_ => ?_) (fun c_ => ?_)
      · have hf := xo_pos c_ hf
        refine xV_sub [1, 3] rfl ?_
        exact ok_Jc_X0_riverOn_178 hf kc ke0
      · have hf := xo_neg c_ hf
        refine xr_aload_n (pc := 162) 1 dX0_riverOn_162 rfl rfl ?_
        refine xr_iload_n (pc := 163) 0 dX0_riverOn_163 rfl rfl ?_
        refine xr_iconst (pc := 164) dX0_riverOn_164 xci_1 ?_
        refine xr_iadd (pc := 165) dX0_riverOn_165 ?_
        obtain ⟨r34, τ34, hτ34, hf⟩ := xo_bd hf
        refine call_f_c_X0_byteAt_X0_360 (pc := 166) hτ34 (gKo ht12 (by decide)) rfl (Nat.le_of_ble_eq_true rfl) (Nat.le_of_ble_eq_true rfl) (Nat.le_of_ble_eq_true rfl) dX0_riverOn_166 ?_
        refine xr_bipush (pc := 169) dX0_riverOn_169 xcb_99 ?_
        refine xr_icmp_gt (pc := 171) 178 dX0_riverOn_171 (by decide) (fun c_ => ?_) (fun c_ => ?_)
        · have hf := xo_pos c_ hf
          refine xV_sub [1, 3] rfl ?_
          exact ok_Jc_X0_riverOn_178 hf kc ke0
        · have hf := xo_neg c_ hf
          refine xr_iconst (pc := 174) dX0_riverOn_174 xci_1 ?_
          refine xr_goto (pc := 175) 179 dX0_riverOn_175 (by decide) ?_
          refine xV_sub [1, 3] rfl ?_
          exact ok_Jc_X0_riverOn_179 hf kc ke0
def f_c_X0_riverOn (g : CG) (x0 : Nat) (τ : CC) : Option (Int32 × CC) :=
  (itr (fun s_ : Int32 × Int32 × CC => Bc_X0_riverOn_4 g x0 s_.1 s_.2.1 s_.2.2) 4096 (1, 0, τ)).bind fun b11 =>
  (itr (fun s_ : Int32 × Int32 × CC => Bc_X0_riverOn_63 g x0 s_.1 s_.2.1 s_.2.2) 4096 (b11.1, 0, b11.2)).bind fun b35 =>
  some ((b35.1 &&& 1, b35.2))
theorem ok_f_c_X0_riverOn {D : CD} {P : CP} {K : xK} {g : CG} {Z : Option Value × CS} {x0 : Nat} {τ : CC} {o_ : (Int32 × CC)} (hf : f_c_X0_riverOn g x0 τ = some o_) (kr : ∀ r_ : (Int32 × CC), o_ = r_ → Z = (some (.int r_.1), (g, r_.2))) : xV (wC D P) K mX0_riverOn (xQ (wC D P) K Z) (g, τ) 0 [(0, .ref x0)] [] := by
  unfold f_c_X0_riverOn at hf
  refine xr_iconst (pc := 0) dX0_riverOn_0 xci_1 ?_
  refine xr_istore_n (pc := 1) (loc' := [(1, .int 1), (0, .ref x0)]) dX0_riverOn_1 rfl (by decide) rfl ?_
  refine xr_iconst (pc := 2) dX0_riverOn_2 xci_0 ?_
  refine xr_istore_n (pc := 3) (loc' := [(2, .int 0), (1, .int 1), (0, .ref x0)]) dX0_riverOn_3 rfl (by decide) rfl ?_
  refine xV_sub [2, 1, 0] rfl ?_
  obtain ⟨b11, hb11, hf⟩ := xo_bind hf
  refine itr_rule (P := fun s_ : Int32 × Int32 × CC => xV (wC D P) K mX0_riverOn (xQ (wC D P) K Z) (g, s_.2.2) 4 [(0, .ref x0), (1, .int s_.1), (2, .int s_.2.1)] []) (fun s_ o_ hB_ hc_ he_ => ok_Bc_X0_riverOn_4 hB_ hc_ (fun e_ h_ => ?_)) 4096 _ hb11
  · have e9_ := he_ _ h_
    rw [e9_]
    refine xr_iconst (pc := 61) dX0_riverOn_61 xci_0 ?_
    refine xr_istore_n (pc := 62) (loc' := [(2, .int 0), (0, .ref x0), (1, .int b11.1)]) dX0_riverOn_62 rfl (by decide) rfl ?_
    refine xV_sub [1, 2, 0] rfl ?_
    obtain ⟨b35, hb35, hf⟩ := xo_bind hf
    refine itr_rule (P := fun s_ : Int32 × Int32 × CC => xV (wC D P) K mX0_riverOn (xQ (wC D P) K Z) (g, s_.2.2) 63 [(0, .ref x0), (1, .int s_.1), (2, .int s_.2.1)] []) (fun s_ o_ hB_ hc_ he_ => ok_Bc_X0_riverOn_63 hB_ hc_ (fun e_ h_ => ?_)) 4096 _ hb35
    · have e9_ := he_ _ h_
      rw [e9_]
      refine xr_iload_n (pc := 186) 0 dX0_riverOn_186 rfl rfl ?_
      rw [kr _ (Option.some.inj hf).symm]
      exact xr_zret (pc := 187) dX0_riverOn_187 rfl rfl
theorem met_f_c_X0_riverOn (l : Launch) {D : CD} {P : CP} {g : CG} {x0 : Nat} {τ : CC} {o_ : (Int32 × CC)} (hf : f_c_X0_riverOn g x0 τ = some o_) : xMet (wC D P) l yX0_riverOn (ws_ yX0_riverOn cX0_riverOn 4 (some .boolean)) 2 120 (grc g) (grs g) [.ref x0] (g, τ) (some (.int o_.1), (g, o_.2)) := 
  xMet_of (by decide) (Nat.le_of_ble_eq_true rfl) KC_moved RPC_of (fun K _ _ _ => ok_f_c_X0_riverOn hf (fun _ h => by rw [h]))
theorem hd_f_c_X0_twoAt : yX0_twoAt.cls ≠ "java/lang/invoke/MethodHandle" ∧ yX0_twoAt.cls ≠ "java/lang/invoke/VarHandle" ∧ (parseMethodDescriptor yX0_twoAt.desc).map (fun d => d.parameters.length) = some 1 := by decide +kernel
theorem call_f_c_X0_twoAt_X0_413 {D : CD} {P : CP} {K : xK} {M : xM} {Q : State → Prop} {g : CG} {c : CC} {x0 : Nat} {x1 : Int32} {pc : Nat} {loc : List (Nat × Value)} {st : List Value} {r : Int32} {c1 : CC} (hf : f_c_X0_twoAt g x0 x1 c = some (r, c1)) (hr : gK g x0 = 1) (ho : M.2.2.1 = RX0) (hfr : 2 ≤ M.2.2.2.1) (hlo : 81 ≤ M.2.2.2.2.1) (hcat : (st.map fun v => v.category).sum ≤ 8) (d : decode M.1 pc = .ok (.invokevirtual 413, 3)) (k : xV (wC D P) K M Q (g, c1) (pc + 3) loc (.int r :: st)) : xV (wC D P) K M Q (g, c) pc loc (.int x1 :: .ref x0 :: st) :=
  yc_callV (As := [.int x1]) (rest := st) (met_f_c_X0_twoAt K.2.1 hf) (lw_V q1723 q1725 qs63 q174 q1726) ⟨rfl, hd_f_c_X0_twoAt⟩ ho hfr hlo rfl hr (by decide) (by decide) rfl rfl hcat d k
abbrev mX0_lordsOn : xM := (cX0_lordsOn, 4, RX0, 2, 120, (some .boolean), "lordsOn")
def Jc_X0_lordsOn_102 (g : CG) (x0 : Nat) (x2 : Int32) (s0 : Int32) (τ : CC) : Option ((Int32 × Int32 × CC) ⊕ ((Int32 × CC))) :=
  some (.inl (s0, x2 + 1, τ))
theorem ok_Jc_X0_lordsOn_102 {D : CD} {P : CP} {K : xK} {g : CG} {Z : Option Value × CS} {x0 : Nat} {x2 : Int32} {s0 : Int32} {τ : CC} {o_ : ((Int32 × Int32 × CC) ⊕ ((Int32 × CC)))} (hf : Jc_X0_lordsOn_102 g x0 x2 s0 τ = some o_) (kc : ∀ s_ : Int32 × Int32 × CC, o_ = .inl s_ → xV (wC D P) K mX0_lordsOn (xQ (wC D P) K Z) (g, s_.2.2) 4 [(0, .ref x0), (1, .int s_.1), (2, .int s_.2.1)] []) (ke0 : ∀ e_ : Int32 × CC, o_ = .inr e_ → xV (wC D P) K mX0_lordsOn (xQ (wC D P) K Z) (g, e_.2) 109 [(1, .int e_.1)] []) : xV (wC D P) K mX0_lordsOn (xQ (wC D P) K Z) (g, τ) 102 [(0, .ref x0), (2, .int x2)] [.int s0] := by
  unfold Jc_X0_lordsOn_102 at hf
  refine xr_istore_n (pc := 102) (loc' := [(1, .int s0), (0, .ref x0), (2, .int x2)]) dX0_lordsOn_102 rfl (by decide) rfl ?_
  refine xr_iinc (pc := 103) (loc' := [(2, .int (x2 + 1)), (1, .int s0), (0, .ref x0)]) 2 dX0_lordsOn_103 rfl xci_1 (by decide) rfl ?_
  refine xr_goto (pc := 106) 4 dX0_lordsOn_106 (by decide) ?_
  refine xV_sub [2, 1, 0] rfl ?_
  exact kc _ (Option.some.inj hf).symm
def Jc_X0_lordsOn_101 (g : CG) (x0 : Nat) (x2 : Int32) (τ : CC) : Option ((Int32 × Int32 × CC) ⊕ ((Int32 × CC))) :=
  Jc_X0_lordsOn_102 g x0 x2 0 τ
theorem ok_Jc_X0_lordsOn_101 {D : CD} {P : CP} {K : xK} {g : CG} {Z : Option Value × CS} {x0 : Nat} {x2 : Int32} {τ : CC} {o_ : ((Int32 × Int32 × CC) ⊕ ((Int32 × CC)))} (hf : Jc_X0_lordsOn_101 g x0 x2 τ = some o_) (kc : ∀ s_ : Int32 × Int32 × CC, o_ = .inl s_ → xV (wC D P) K mX0_lordsOn (xQ (wC D P) K Z) (g, s_.2.2) 4 [(0, .ref x0), (1, .int s_.1), (2, .int s_.2.1)] []) (ke0 : ∀ e_ : Int32 × CC, o_ = .inr e_ → xV (wC D P) K mX0_lordsOn (xQ (wC D P) K Z) (g, e_.2) 109 [(1, .int e_.1)] []) : xV (wC D P) K mX0_lordsOn (xQ (wC D P) K Z) (g, τ) 101 [(0, .ref x0), (2, .int x2)] [] := by
  unfold Jc_X0_lordsOn_101 at hf
  refine xr_iconst (pc := 101) dX0_lordsOn_101 xci_0 ?_
  exact ok_Jc_X0_lordsOn_102 hf kc ke0
def Jc_X0_lordsOn_52 (g : CG) (x0 : Nat) (x1 : Int32) (x2 : Int32) (x3 : Int32) (s0 : Int32) (s1 : Int32) (s2 : Nat) (τ : CC) : Option ((Int32 × Int32 × CC) ⊕ ((Int32 × CC))) :=
  if gT g s2 = 104 then
  if xin s1 (gN g s2) = true then
  if gT g x0 = 1 then
  (gR g 110 x0).bind fun b11 =>
  if gT g b11 = 6 then
  (gR g 604 b11).bind fun b13 =>
  xbd (f_c_X0_twoAt g x0 (x3 + 1) (uA τ s2 s1.toNatClampNeg (s0 &&& 1))) fun r14 τ14 =>
  if gT g b13 = 100 then
  if xin x2 (gN g b13) = true then
  if x1 = 0 then
  Jc_X0_lordsOn_101 g x0 x2 (uA τ14 b13 x2.toNatClampNeg r14)
  else
  xbd (f_c_X0_byteAt g x0 x3 (uA τ14 b13 x2.toNatClampNeg r14)) fun r16 τ16 =>
  if (1 : Int32) < r16 then
  Jc_X0_lordsOn_101 g x0 x2 τ16
  else
  if xin x2 (gN g b13) = true then
  if (999 : Int32) < (cA τ16 b13 x2.toNatClampNeg) then
  Jc_X0_lordsOn_101 g x0 x2 τ16
  else
  Jc_X0_lordsOn_102 g x0 x2 1 τ16
  else none
  else none
  else none
  else none
  else none
  else none
  else none
theorem ok_Jc_X0_lordsOn_52 {D : CD} {P : CP} {K : xK} {g : CG} {Z : Option Value × CS} {x0 : Nat} {x1 : Int32} {x2 : Int32} {x3 : Int32} {s0 : Int32} {s1 : Int32} {s2 : Nat} {τ : CC} {o_ : ((Int32 × Int32 × CC) ⊕ ((Int32 × CC)))} (hf : Jc_X0_lordsOn_52 g x0 x1 x2 x3 s0 s1 s2 τ = some o_) (kc : ∀ s_ : Int32 × Int32 × CC, o_ = .inl s_ → xV (wC D P) K mX0_lordsOn (xQ (wC D P) K Z) (g, s_.2.2) 4 [(0, .ref x0), (1, .int s_.1), (2, .int s_.2.1)] []) (ke0 : ∀ e_ : Int32 × CC, o_ = .inr e_ → xV (wC D P) K mX0_lordsOn (xQ (wC D P) K Z) (g, e_.2) 109 [(1, .int e_.1)] []) : xV (wC D P) K mX0_lordsOn (xQ (wC D P) K Z) (g, τ) 52 [(0, .ref x0), (1, .int x1), (2, .int x2), (3, .int x3)] [.int s0, .int s1, .ref s2] := by
  unfold Jc_X0_lordsOn_52 at hf
  obtain ⟨ht9, hf⟩ := xo_if hf
  obtain ⟨hi_, hf⟩ := xo_if hf
  refine yc_zast (pc := 52) ht9 hi_ dX0_lordsOn_52 ?_
  refine xr_aload_n (pc := 53) 0 dX0_lordsOn_53 rfl rfl ?_
  obtain ⟨ht10, hf⟩ := xo_if hf
  obtain ⟨b11, hb11, hf⟩ := xo_bind hf
  refine yc_getFs (pc := 54) 1 10 110 (gKo ht10 (by decide)) (by decide) (by decide) (by decide) rfl rfl hb11 q496 (ys_eq rfl) rfl dX0_lordsOn_54 ?_
  obtain ⟨ht12, hf⟩ := xo_if hf
  obtain ⟨b13, hb13, hf⟩ := xo_bind hf
  refine yc_getFsN (pc := 57) 6 4 604 (gKo ht12 (by decide)) (by decide) (by decide) (by decide) rfl rfl hb13 q443 (ys_eq rfl) rfl dX0_lordsOn_57 ?_
  refine xr_iload_n (pc := 60) 2 dX0_lordsOn_60 rfl rfl ?_
  refine xr_aload_n (pc := 61) 0 dX0_lordsOn_61 rfl rfl ?_
  refine xr_iload_n (pc := 62) 3 dX0_lordsOn_62 rfl rfl ?_
  refine xr_iconst (pc := 63) dX0_lordsOn_63 xci_1 ?_
  refine xr_iadd (pc := 64) dX0_lordsOn_64 ?_
  obtain ⟨r14, τ14, hτ14, hf⟩ := xo_bd hf
  refine call_f_c_X0_twoAt_X0_413 (pc := 65) hτ14 (gKo ht10 (by decide)) rfl (Nat.le_of_ble_eq_true rfl) (Nat.le_of_ble_eq_true rfl) (Nat.le_of_ble_eq_true rfl) dX0_lordsOn_65 ?_
  obtain ⟨ht15, hf⟩ := xo_if hf
  obtain ⟨hi_, hf⟩ := xo_if hf
  refine yc_iast (pc := 68) ht15 hi_ dX0_lordsOn_68 ?_
  refine xr_iload_n (pc := 69) 1 dX0_lordsOn_69 rfl rfl ?_
  refine xr_if_eq (pc := 70) 101 dX0_lordsOn_70 (by decide) (fun c_ => ?_) (fun c_ => ?_)
  · have hf := xo_pos c_ hf
    refine xV_sub [0, 2] rfl ?_
    exact ok_Jc_X0_lordsOn_101 hf kc ke0
  · have hf := xo_neg c_ hf
    refine xr_aload_n (pc := 73) 0 dX0_lordsOn_73 rfl rfl ?_
    refine xr_iload_n (pc := 74) 3 dX0_lordsOn_74 rfl rfl ?_
    obtain ⟨r16, τ16, hτ16, hf⟩ := xo_bd hf
    refine call_f_c_X0_byteAt_X0_360 (pc := 75) hτ16 (gKo ht10 (by decide)) rfl (Nat.le_of_ble_eq_true rfl) (Nat.le_of_ble_eq_true rfl) (Nat.le_of_ble_eq_true rfl) dX0_lordsOn_75 ?_
    refine xr_iconst (pc := 78) dX0_lordsOn_78 xci_1 ?_
    refine xr_icmp_gt (pc := 79) 101 dX0_lordsOn_79 (by decide) (fun c_ => ?_) (fun c_ => ?_)
    · have hf := xo_pos c_ hf
      refine xV_sub [0, 2] rfl ?_
      exact ok_Jc_X0_lordsOn_101 hf kc ke0
    · have hf := xo_neg c_ hf
      refine xr_aload_n (pc := 82) 0 dX0_lordsOn_82 rfl rfl ?_
      refine yc_getFs (pc := 83) 1 10 110 (gKo ht10 (by decide)) (by decide) (by decide) (by decide) rfl rfl hb11 q496 (ys_eq rfl) rfl dX0_lordsOn_83 ?_
      refine yc_getFsN (pc := 86) 6 4 604 (gKo ht12 (by decide)) (by decide) (by decide) (by decide) rfl rfl hb13 q443 (ys_eq rfl) rfl dX0_lordsOn_86 ?_
      refine xr_iload_n (pc := 89) 2 dX0_lordsOn_89 rfl rfl ?_
      obtain ⟨hi_, hf⟩ := xo_if hf
      refine yc_iald (pc := 90) (gKo ht15 (by decide)) hi_ dX0_lordsOn_90 ?_
      refine xr_sipush (pc := 91) dX0_lordsOn_91 xcs_999 ?_
      refine xr_icmp_gt (pc := 94) 101 dX0_lordsOn_94 (by decide) (fun c_ => ?_) (fun c_ => ?_)
      · have hf := xo_pos c_ hf
        refine xV_sub [0, 2] rfl ?_
        exact ok_Jc_X0_lordsOn_101 hf kc ke0
      · have hf := xo_neg c_ hf
        refine xr_iconst (pc := 97) dX0_lordsOn_97 xci_1 ?_
        refine xr_goto (pc := 98) 102 dX0_lordsOn_98 (by decide) ?_
        refine xV_sub [0, 2] rfl ?_
        exact ok_Jc_X0_lordsOn_102 hf kc ke0
def Bc_X0_lordsOn_4 (g : CG) (x0 : Nat) (x1 : Int32) (x2 : Int32) (τ : CC) : Option ((Int32 × Int32 × CC) ⊕ ((Int32 × CC))) :=
  if gT g x0 = 1 then
  xbd (f_c_X0_lords g x0 τ) fun r2 τ2 =>
  if r2 ≤ x2 then
  some (.inr (x1, τ2))
  else
  xbd (f_c_X0_columns g x0 τ2) fun r3 τ3 =>
  xbd (f_c_X0_places g x0 τ3) fun r4 τ4 =>
  (gR g 110 x0).bind fun b5 =>
  if gT g b5 = 6 then
  (gR g 605 b5).bind fun b7 =>
  xbd (f_c_X0_byteAt g x0 (((5 + r3) + (2 * r4)) + (3 * x2)) τ4) fun r8 τ8 =>
  if r8 = 1 then
  Jc_X0_lordsOn_52 g x0 x1 x2 (((5 + r3) + (2 * r4)) + (3 * x2)) 1 x2 b7 τ8
  else
  Jc_X0_lordsOn_52 g x0 x1 x2 (((5 + r3) + (2 * r4)) + (3 * x2)) 0 x2 b7 τ8
  else none
  else none
theorem ok_Bc_X0_lordsOn_4 {D : CD} {P : CP} {K : xK} {g : CG} {Z : Option Value × CS} {x0 : Nat} {x1 : Int32} {x2 : Int32} {τ : CC} {o_ : ((Int32 × Int32 × CC) ⊕ ((Int32 × CC)))} (hf : Bc_X0_lordsOn_4 g x0 x1 x2 τ = some o_) (kc : ∀ s_ : Int32 × Int32 × CC, o_ = .inl s_ → xV (wC D P) K mX0_lordsOn (xQ (wC D P) K Z) (g, s_.2.2) 4 [(0, .ref x0), (1, .int s_.1), (2, .int s_.2.1)] []) (ke0 : ∀ e_ : Int32 × CC, o_ = .inr e_ → xV (wC D P) K mX0_lordsOn (xQ (wC D P) K Z) (g, e_.2) 109 [(1, .int e_.1)] []) : xV (wC D P) K mX0_lordsOn (xQ (wC D P) K Z) (g, τ) 4 [(0, .ref x0), (1, .int x1), (2, .int x2)] [] := by
  unfold Bc_X0_lordsOn_4 at hf
  refine xr_iload_n (pc := 4) 2 dX0_lordsOn_4 rfl rfl ?_
  refine xr_aload_n (pc := 5) 0 dX0_lordsOn_5 rfl rfl ?_
  obtain ⟨ht1, hf⟩ := xo_if hf
  obtain ⟨r2, τ2, hτ2, hf⟩ := xo_bd hf
  refine call_f_c_X0_lords_X0_180 (pc := 6) hτ2 (gKo ht1 (by decide)) rfl (Nat.le_of_ble_eq_true rfl) (Nat.le_of_ble_eq_true rfl) (Nat.le_of_ble_eq_true rfl) dX0_lordsOn_6 ?_
  refine xr_icmp_ge (pc := 9) 109 dX0_lordsOn_9 (by decide) (fun c_ => ?_) (fun c_ => ?_)
  · have hf := xo_pos c_ hf
    refine xV_sub [1] rfl ?_
    exact ke0 _ (Option.some.inj hf).symm
  · have hf := xo_neg c_ hf
    refine xr_iconst (pc := 12) dX0_lordsOn_12 xci_5 ?_
    refine xr_aload_n (pc := 13) 0 dX0_lordsOn_13 rfl rfl ?_
    obtain ⟨r3, τ3, hτ3, hf⟩ := xo_bd hf
    refine call_f_c_X0_columns_X0_169 (pc := 14) hτ3 (gKo ht1 (by decide)) rfl (Nat.le_of_ble_eq_true rfl) (Nat.le_of_ble_eq_true rfl) (Nat.le_of_ble_eq_true rfl) dX0_lordsOn_14 ?_
    refine xr_iadd (pc := 17) dX0_lordsOn_17 ?_
    refine xr_iconst (pc := 18) dX0_lordsOn_18 xci_2 ?_
    refine xr_aload_n (pc := 19) 0 dX0_lordsOn_19 rfl rfl ?_
    obtain ⟨r4, τ4, hτ4, hf⟩ := xo_bd hf
    refine call_f_c_X0_places_X0_303 (pc := 20) hτ4 (gKo ht1 (by decide)) rfl (Nat.le_of_ble_eq_true rfl) (Nat.le_of_ble_eq_true rfl) (Nat.le_of_ble_eq_true rfl) dX0_lordsOn_20 ?_
    refine xr_imul (pc := 23) dX0_lordsOn_23 ?_
    refine xr_iadd (pc := 24) dX0_lordsOn_24 ?_
    refine xr_iconst (pc := 25) dX0_lordsOn_25 xci_3 ?_
    refine xr_iload_n (pc := 26) 2 dX0_lordsOn_26 rfl rfl ?_
    refine xr_imul (pc := 27) dX0_lordsOn_27 ?_
    refine xr_iadd (pc := 28) dX0_lordsOn_28 ?_
    refine xr_istore_n (pc := 29) (loc' := [(3, .int (((5 + r3) + (2 * r4)) + (3 * x2))), (0, .ref x0), (1, .int x1), (2, .int x2)]) dX0_lordsOn_29 rfl (by decide) rfl ?_
    refine xr_aload_n (pc := 30) 1 dX0_lordsOn_30 rfl rfl ?_
    obtain ⟨b5, hb5, hf⟩ := xo_bind hf
    refine yc_getFs (pc := 31) 1 10 110 (gKo ht1 (by decide)) (by decide) (by decide) (by decide) rfl rfl hb5 q496 (ys_eq rfl) rfl dX0_lordsOn_31 ?_
    obtain ⟨ht6, hf⟩ := xo_if hf
    obtain ⟨b7, hb7, hf⟩ := xo_bind hf
    refine yc_getFsN (pc := 34) 6 5 605 (gKo ht6 (by decide)) (by decide) (by decide) (by decide) rfl rfl hb7 q445 (ys_eq rfl) rfl dX0_lordsOn_34 ?_
    refine xr_iload_n (pc := 37) 3 dX0_lordsOn_37 rfl rfl ?_
    refine xr_aload_n (pc := 38) 1 dX0_lordsOn_38 rfl rfl ?_
    refine xr_iload_n (pc := 39) 0 dX0_lordsOn_39 rfl rfl ?_
    obtain ⟨r8, τ8, hτ8, hf⟩ := xo_bd hf
    refine call_f_c_X0_byteAt_X0_360 (pc := 40) hτ8 (gKo ht1 (by decide)) rfl (Nat.le_of_ble_eq_true rfl) (Nat.le_of_ble_eq_true rfl) (Nat.le_of_ble_eq_true rfl) dX0_lordsOn_40 ?_
    refine xr_iconst (pc := 43) dX0_lordsOn_43 xci_1 ?_
    refine xr_icmp_ne (pc := 44) 51 dX0_lordsOn_44 (by decide) (fun c_ => ?_) (fun c_ => ?_)
    · have hf := xo_pos c_ hf
      refine xr_iconst (pc := 47) dX0_lordsOn_47 xci_1 ?_
      refine xr_goto (pc := 48) 52 dX0_lordsOn_48 (by decide) ?_
      refine xV_sub [1, 2, 3, 0] rfl ?_
      exact ok_Jc_X0_lordsOn_52 hf kc ke0
    · have hf := xo_neg c_ hf
      refine xr_iconst (pc := 51) dX0_lordsOn_51 xci_0 ?_
      refine xV_sub [1, 2, 3, 0] rfl ?_
      exact ok_Jc_X0_lordsOn_52 hf kc ke0
def f_c_X0_lordsOn (g : CG) (x0 : Nat) (τ : CC) : Option (Int32 × CC) :=
  (itr (fun s_ : Int32 × Int32 × CC => Bc_X0_lordsOn_4 g x0 s_.1 s_.2.1 s_.2.2) 4096 (1, 0, τ)).bind fun b17 =>
  some ((b17.1 &&& 1, b17.2))
theorem ok_f_c_X0_lordsOn {D : CD} {P : CP} {K : xK} {g : CG} {Z : Option Value × CS} {x0 : Nat} {τ : CC} {o_ : (Int32 × CC)} (hf : f_c_X0_lordsOn g x0 τ = some o_) (kr : ∀ r_ : (Int32 × CC), o_ = r_ → Z = (some (.int r_.1), (g, r_.2))) : xV (wC D P) K mX0_lordsOn (xQ (wC D P) K Z) (g, τ) 0 [(0, .ref x0)] [] := by
  unfold f_c_X0_lordsOn at hf
  refine xr_iconst (pc := 0) dX0_lordsOn_0 xci_1 ?_
  refine xr_istore_n (pc := 1) (loc' := [(1, .int 1), (0, .ref x0)]) dX0_lordsOn_1 rfl (by decide) rfl ?_
  refine xr_iconst (pc := 2) dX0_lordsOn_2 xci_0 ?_
  refine xr_istore_n (pc := 3) (loc' := [(2, .int 0), (1, .int 1), (0, .ref x0)]) dX0_lordsOn_3 rfl (by decide) rfl ?_
  refine xV_sub [2, 1, 0] rfl ?_
  obtain ⟨b17, hb17, hf⟩ := xo_bind hf
  refine itr_rule (P := fun s_ : Int32 × Int32 × CC => xV (wC D P) K mX0_lordsOn (xQ (wC D P) K Z) (g, s_.2.2) 4 [(0, .ref x0), (1, .int s_.1), (2, .int s_.2.1)] []) (fun s_ o_ hB_ hc_ he_ => ok_Bc_X0_lordsOn_4 hB_ hc_ (fun e_ h_ => ?_)) 4096 _ hb17
  · have e9_ := he_ _ h_
    rw [e9_]
    refine xr_iload_n (pc := 109) 0 dX0_lordsOn_109 rfl rfl ?_
    rw [kr _ (Option.some.inj hf).symm]
    exact xr_zret (pc := 110) dX0_lordsOn_110 rfl rfl
theorem met_f_c_X0_lordsOn (l : Launch) {D : CD} {P : CP} {g : CG} {x0 : Nat} {τ : CC} {o_ : (Int32 × CC)} (hf : f_c_X0_lordsOn g x0 τ = some o_) : xMet (wC D P) l yX0_lordsOn (ws_ yX0_lordsOn cX0_lordsOn 4 (some .boolean)) 2 120 (grc g) (grs g) [.ref x0] (g, τ) (some (.int o_.1), (g, o_.2)) := 
  xMet_of (by decide) (Nat.le_of_ble_eq_true rfl) KC_moved RPC_of (fun K _ _ _ => ok_f_c_X0_lordsOn hf (fun _ h => by rw [h]))
theorem hd_f_c_X0_riverOn : yX0_riverOn.cls ≠ "java/lang/invoke/MethodHandle" ∧ yX0_riverOn.cls ≠ "java/lang/invoke/VarHandle" ∧ (parseMethodDescriptor yX0_riverOn.desc).map (fun d => d.parameters.length) = some 0 := by decide +kernel
theorem call_f_c_X0_riverOn_X0_417 {D : CD} {P : CP} {K : xK} {M : xM} {Q : State → Prop} {g : CG} {c : CC} {x0 : Nat} {pc : Nat} {loc : List (Nat × Value)} {st : List Value} {r : Int32} {c1 : CC} (hf : f_c_X0_riverOn g x0 c = some (r, c1)) (hr : gK g x0 = 1) (ho : M.2.2.1 = RX0) (hfr : 3 ≤ M.2.2.2.1) (hlo : 143 ≤ M.2.2.2.2.1) (hcat : (st.map fun v => v.category).sum ≤ 8) (d : decode M.1 pc = .ok (.invokevirtual 417, 3)) (k : xV (wC D P) K M Q (g, c1) (pc + 3) loc (.int r :: st)) : xV (wC D P) K M Q (g, c) pc loc (.ref x0 :: st) :=
  yc_callV (As := []) (rest := st) (met_f_c_X0_riverOn K.2.1 hf) (lw_V q1728 q1730 qs64 q174 q1731) ⟨rfl, hd_f_c_X0_riverOn⟩ ho hfr hlo rfl hr (by decide) (by decide) rfl rfl hcat d k
theorem hd_f_c_X0_lordsOn : yX0_lordsOn.cls ≠ "java/lang/invoke/MethodHandle" ∧ yX0_lordsOn.cls ≠ "java/lang/invoke/VarHandle" ∧ (parseMethodDescriptor yX0_lordsOn.desc).map (fun d => d.parameters.length) = some 0 := by decide +kernel
theorem call_f_c_X0_lordsOn_X0_420 {D : CD} {P : CP} {K : xK} {M : xM} {Q : State → Prop} {g : CG} {c : CC} {x0 : Nat} {pc : Nat} {loc : List (Nat × Value)} {st : List Value} {r : Int32} {c1 : CC} (hf : f_c_X0_lordsOn g x0 c = some (r, c1)) (hr : gK g x0 = 1) (ho : M.2.2.1 = RX0) (hfr : 3 ≤ M.2.2.2.1) (hlo : 143 ≤ M.2.2.2.2.1) (hcat : (st.map fun v => v.category).sum ≤ 8) (d : decode M.1 pc = .ok (.invokevirtual 420, 3)) (k : xV (wC D P) K M Q (g, c1) (pc + 3) loc (.int r :: st)) : xV (wC D P) K M Q (g, c) pc loc (.ref x0 :: st) :=
  yc_callV (As := []) (rest := st) (met_f_c_X0_lordsOn K.2.1 hf) (lw_V q1732 q1734 qs65 q174 q1735) ⟨rfl, hd_f_c_X0_lordsOn⟩ ho hfr hlo rfl hr (by decide) (by decide) rfl rfl hcat d k
abbrev mX0_on : xM := (cX0_on, 4, RX0, 3, 180, (some .boolean), "on")
def Jc_X0_on_154 (g : CG) (x0 : Nat) (s0 : Int32) (τ : CC) : Option (Int32 × CC) :=
  if s0 = 0 then
  if gT g x0 = 1 then
  xbd (f_c_X0_refuses g x0 5 τ) fun r14 τ14 =>
  if r14 < 0 then
  some ((0, τ14))
  else
  some ((1, τ14))
  else none
  else
  if gT g x0 = 1 then
  (gR g 109 x0).bind fun b16 =>
  (gR g 110 x0).bind fun b17 =>
  if gT g b16 = 6 then
  xbd (f_c_X5_copy g b16 b17 τ) fun r19 τ19 =>
  some ((1, uI τ19 121 x0 0))
  else none
  else none
theorem ok_Jc_X0_on_154 {D : CD} {P : CP} {K : xK} {g : CG} {Z : Option Value × CS} {x0 : Nat} {s0 : Int32} {τ : CC} {o_ : (Int32 × CC)} (hf : Jc_X0_on_154 g x0 s0 τ = some o_) (kr : ∀ r_ : (Int32 × CC), o_ = r_ → Z = (some (.int r_.1), (g, r_.2))) : xV (wC D P) K mX0_on (xQ (wC D P) K Z) (g, τ) 154 [(0, .ref x0)] [.int s0] := by
  unfold Jc_X0_on_154 at hf
  refine xr_istore_n (pc := 154) (loc' := [(3, .int s0), (0, .ref x0)]) dX0_on_154 rfl (by decide) rfl ?_
  refine xr_iload_n (pc := 155) 0 dX0_on_155 rfl rfl ?_
  refine xr_if_ne (pc := 156) 173 dX0_on_156 (by decide) (fun c_ => ?_) (fun c_ => ?_)
  · have hf := xo_pos c_ hf
    refine xr_aload_n (pc := 159) 1 dX0_on_159 rfl rfl ?_
    refine xr_iconst (pc := 160) dX0_on_160 xci_5 ?_
    obtain ⟨ht13, hf⟩ := xo_if hf
    obtain ⟨r14, τ14, hτ14, hf⟩ := xo_bd hf
    refine call_f_c_X0_refuses_X0_118 (pc := 161) hτ14 (gKo ht13 (by decide)) rfl (Nat.le_of_ble_eq_true rfl) (Nat.le_of_ble_eq_true rfl) (Nat.le_of_ble_eq_true rfl) dX0_on_161 ?_
    refine xr_if_lt (pc := 164) 171 dX0_on_164 (by decide) (fun c_ => ?_) (fun c_ => ?_)
    · have hf := xo_pos c_ hf
      refine xr_iconst (pc := 171) dX0_on_171 xci_0 ?_
      rw [kr _ (Option.some.inj hf).symm]
      exact xr_zret (pc := 172) dX0_on_172 rfl xz_0
    · have hf := xo_neg c_ hf
      refine xr_iconst (pc := 167) dX0_on_167 xci_1 ?_
      refine xr_goto (pc := 168) 172 dX0_on_168 (by decide) ?_
      rw [kr _ (Option.some.inj hf).symm]
      exact xr_zret (pc := 172) dX0_on_172 rfl xz_1
  · have hf := xo_neg c_ hf
    refine xr_aload_n (pc := 173) 1 dX0_on_173 rfl rfl ?_
    obtain ⟨ht15, hf⟩ := xo_if hf
    obtain ⟨b16, hb16, hf⟩ := xo_bind hf
    refine yc_getFs (pc := 174) 1 9 109 (gKo ht15 (by decide)) (by decide) (by decide) (by decide) rfl rfl hb16 q495 (ys_eq rfl) rfl dX0_on_174 ?_
    refine xr_aload_n (pc := 177) 1 dX0_on_177 rfl rfl ?_
    obtain ⟨b17, hb17, hf⟩ := xo_bind hf
    refine yc_getFs (pc := 178) 1 10 110 (gKo ht15 (by decide)) (by decide) (by decide) (by decide) rfl rfl hb17 q496 (ys_eq rfl) rfl dX0_on_178 ?_
    obtain ⟨ht18, hf⟩ := xo_if hf
    obtain ⟨r19, τ19, hτ19, hf⟩ := xo_bd hf
    refine call_f_c_X5_copy_X0_292 (pc := 181) hτ19 (gKo ht18 (by decide)) rfl (Nat.le_of_ble_eq_true rfl) (Nat.le_of_ble_eq_true rfl) (Nat.le_of_ble_eq_true rfl) dX0_on_181 ?_
    refine xr_pop (pc := 184) dX0_on_184 rfl ?_
    refine xr_aload_n (pc := 185) 1 dX0_on_185 rfl rfl ?_
    refine xr_iconst (pc := 186) dX0_on_186 xci_0 ?_
    refine yc_putI (pc := 187) 1 21 121 ht15 (by decide) (by decide) (by decide) rfl rfl rfl (ty := .int) (by decide +kernel) rfl rfl q507 (ys_eq rfl) rfl dX0_on_187 ?_
    refine xr_iconst (pc := 190) dX0_on_190 xci_1 ?_
    rw [kr _ (Option.some.inj hf).symm]
    exact xr_zret (pc := 191) dX0_on_191 rfl xz_1
def Jc_X0_on_153 (g : CG) (x0 : Nat) (τ : CC) : Option (Int32 × CC) :=
  Jc_X0_on_154 g x0 0 τ
theorem ok_Jc_X0_on_153 {D : CD} {P : CP} {K : xK} {g : CG} {Z : Option Value × CS} {x0 : Nat} {τ : CC} {o_ : (Int32 × CC)} (hf : Jc_X0_on_153 g x0 τ = some o_) (kr : ∀ r_ : (Int32 × CC), o_ = r_ → Z = (some (.int r_.1), (g, r_.2))) : xV (wC D P) K mX0_on (xQ (wC D P) K Z) (g, τ) 153 [(0, .ref x0)] [] := by
  unfold Jc_X0_on_153 at hf
  refine xr_iconst (pc := 153) dX0_on_153 xci_0 ?_
  exact ok_Jc_X0_on_154 hf kr
def Jc_X0_on_95 (g : CG) (x0 : Nat) (x2 : Int32) (s0 : Int32) (τ : CC) : Option (Int32 × CC) :=
  if gT g x0 = 1 then
  (gR g 110 x0).bind fun b7 =>
  (gR g 109 x0).bind fun b8 =>
  if gT g b7 = 6 then
  xbd (f_c_X5_copy g b7 b8 τ) fun r10 τ10 =>
  xbd (f_c_X0_twoAt g x0 0 τ10) fun r11 τ11 =>
  if gT g r10 = 6 then
  if s0 = 0 then
  Jc_X0_on_153 g x0 (uI (uI (uI τ11 600 r10 r11) 601 b7 x2) 602 b7 0)
  else
  xbd (f_c_X0_riverOn g x0 (uI (uI (uI τ11 600 r10 r11) 601 b7 x2) 602 b7 0)) fun r20 τ20 =>
  if r20 = 0 then
  Jc_X0_on_153 g x0 τ20
  else
  xbd (f_c_X0_lordsOn g x0 τ20) fun r21 τ21 =>
  if r21 = 0 then
  Jc_X0_on_153 g x0 τ21
  else
  Jc_X0_on_154 g x0 1 τ21
  else none
  else none
  else none
theorem ok_Jc_X0_on_95 {D : CD} {P : CP} {K : xK} {g : CG} {Z : Option Value × CS} {x0 : Nat} {x2 : Int32} {s0 : Int32} {τ : CC} {o_ : (Int32 × CC)} (hf : Jc_X0_on_95 g x0 x2 s0 τ = some o_) (kr : ∀ r_ : (Int32 × CC), o_ = r_ → Z = (some (.int r_.1), (g, r_.2))) : xV (wC D P) K mX0_on (xQ (wC D P) K Z) (g, τ) 95 [(0, .ref x0), (2, .int x2)] [.int s0] := by
  unfold Jc_X0_on_95 at hf
  refine xr_istore_n (pc := 95) (loc' := [(3, .int s0), (0, .ref x0), (2, .int x2)]) dX0_on_95 rfl (by decide) rfl ?_
  refine xr_aload_n (pc := 96) 1 dX0_on_96 rfl rfl ?_
  obtain ⟨ht6, hf⟩ := xo_if hf
  obtain ⟨b7, hb7, hf⟩ := xo_bind hf
  refine yc_getFs (pc := 97) 1 10 110 (gKo ht6 (by decide)) (by decide) (by decide) (by decide) rfl rfl hb7 q496 (ys_eq rfl) rfl dX0_on_97 ?_
  refine xr_aload_n (pc := 100) 1 dX0_on_100 rfl rfl ?_
  obtain ⟨b8, hb8, hf⟩ := xo_bind hf
  refine yc_getFs (pc := 101) 1 9 109 (gKo ht6 (by decide)) (by decide) (by decide) (by decide) rfl rfl hb8 q495 (ys_eq rfl) rfl dX0_on_101 ?_
  obtain ⟨ht9, hf⟩ := xo_if hf
  obtain ⟨r10, τ10, hτ10, hf⟩ := xo_bd hf
  refine call_f_c_X5_copy_X0_292 (pc := 104) hτ10 (gKo ht9 (by decide)) rfl (Nat.le_of_ble_eq_true rfl) (Nat.le_of_ble_eq_true rfl) (Nat.le_of_ble_eq_true rfl) dX0_on_104 ?_
  refine xr_aload_n (pc := 107) 1 dX0_on_107 rfl rfl ?_
  refine xr_iconst (pc := 108) dX0_on_108 xci_0 ?_
  obtain ⟨r11, τ11, hτ11, hf⟩ := xo_bd hf
  refine call_f_c_X0_twoAt_X0_413 (pc := 109) hτ11 (gKo ht6 (by decide)) rfl (Nat.le_of_ble_eq_true rfl) (Nat.le_of_ble_eq_true rfl) (Nat.le_of_ble_eq_true rfl) dX0_on_109 ?_
  obtain ⟨ht12, hf⟩ := xo_if hf
  refine yc_putIN (pc := 112) 6 0 600 ht12 (by decide) (by decide) (by decide) rfl rfl rfl (ty := .int) (by decide +kernel) rfl rfl q435 (ys_eq rfl) rfl dX0_on_112 ?_
  refine xr_aload_n (pc := 115) 1 dX0_on_115 rfl rfl ?_
  refine yc_getFs (pc := 116) 1 10 110 (gKo ht6 (by decide)) (by decide) (by decide) (by decide) rfl rfl hb7 q496 (ys_eq rfl) rfl dX0_on_116 ?_
  refine xr_iload_n (pc := 119) 2 dX0_on_119 rfl rfl ?_
  refine yc_putIN (pc := 120) 6 1 601 ht9 (by decide) (by decide) (by decide) rfl rfl rfl (ty := .int) (by decide +kernel) rfl rfl q437 (ys_eq rfl) rfl dX0_on_120 ?_
  refine xr_aload_n (pc := 123) 1 dX0_on_123 rfl rfl ?_
  refine yc_getFs (pc := 124) 1 10 110 (gKo ht6 (by decide)) (by decide) (by decide) (by decide) rfl rfl hb7 q496 (ys_eq rfl) rfl dX0_on_124 ?_
  refine xr_iconst (pc := 127) dX0_on_127 xci_0 ?_
  refine yc_putIN (pc := 128) 6 2 602 ht9 (by decide) (by decide) (by decide) rfl rfl rfl (ty := .int) (by decide +kernel) rfl rfl q439 (ys_eq rfl) rfl dX0_on_128 ?_
  refine xr_iload_n (pc := 131) 0 dX0_on_131 rfl rfl ?_
  refine xr_if_eq (pc := 132) 153 dX0_on_132 (by decide) (fun c_ => ?_) (fun c_ => ?_)
  · have hf := xo_pos c_ hf
    refine xV_sub [1] rfl ?_
    exact ok_Jc_X0_on_153 hf kr
  · have hf := xo_neg c_ hf
    refine xr_aload_n (pc := 135) 1 dX0_on_135 rfl rfl ?_
    obtain ⟨r20, τ20, hτ20, hf⟩ := xo_bd hf
    refine call_f_c_X0_riverOn_X0_417 (pc := 136) hτ20 (gKo ht6 (by decide)) rfl (Nat.le_of_ble_eq_true rfl) (Nat.le_of_ble_eq_true rfl) (Nat.le_of_ble_eq_true rfl) dX0_on_136 ?_
    refine xr_if_eq (pc := 139) 153 dX0_on_139 (by decide) (fun c_ => ?_) (fun c_ => ?_)
    · have hf := xo_pos c_ hf
      refine xV_sub [1] rfl ?_
      exact ok_Jc_X0_on_153 hf kr
    · have hf := xo_neg c_ hf
      refine xr_aload_n (pc := 142) 1 dX0_on_142 rfl rfl ?_
      obtain ⟨r21, τ21, hτ21, hf⟩ := xo_bd hf
      refine call_f_c_X0_lordsOn_X0_420 (pc := 143) hτ21 (gKo ht6 (by decide)) rfl (Nat.le_of_ble_eq_true rfl) (Nat.le_of_ble_eq_true rfl) (Nat.le_of_ble_eq_true rfl) dX0_on_143 ?_
      refine xr_if_eq (pc := 146) 153 dX0_on_146 (by decide) (fun c_ => ?_) (fun c_ => ?_)
      · have hf := xo_pos c_ hf
        refine xV_sub [1] rfl ?_
        exact ok_Jc_X0_on_153 hf kr
      · have hf := xo_neg c_ hf
        refine xr_iconst (pc := 149) dX0_on_149 xci_1 ?_
        refine xr_goto (pc := 150) 154 dX0_on_150 (by decide) ?_
        refine xV_sub [1] rfl ?_
        exact ok_Jc_X0_on_154 hf kr
def Jc_X0_on_94 (g : CG) (x0 : Nat) (x2 : Int32) (τ : CC) : Option (Int32 × CC) :=
  Jc_X0_on_95 g x0 x2 0 τ
theorem ok_Jc_X0_on_94 {D : CD} {P : CP} {K : xK} {g : CG} {Z : Option Value × CS} {x0 : Nat} {x2 : Int32} {τ : CC} {o_ : (Int32 × CC)} (hf : Jc_X0_on_94 g x0 x2 τ = some o_) (kr : ∀ r_ : (Int32 × CC), o_ = r_ → Z = (some (.int r_.1), (g, r_.2))) : xV (wC D P) K mX0_on (xQ (wC D P) K Z) (g, τ) 94 [(0, .ref x0), (2, .int x2)] [] := by
  unfold Jc_X0_on_94 at hf
  refine xr_iconst (pc := 94) dX0_on_94 xci_0 ?_
  exact ok_Jc_X0_on_95 hf kr
def f_c_X0_on (g : CG) (x0 : Nat) (τ : CC) : Option (Int32 × CC) :=
  if gT g x0 = 1 then
  xbd (f_c_X0_taken g x0 τ) fun r2 τ2 =>
  xbd (f_c_X0_byteAt g x0 2 τ2) fun r3 τ3 =>
  xbd (f_c_X0_twoAt g x0 3 τ3) fun r4 τ4 =>
  xbd (f_c_X0_isValley g x0 τ4) fun r5 τ5 =>
  if r5 = 0 then
  Jc_X0_on_94 g x0 (((r3 : Int32) <<< (16 &&& 31)) ||| r4) τ5
  else
  xbd (f_c_X0_columns g x0 τ5) fun r22 τ22 =>
  xbd (f_c_X0_places g x0 τ22) fun r23 τ23 =>
  xbd (f_c_X0_lords g x0 τ23) fun r24 τ24 =>
  if r2 = (((6 + r22) + (2 * r23)) + (3 * r24)) then
  xbd (f_c_X0_byteAt g x0 (r2 - 1) τ24) fun r25 τ25 =>
  (gR g 101 x0).bind fun b26 =>
  xbd (f_c_X0_check g b26 (r2 - 1) τ25) fun r27 τ27 =>
  if r25 = r27 then
  xbd (f_c_X0_twoAt g x0 0 τ27) fun r28 τ28 =>
  if (999 : Int32) < r28 then
  Jc_X0_on_94 g x0 (((r3 : Int32) <<< (16 &&& 31)) ||| r4) τ28
  else
  if (999999 : Int32) < (((r3 : Int32) <<< (16 &&& 31)) ||| r4) then
  Jc_X0_on_94 g x0 (((r3 : Int32) <<< (16 &&& 31)) ||| r4) τ28
  else
  Jc_X0_on_95 g x0 (((r3 : Int32) <<< (16 &&& 31)) ||| r4) 1 τ28
  else
  Jc_X0_on_94 g x0 (((r3 : Int32) <<< (16 &&& 31)) ||| r4) τ27
  else
  Jc_X0_on_94 g x0 (((r3 : Int32) <<< (16 &&& 31)) ||| r4) τ24
  else none
theorem ok_f_c_X0_on {D : CD} {P : CP} {K : xK} {g : CG} {Z : Option Value × CS} {x0 : Nat} {τ : CC} {o_ : (Int32 × CC)} (hf : f_c_X0_on g x0 τ = some o_) (kr : ∀ r_ : (Int32 × CC), o_ = r_ → Z = (some (.int r_.1), (g, r_.2))) : xV (wC D P) K mX0_on (xQ (wC D P) K Z) (g, τ) 0 [(0, .ref x0)] [] := by
  unfold f_c_X0_on at hf
  refine xr_aload_n (pc := 0) 0 dX0_on_0 rfl rfl ?_
  obtain ⟨ht1, hf⟩ := xo_if hf
  obtain ⟨r2, τ2, hτ2, hf⟩ := xo_bd hf
  refine call_f_c_X0_taken_X0_129 (pc := 1) hτ2 (gKo ht1 (by decide)) rfl (Nat.le_of_ble_eq_true rfl) (Nat.le_of_ble_eq_true rfl) (Nat.le_of_ble_eq_true rfl) dX0_on_1 ?_
  refine xr_istore_n (pc := 4) (loc' := [(1, .int r2), (0, .ref x0)]) dX0_on_4 rfl (by decide) rfl ?_
  refine xr_aload_n (pc := 5) 1 dX0_on_5 rfl rfl ?_
  refine xr_iconst (pc := 6) dX0_on_6 xci_2 ?_
  obtain ⟨r3, τ3, hτ3, hf⟩ := xo_bd hf
  refine call_f_c_X0_byteAt_X0_360 (pc := 7) hτ3 (gKo ht1 (by decide)) rfl (Nat.le_of_ble_eq_true rfl) (Nat.le_of_ble_eq_true rfl) (Nat.le_of_ble_eq_true rfl) dX0_on_7 ?_
  refine xr_bipush (pc := 10) dX0_on_10 xcb_16 ?_
  refine xr_ishl (pc := 12) dX0_on_12 ?_
  refine xr_aload_n (pc := 13) 1 dX0_on_13 rfl rfl ?_
  refine xr_iconst (pc := 14) dX0_on_14 xci_3 ?_
  obtain ⟨r4, τ4, hτ4, hf⟩ := xo_bd hf
  refine call_f_c_X0_twoAt_X0_413 (pc := 15) hτ4 (gKo ht1 (by decide)) rfl (Nat.le_of_ble_eq_true rfl) (Nat.le_of_ble_eq_true rfl) (Nat.le_of_ble_eq_true rfl) dX0_on_15 ?_
  refine xr_ior (pc := 18) dX0_on_18 ?_
  refine xr_istore_n (pc := 19) (loc' := [(2, .int (((r3 : Int32) <<< (16 &&& 31)) ||| r4)), (1, .int r2), (0, .ref x0)]) dX0_on_19 rfl (by decide) rfl ?_
  refine xr_aload_n (pc := 20) 2 dX0_on_20 rfl rfl ?_
  obtain ⟨r5, τ5, hτ5, hf⟩ := xo_bd hf
  refine call_f_c_X0_isValley_X0_285 (pc := 21) hτ5 (gKo ht1 (by decide)) rfl (Nat.le_of_ble_eq_true rfl) (Nat.le_of_ble_eq_true rfl) (Nat.le_of_ble_eq_true rfl) dX0_on_21 ?_
  refine xr_if_eq (pc := 24) 94 dX0_on_24 (by decide) (fun c_ => ?_) (fun c_ => ?_)
  · have hf := xo_pos c_ hf
    refine xV_sub [2, 0] rfl ?_
    exact ok_Jc_X0_on_94 hf kr
  · have hf := xo_neg c_ hf
    refine xr_iload_n (pc := 27) 1 dX0_on_27 rfl rfl ?_
    refine xr_bipush (pc := 28) dX0_on_28 xcb_6 ?_
    refine xr_aload_n (pc := 30) 2 dX0_on_30 rfl rfl ?_
    obtain ⟨r22, τ22, hτ22, hf⟩ := xo_bd hf
    refine call_f_c_X0_columns_X0_169 (pc := 31) hτ22 (gKo ht1 (by decide)) rfl (Nat.le_of_ble_eq_true rfl) (Nat.le_of_ble_eq_true rfl) (Nat.le_of_ble_eq_true rfl) dX0_on_31 ?_
    refine xr_iadd (pc := 34) dX0_on_34 ?_
    refine xr_iconst (pc := 35) dX0_on_35 xci_2 ?_
    refine xr_aload_n (pc := 36) 2 dX0_on_36 rfl rfl ?_
    obtain ⟨r23, τ23, hτ23, hf⟩ := xo_bd hf
    refine call_f_c_X0_places_X0_303 (pc := 37) hτ23 (gKo ht1 (by decide)) rfl (Nat.le_of_ble_eq_true rfl) (Nat.le_of_ble_eq_true rfl) (Nat.le_of_ble_eq_true rfl) dX0_on_37 ?_
    refine xr_imul (pc := 40) dX0_on_40 ?_
    refine xr_iadd (pc := 41) dX0_on_41 ?_
    refine xr_iconst (pc := 42) dX0_on_42 xci_3 ?_
    refine xr_aload_n (pc := 43) 2 dX0_on_43 rfl rfl ?_
    obtain ⟨r24, τ24, hτ24, hf⟩ := xo_bd hf
    refine call_f_c_X0_lords_X0_180 (pc := 44) hτ24 (gKo ht1 (by decide)) rfl (Nat.le_of_ble_eq_true rfl) (Nat.le_of_ble_eq_true rfl) (Nat.le_of_ble_eq_true rfl) dX0_on_44 ?_
    refine xr_imul (pc := 47) dX0_on_47 ?_
    refine xr_iadd (pc := 48) dX0_on_48 ?_
    refine xr_icmp_ne (pc := 49) 94 dX0_on_49 (by decide) (fun c_ => ?_) (fun c_ => ?_)
    · have hf := xo_pos c_ hf
      refine xr_aload_n (pc := 52) 2 dX0_on_52 rfl rfl ?_
      refine xr_iload_n (pc := 53) 1 dX0_on_53 rfl rfl ?_
      refine xr_iconst (pc := 54) dX0_on_54 xci_1 ?_
      refine xr_isub (pc := 55) dX0_on_55 ?_
      obtain ⟨r25, τ25, hτ25, hf⟩ := xo_bd hf
      refine call_f_c_X0_byteAt_X0_360 (pc := 56) hτ25 (gKo ht1 (by decide)) rfl (Nat.le_of_ble_eq_true rfl) (Nat.le_of_ble_eq_true rfl) (Nat.le_of_ble_eq_true rfl) dX0_on_56 ?_
      refine xr_aload_n (pc := 59) 2 dX0_on_59 rfl rfl ?_
      obtain ⟨b26, hb26, hf⟩ := xo_bind hf
      refine yc_getFs (pc := 60) 1 1 101 (gKo ht1 (by decide)) (by decide) (by decide) (by decide) rfl rfl hb26 q486 (ys_eq rfl) rfl dX0_on_60 ?_
      refine xr_iload_n (pc := 63) 1 dX0_on_63 rfl rfl ?_
      refine xr_iconst (pc := 64) dX0_on_64 xci_1 ?_
      refine xr_isub (pc := 65) dX0_on_65 ?_
      obtain ⟨r27, τ27, hτ27, hf⟩ := xo_bd hf
      refine call_f_c_X0_check_X0_409 (pc := 66) hτ27 rfl (Nat.le_of_ble_eq_true rfl) (Nat.le_of_ble_eq_true rfl) (Nat.le_of_ble_eq_true rfl) dX0_on_66 ?_
      refine xr_icmp_ne (pc := 69) 94 dX0_on_69 (by decide) (fun c_ => ?_) (fun c_ => ?_)
      · have hf := xo_pos c_ hf
        refine xr_aload_n (pc := 72) 2 dX0_on_72 rfl rfl ?_
        refine xr_iconst (pc := 73) dX0_on_73 xci_0 ?_
        obtain ⟨r28, τ28, hτ28, hf⟩ := xo_bd hf
        refine call_f_c_X0_twoAt_X0_413 (pc := 74) hτ28 (gKo ht1 (by decide)) rfl (Nat.le_of_ble_eq_true rfl) (Nat.le_of_ble_eq_true rfl) (Nat.le_of_ble_eq_true rfl) dX0_on_74 ?_
        refine xr_sipush (pc := 77) dX0_on_77 xcs_999 ?_
        refine xr_icmp_gt (pc := 80) 94 dX0_on_80 (by decide) (fun c_ => ?_) (fun c_ => ?_)
        · have hf := xo_pos c_ hf
          refine xV_sub [2, 0] rfl ?_
          exact ok_Jc_X0_on_94 hf kr
        · have hf := xo_neg c_ hf
          refine xr_iload_n (pc := 83) 0 dX0_on_83 rfl rfl ?_
          refine xr_ldcw (pc := 84) q1727 dX0_on_84 ?_
          refine xr_icmp_gt (pc := 87) 94 dX0_on_87 (by decide) (fun c_ => ?_) (fun c_ => ?_)
          · have hf := xo_pos c_ hf
            refine xV_sub [2, 0] rfl ?_
            exact ok_Jc_X0_on_94 hf kr
          · have hf := xo_neg c_ hf
            refine xr_iconst (pc := 90) dX0_on_90 xci_1 ?_
            refine xr_goto (pc := 91) 95 dX0_on_91 (by decide) ?_
            refine xV_sub [2, 0] rfl ?_
            exact ok_Jc_X0_on_95 hf kr
      · have hf := xo_neg c_ hf
        refine xV_sub [2, 0] rfl ?_
        exact ok_Jc_X0_on_94 hf kr
    · have hf := xo_neg c_ hf
      refine xV_sub [2, 0] rfl ?_
      exact ok_Jc_X0_on_94 hf kr
theorem met_f_c_X0_on (l : Launch) {D : CD} {P : CP} {g : CG} {x0 : Nat} {τ : CC} {o_ : (Int32 × CC)} (hf : f_c_X0_on g x0 τ = some o_) : xMet (wC D P) l yX0_on (ws_ yX0_on cX0_on 4 (some .boolean)) 3 180 (grc g) (grs g) [.ref x0] (g, τ) (some (.int o_.1), (g, o_.2)) := 
  xMet_of (by decide) (Nat.le_of_ble_eq_true rfl) KC_moved RPC_of (fun K _ _ _ => ok_f_c_X0_on hf (fun _ h => by rw [h]))
abbrev mX0_status : xM := (cX0_status, 2, RX0, 1, 60, (some .int), "status")
def f_c_X0_status (g : CG) (x0 : Nat) (x1 : Int32) (τ : CC) : Option (Int32 × CC) :=
  xbd (f_c_X0_is g x1 0 5 τ) fun r1 τ1 =>
  if r1 = 0 then
  some (((-1), τ1))
  else
  if gT g x0 = 1 then
  (gR g 108 x0).bind fun b3 =>
  if gT g b3 = 100 then
  if xin x1 (gN g b3) = true then
  some ((cA τ1 b3 x1.toNatClampNeg, τ1))
  else none
  else none
  else none
theorem ok_f_c_X0_status {D : CD} {P : CP} {K : xK} {g : CG} {Z : Option Value × CS} {x0 : Nat} {x1 : Int32} {τ : CC} {o_ : (Int32 × CC)} (hf : f_c_X0_status g x0 x1 τ = some o_) (kr : ∀ r_ : (Int32 × CC), o_ = r_ → Z = (some (.int r_.1), (g, r_.2))) : xV (wC D P) K mX0_status (xQ (wC D P) K Z) (g, τ) 0 [(0, .ref x0), (1, .int x1)] [] := by
  unfold f_c_X0_status at hf
  refine xr_iload_n (pc := 0) 1 dX0_status_0 rfl rfl ?_
  refine xr_iconst (pc := 1) dX0_status_1 xci_0 ?_
  refine xr_iconst (pc := 2) dX0_status_2 xci_5 ?_
  obtain ⟨r1, τ1, hτ1, hf⟩ := xo_bd hf
  refine call_f_c_X0_is_X0_176 (pc := 3) hτ1 rfl (Nat.le_of_ble_eq_true rfl) (Nat.le_of_ble_eq_true rfl) (Nat.le_of_ble_eq_true rfl) dX0_status_3 ?_
  refine xr_if_eq (pc := 6) 18 dX0_status_6 (by decide) (fun c_ => ?_) (fun c_ => ?_)
  · have hf := xo_pos c_ hf
    refine xr_iconst (pc := 18) dX0_status_18 xci_m1 ?_
    rw [kr _ (Option.some.inj hf).symm]
    exact xr_iret (pc := 19) dX0_status_19 rfl
  · have hf := xo_neg c_ hf
    refine xr_aload_n (pc := 9) 0 dX0_status_9 rfl rfl ?_
    obtain ⟨ht2, hf⟩ := xo_if hf
    obtain ⟨b3, hb3, hf⟩ := xo_bind hf
    refine yc_getFs (pc := 10) 1 8 108 (gKo ht2 (by decide)) (by decide) (by decide) (by decide) rfl rfl hb3 q494 (ys_eq rfl) rfl dX0_status_10 ?_
    refine xr_iload_n (pc := 13) 1 dX0_status_13 rfl rfl ?_
    obtain ⟨ht4, hf⟩ := xo_if hf
    obtain ⟨hi_, hf⟩ := xo_if hf
    refine yc_iald (pc := 14) (gKo ht4 (by decide)) hi_ dX0_status_14 ?_
    refine xr_goto (pc := 15) 19 dX0_status_15 (by decide) ?_
    rw [kr _ (Option.some.inj hf).symm]
    exact xr_iret (pc := 19) dX0_status_19 rfl
theorem met_f_c_X0_status (l : Launch) {D : CD} {P : CP} {g : CG} {x0 : Nat} {x1 : Int32} {τ : CC} {o_ : (Int32 × CC)} (hf : f_c_X0_status g x0 x1 τ = some o_) : xMet (wC D P) l yX0_status (ws_ yX0_status cX0_status 2 (some .int)) 1 60 (grc g) (grs g) [.ref x0, .int x1] (g, τ) (some (.int o_.1), (g, o_.2)) := 
  xMet_of (by decide) (Nat.le_of_ble_eq_true rfl) KC_moved RPC_of (fun K _ _ _ => ok_f_c_X0_status hf (fun _ h => by rw [h]))
