set_option maxRecDepth 100000
abbrev mX6_qWordHere : xM := (cX6_qWordHere, 1, RX6, 2, 120, (some .int), "qWordHere")
def Jt_qWordHere_55 (τ : TS) : Option (Int32 × TS) :=
  xbd (f_t_isHere 103 τ) fun r2 τ2 =>
  if r2 = 0 then
  xbd (f_t_isHere 104 τ2) fun r3 τ3 =>
  if r3 = 0 then
  xbd (f_t_isHere 105 τ3) fun r4 τ4 =>
  if r4 = 0 then
  xbd (f_t_isHere 106 τ4) fun r5 τ5 =>
  if r5 = 0 then
  xbd (f_t_isHere 107 τ5) fun r6 τ6 =>
  if r6 = 0 then
  xbd (f_t_isHere 108 τ6) fun r7 τ7 =>
  if r7 = 0 then
  xbd (f_t_isHere 109 τ7) fun r8 τ8 =>
  if r8 = 0 then
  xbd (f_t_isHere 110 τ8) fun r9 τ9 =>
  if r9 = 0 then
  xbd (f_t_isHere 111 τ9) fun r10 τ10 =>
  if r10 = 0 then
  xbd (f_t_isHere 112 τ10) fun r11 τ11 =>
  if r11 = 0 then
  xbd (f_t_isHere 113 τ11) fun r12 τ12 =>
  if r12 = 0 then
  xbd (f_t_isHere 114 τ12) fun r13 τ13 =>
  if r13 = 0 then
  xbd (f_t_isHere 115 τ13) fun r14 τ14 =>
  if r14 = 0 then
  xbd (f_t_isHere 116 τ14) fun r15 τ15 =>
  if r15 = 0 then
  xbd (f_t_isHere 117 τ15) fun r16 τ16 =>
  if r16 = 0 then
  xbd (f_t_isHere 118 τ16) fun r17 τ17 =>
  if r17 = 0 then
  xbd (f_t_isHere 119 τ17) fun r18 τ18 =>
  if r18 = 0 then
  some (((-1), τ18))
  else
  some ((19, τ18))
  else
  some ((18, τ17))
  else
  some ((17, τ16))
  else
  some ((16, τ15))
  else
  some ((15, τ14))
  else
  some ((14, τ13))
  else
  some ((13, τ12))
  else
  some ((12, τ11))
  else
  some ((11, τ10))
  else
  some ((10, τ9))
  else
  some ((9, τ8))
  else
  some ((8, τ7))
  else
  some ((7, τ6))
  else
  some ((6, τ5))
  else
  some ((5, τ4))
  else
  some ((4, τ3))
  else
  some ((3, τ2))
theorem ok_Jt_qWordHere_55 {D : TD} {m : Nat} {K : xK} {Z : Option Value × TS} {τ : TS} {o_ : (Int32 × TS)} (hf : Jt_qWordHere_55 τ = some o_) (kr : ∀ r_ : (Int32 × TS), o_ = r_ → Z = (some (.int r_.1), r_.2)) : xV (wT D m) K mX6_qWordHere (xQ (wT D m) K Z) τ 55 [(0, .ref m)] [] := by
  unfold Jt_qWordHere_55 at hf
  refine xr_aload_n (pc := 55) 0 dX6_qWordHere_55 rfl rfl ?_
  refine xr_aload_n (pc := 56) 0 dX6_qWordHere_56 rfl rfl ?_
  refine xt_getA (pc := 57) 103 (by decide) q1849 rfl rfl rfl dX6_qWordHere_57 ?_
  obtain ⟨r2, τ2, hτ2, hf⟩ := xo_bd hf
  refine call_f_t_isHere (pc := 60) hτ2 rfl (Nat.le_of_ble_eq_true rfl) (Nat.le_of_ble_eq_true rfl) (Nat.le_of_ble_eq_true rfl) dX6_qWordHere_60 ?_
  refine xr_if_eq (pc := 63) 68 dX6_qWordHere_63 (by decide) (fun c_ => ?_) (fun c_ => ?_)
  · have hf := xo_pos c_ hf
    refine xr_aload_n (pc := 68) 0 dX6_qWordHere_68 rfl rfl ?_
    refine xr_aload_n (pc := 69) 0 dX6_qWordHere_69 rfl rfl ?_
    refine xt_getA (pc := 70) 104 (by decide) q1850 rfl rfl rfl dX6_qWordHere_70 ?_
    obtain ⟨r3, τ3, hτ3, hf⟩ := xo_bd hf
    refine call_f_t_isHere (pc := 73) hτ3 rfl (Nat.le_of_ble_eq_true rfl) (Nat.le_of_ble_eq_true rfl) (Nat.le_of_ble_eq_true rfl) dX6_qWordHere_73 ?_
    refine xr_if_eq (pc := 76) 81 dX6_qWordHere_76 (by decide) (fun c_ => ?_) (fun c_ => ?_)
    · have hf := xo_pos c_ hf
      refine xr_aload_n (pc := 81) 0 dX6_qWordHere_81 rfl rfl ?_
      refine xr_aload_n (pc := 82) 0 dX6_qWordHere_82 rfl rfl ?_
      refine xt_getA (pc := 83) 105 (by decide) q1851 rfl rfl rfl dX6_qWordHere_83 ?_
      obtain ⟨r4, τ4, hτ4, hf⟩ := xo_bd hf
      refine call_f_t_isHere (pc := 86) hτ4 rfl (Nat.le_of_ble_eq_true rfl) (Nat.le_of_ble_eq_true rfl) (Nat.le_of_ble_eq_true rfl) dX6_qWordHere_86 ?_
      refine xr_if_eq (pc := 89) 94 dX6_qWordHere_89 (by decide) (fun c_ => ?_) (fun c_ => ?_)
      · have hf := xo_pos c_ hf
        refine xr_aload_n (pc := 94) 0 dX6_qWordHere_94 rfl rfl ?_
        refine xr_aload_n (pc := 95) 0 dX6_qWordHere_95 rfl rfl ?_
        refine xt_getA (pc := 96) 106 (by decide) q1852 rfl rfl rfl dX6_qWordHere_96 ?_
        obtain ⟨r5, τ5, hτ5, hf⟩ := xo_bd hf
        refine call_f_t_isHere (pc := 99) hτ5 rfl (Nat.le_of_ble_eq_true rfl) (Nat.le_of_ble_eq_true rfl) (Nat.le_of_ble_eq_true rfl) dX6_qWordHere_99 ?_
        refine xr_if_eq (pc := 102) 108 dX6_qWordHere_102 (by decide) (fun c_ => ?_) (fun c_ => ?_)
        · have hf := xo_pos c_ hf
          refine xr_aload_n (pc := 108) 0 dX6_qWordHere_108 rfl rfl ?_
          refine xr_aload_n (pc := 109) 0 dX6_qWordHere_109 rfl rfl ?_
          refine xt_getA (pc := 110) 107 (by decide) q1853 rfl rfl rfl dX6_qWordHere_110 ?_
          obtain ⟨r6, τ6, hτ6, hf⟩ := xo_bd hf
          refine call_f_t_isHere (pc := 113) hτ6 rfl (Nat.le_of_ble_eq_true rfl) (Nat.le_of_ble_eq_true rfl) (Nat.le_of_ble_eq_true rfl) dX6_qWordHere_113 ?_
          refine xr_if_eq (pc := 116) 122 dX6_qWordHere_116 (by decide) (fun c_ => ?_) (fun c_ => ?_)
          · have hf := xo_pos c_ hf
            refine xr_aload_n (pc := 122) 0 dX6_qWordHere_122 rfl rfl ?_
            refine xr_aload_n (pc := 123) 0 dX6_qWordHere_123 rfl rfl ?_
            refine xt_getA (pc := 124) 108 (by decide) q1854 rfl rfl rfl dX6_qWordHere_124 ?_
            obtain ⟨r7, τ7, hτ7, hf⟩ := xo_bd hf
            refine call_f_t_isHere (pc := 127) hτ7 rfl (Nat.le_of_ble_eq_true rfl) (Nat.le_of_ble_eq_true rfl) (Nat.le_of_ble_eq_true rfl) dX6_qWordHere_127 ?_
            refine xr_if_eq (pc := 130) 136 dX6_qWordHere_130 (by decide) (fun c_ => ?_) (fun c_ => ?_)
            · have hf := xo_pos c_ hf
              refine xr_aload_n (pc := 136) 0 dX6_qWordHere_136 rfl rfl ?_
              refine xr_aload_n (pc := 137) 0 dX6_qWordHere_137 rfl rfl ?_
              refine xt_getA (pc := 138) 109 (by decide) q1855 rfl rfl rfl dX6_qWordHere_138 ?_
              obtain ⟨r8, τ8, hτ8, hf⟩ := xo_bd hf
              refine call_f_t_isHere (pc := 141) hτ8 rfl (Nat.le_of_ble_eq_true rfl) (Nat.le_of_ble_eq_true rfl) (Nat.le_of_ble_eq_true rfl) dX6_qWordHere_141 ?_
              refine xr_if_eq (pc := 144) 150 dX6_qWordHere_144 (by decide) (fun c_ => ?_) (fun c_ => ?_)
              · have hf := xo_pos c_ hf
                refine xr_aload_n (pc := 150) 0 dX6_qWordHere_150 rfl rfl ?_
                refine xr_aload_n (pc := 151) 0 dX6_qWordHere_151 rfl rfl ?_
                refine xt_getA (pc := 152) 110 (by decide) q1856 rfl rfl rfl dX6_qWordHere_152 ?_
                obtain ⟨r9, τ9, hτ9, hf⟩ := xo_bd hf
                refine call_f_t_isHere (pc := 155) hτ9 rfl (Nat.le_of_ble_eq_true rfl) (Nat.le_of_ble_eq_true rfl) (Nat.le_of_ble_eq_true rfl) dX6_qWordHere_155 ?_
                refine xr_if_eq (pc := 158) 164 dX6_qWordHere_158 (by decide) (fun c_ => ?_) (fun c_ => ?_)
                · have hf := xo_pos c_ hf
                  refine xr_aload_n (pc := 164) 0 dX6_qWordHere_164 rfl rfl ?_
                  refine xr_aload_n (pc := 165) 0 dX6_qWordHere_165 rfl rfl ?_
                  refine xt_getA (pc := 166) 111 (by decide) q1857 rfl rfl rfl dX6_qWordHere_166 ?_
                  obtain ⟨r10, τ10, hτ10, hf⟩ := xo_bd hf
                  refine call_f_t_isHere (pc := 169) hτ10 rfl (Nat.le_of_ble_eq_true rfl) (Nat.le_of_ble_eq_true rfl) (Nat.le_of_ble_eq_true rfl) dX6_qWordHere_169 ?_
                  refine xr_if_eq (pc := 172) 178 dX6_qWordHere_172 (by decide) (fun c_ => ?_) (fun c_ => ?_)
                  · have hf := xo_pos c_ hf
                    refine xr_aload_n (pc := 178) 0 dX6_qWordHere_178 rfl rfl ?_
                    refine xr_aload_n (pc := 179) 0 dX6_qWordHere_179 rfl rfl ?_
                    refine xt_getA (pc := 180) 112 (by decide) q1858 rfl rfl rfl dX6_qWordHere_180 ?_
                    obtain ⟨r11, τ11, hτ11, hf⟩ := xo_bd hf
                    refine call_f_t_isHere (pc := 183) hτ11 rfl (Nat.le_of_ble_eq_true rfl) (Nat.le_of_ble_eq_true rfl) (Nat.le_of_ble_eq_true rfl) dX6_qWordHere_183 ?_
                    refine xr_if_eq (pc := 186) 192 dX6_qWordHere_186 (by decide) (fun c_ => ?_) (fun c_ => ?_)
                    · have hf := xo_pos c_ hf
                      refine xr_aload_n (pc := 192) 0 dX6_qWordHere_192 rfl rfl ?_
                      refine xr_aload_n (pc := 193) 0 dX6_qWordHere_193 rfl rfl ?_
                      refine xt_getA (pc := 194) 113 (by decide) q1859 rfl rfl rfl dX6_qWordHere_194 ?_
                      obtain ⟨r12, τ12, hτ12, hf⟩ := xo_bd hf
                      refine call_f_t_isHere (pc := 197) hτ12 rfl (Nat.le_of_ble_eq_true rfl) (Nat.le_of_ble_eq_true rfl) (Nat.le_of_ble_eq_true rfl) dX6_qWordHere_197 ?_
                      refine xr_if_eq (pc := 200) 206 dX6_qWordHere_200 (by decide) (fun c_ => ?_) (fun c_ => ?_)
                      · have hf := xo_pos c_ hf
                        refine xr_aload_n (pc := 206) 0 dX6_qWordHere_206 rfl rfl ?_
                        refine xr_aload_n (pc := 207) 0 dX6_qWordHere_207 rfl rfl ?_
                        refine xt_getA (pc := 208) 114 (by decide) q1860 rfl rfl rfl dX6_qWordHere_208 ?_
                        obtain ⟨r13, τ13, hτ13, hf⟩ := xo_bd hf
                        refine call_f_t_isHere (pc := 211) hτ13 rfl (Nat.le_of_ble_eq_true rfl) (Nat.le_of_ble_eq_true rfl) (Nat.le_of_ble_eq_true rfl) dX6_qWordHere_211 ?_
                        refine xr_if_eq (pc := 214) 220 dX6_qWordHere_214 (by decide) (fun c_ => ?_) (fun c_ => ?_)
                        · have hf := xo_pos c_ hf
                          refine xr_aload_n (pc := 220) 0 dX6_qWordHere_220 rfl rfl ?_
                          refine xr_aload_n (pc := 221) 0 dX6_qWordHere_221 rfl rfl ?_
                          refine xt_getA (pc := 222) 115 (by decide) q1861 rfl rfl rfl dX6_qWordHere_222 ?_
                          obtain ⟨r14, τ14, hτ14, hf⟩ := xo_bd hf
                          refine call_f_t_isHere (pc := 225) hτ14 rfl (Nat.le_of_ble_eq_true rfl) (Nat.le_of_ble_eq_true rfl) (Nat.le_of_ble_eq_true rfl) dX6_qWordHere_225 ?_
                          refine xr_if_eq (pc := 228) 234 dX6_qWordHere_228 (by decide) (fun c_ => ?_) (fun c_ => ?_)
                          · have hf := xo_pos c_ hf
                            refine xr_aload_n (pc := 234) 0 dX6_qWordHere_234 rfl rfl ?_
                            refine xr_aload_n (pc := 235) 0 dX6_qWordHere_235 rfl rfl ?_
                            refine xt_getA (pc := 236) 116 (by decide) q1862 rfl rfl rfl dX6_qWordHere_236 ?_
                            obtain ⟨r15, τ15, hτ15, hf⟩ := xo_bd hf
                            refine call_f_t_isHere (pc := 239) hτ15 rfl (Nat.le_of_ble_eq_true rfl) (Nat.le_of_ble_eq_true rfl) (Nat.le_of_ble_eq_true rfl) dX6_qWordHere_239 ?_
                            refine xr_if_eq (pc := 242) 248 dX6_qWordHere_242 (by decide) (fun c_ => ?_) (fun c_ => ?_)
                            · have hf := xo_pos c_ hf
                              refine xr_aload_n (pc := 248) 0 dX6_qWordHere_248 rfl rfl ?_
                              refine xr_aload_n (pc := 249) 0 dX6_qWordHere_249 rfl rfl ?_
                              refine xt_getA (pc := 250) 117 (by decide) q1863 rfl rfl rfl dX6_qWordHere_250 ?_
                              obtain ⟨r16, τ16, hτ16, hf⟩ := xo_bd hf
                              refine call_f_t_isHere (pc := 253) hτ16 rfl (Nat.le_of_ble_eq_true rfl) (Nat.le_of_ble_eq_true rfl) (Nat.le_of_ble_eq_true rfl) dX6_qWordHere_253 ?_
                              refine xr_if_eq (pc := 256) 262 dX6_qWordHere_256 (by decide) (fun c_ => ?_) (fun c_ => ?_)
                              · have hf := xo_pos c_ hf
                                refine xr_aload_n (pc := 262) 0 dX6_qWordHere_262 rfl rfl ?_
                                refine xr_aload_n (pc := 263) 0 dX6_qWordHere_263 rfl rfl ?_
                                refine xt_getA (pc := 264) 118 (by decide) q1864 rfl rfl rfl dX6_qWordHere_264 ?_
                                obtain ⟨r17, τ17, hτ17, hf⟩ := xo_bd hf
                                refine call_f_t_isHere (pc := 267) hτ17 rfl (Nat.le_of_ble_eq_true rfl) (Nat.le_of_ble_eq_true rfl) (Nat.le_of_ble_eq_true rfl) dX6_qWordHere_267 ?_
                                refine xr_if_eq (pc := 270) 276 dX6_qWordHere_270 (by decide) (fun c_ => ?_) (fun c_ => ?_)
                                · have hf := xo_pos c_ hf
                                  refine xr_aload_n (pc := 276) 0 dX6_qWordHere_276 rfl rfl ?_
                                  refine xr_aload_n (pc := 277) 0 dX6_qWordHere_277 rfl rfl ?_
                                  refine xt_getA (pc := 278) 119 (by decide) q1865 rfl rfl rfl dX6_qWordHere_278 ?_
                                  obtain ⟨r18, τ18, hτ18, hf⟩ := xo_bd hf
                                  refine call_f_t_isHere (pc := 281) hτ18 rfl (Nat.le_of_ble_eq_true rfl) (Nat.le_of_ble_eq_true rfl) (Nat.le_of_ble_eq_true rfl) dX6_qWordHere_281 ?_
                                  refine xr_if_eq (pc := 284) 290 dX6_qWordHere_284 (by decide) (fun c_ => ?_) (fun c_ => ?_)
                                  · have hf := xo_pos c_ hf
                                    refine xr_iconst (pc := 290) dX6_qWordHere_290 xci_m1 ?_
                                    rw [kr _ (Option.some.inj hf).symm]
                                    exact xr_iret (pc := 291) dX6_qWordHere_291 rfl
                                  · have hf := xo_neg c_ hf
                                    refine xr_bipush (pc := 287) dX6_qWordHere_287 xcb_19 ?_
                                    rw [kr _ (Option.some.inj hf).symm]
                                    exact xr_iret (pc := 289) dX6_qWordHere_289 rfl
                                · have hf := xo_neg c_ hf
                                  refine xr_bipush (pc := 273) dX6_qWordHere_273 xcb_18 ?_
                                  rw [kr _ (Option.some.inj hf).symm]
                                  exact xr_iret (pc := 275) dX6_qWordHere_275 rfl
                              · have hf := xo_neg c_ hf
                                refine xr_bipush (pc := 259) dX6_qWordHere_259 xcb_17 ?_
                                rw [kr _ (Option.some.inj hf).symm]
                                exact xr_iret (pc := 261) dX6_qWordHere_261 rfl
                            · have hf := xo_neg c_ hf
                              refine xr_bipush (pc := 245) dX6_qWordHere_245 xcb_16 ?_
                              rw [kr _ (Option.some.inj hf).symm]
                              exact xr_iret (pc := 247) dX6_qWordHere_247 rfl
                          · have hf := xo_neg c_ hf
                            refine xr_bipush (pc := 231) dX6_qWordHere_231 xcb_15 ?_
                            rw [kr _ (Option.some.inj hf).symm]
                            exact xr_iret (pc := 233) dX6_qWordHere_233 rfl
                        · have hf := xo_neg c_ hf
                          refine xr_bipush (pc := 217) dX6_qWordHere_217 xcb_14 ?_
                          rw [kr _ (Option.some.inj hf).symm]
                          exact xr_iret (pc := 219) dX6_qWordHere_219 rfl
                      · have hf := xo_neg c_ hf
                        refine xr_bipush (pc := 203) dX6_qWordHere_203 xcb_13 ?_
                        rw [kr _ (Option.some.inj hf).symm]
                        exact xr_iret (pc := 205) dX6_qWordHere_205 rfl
                    · have hf := xo_neg c_ hf
                      refine xr_bipush (pc := 189) dX6_qWordHere_189 xcb_12 ?_
                      rw [kr _ (Option.some.inj hf).symm]
                      exact xr_iret (pc := 191) dX6_qWordHere_191 rfl
                  · have hf := xo_neg c_ hf
                    refine xr_bipush (pc := 175) dX6_qWordHere_175 xcb_11 ?_
                    rw [kr _ (Option.some.inj hf).symm]
                    exact xr_iret (pc := 177) dX6_qWordHere_177 rfl
                · have hf := xo_neg c_ hf
                  refine xr_bipush (pc := 161) dX6_qWordHere_161 xcb_10 ?_
                  rw [kr _ (Option.some.inj hf).symm]
                  exact xr_iret (pc := 163) dX6_qWordHere_163 rfl
              · have hf := xo_neg c_ hf
                refine xr_bipush (pc := 147) dX6_qWordHere_147 xcb_9 ?_
                rw [kr _ (Option.some.inj hf).symm]
                exact xr_iret (pc := 149) dX6_qWordHere_149 rfl
            · have hf := xo_neg c_ hf
              refine xr_bipush (pc := 133) dX6_qWordHere_133 xcb_8 ?_
              rw [kr _ (Option.some.inj hf).symm]
              exact xr_iret (pc := 135) dX6_qWordHere_135 rfl
          · have hf := xo_neg c_ hf
            refine xr_bipush (pc := 119) dX6_qWordHere_119 xcb_7 ?_
            rw [kr _ (Option.some.inj hf).symm]
            exact xr_iret (pc := 121) dX6_qWordHere_121 rfl
        · have hf := xo_neg c_ hf
          refine xr_bipush (pc := 105) dX6_qWordHere_105 xcb_6 ?_
          rw [kr _ (Option.some.inj hf).symm]
          exact xr_iret (pc := 107) dX6_qWordHere_107 rfl
      · have hf := xo_neg c_ hf
        refine xr_iconst (pc := 92) dX6_qWordHere_92 xci_5 ?_
        rw [kr _ (Option.some.inj hf).symm]
        exact xr_iret (pc := 93) dX6_qWordHere_93 rfl
    · have hf := xo_neg c_ hf
      refine xr_iconst (pc := 79) dX6_qWordHere_79 xci_4 ?_
      rw [kr _ (Option.some.inj hf).symm]
      exact xr_iret (pc := 80) dX6_qWordHere_80 rfl
  · have hf := xo_neg c_ hf
    refine xr_iconst (pc := 66) dX6_qWordHere_66 xci_3 ?_
    rw [kr _ (Option.some.inj hf).symm]
    exact xr_iret (pc := 67) dX6_qWordHere_67 rfl
def Jt_qWordHere_34 (τ : TS) : Option (Int32 × TS) :=
  if 2 ≤ (tI τ 61) then
  Jt_qWordHere_55 τ
  else
  xbd (f_t_isHere 102 τ) fun r19 τ19 =>
  if r19 = 0 then
  Jt_qWordHere_55 τ19
  else
  some ((2, τ19))
theorem ok_Jt_qWordHere_34 {D : TD} {m : Nat} {K : xK} {Z : Option Value × TS} {τ : TS} {o_ : (Int32 × TS)} (hf : Jt_qWordHere_34 τ = some o_) (kr : ∀ r_ : (Int32 × TS), o_ = r_ → Z = (some (.int r_.1), r_.2)) : xV (wT D m) K mX6_qWordHere (xQ (wT D m) K Z) τ 34 [(0, .ref m)] [] := by
  unfold Jt_qWordHere_34 at hf
  refine xr_aload_n (pc := 34) 0 dX6_qWordHere_34 rfl rfl ?_
  refine xt_getI (pc := 35) 61 (by decide) q1807 rfl rfl rfl dX6_qWordHere_35 ?_
  refine xr_iconst (pc := 38) dX6_qWordHere_38 xci_2 ?_
  refine xr_icmp_ge (pc := 39) 55 dX6_qWordHere_39 (by decide) (fun c_ => ?_) (fun c_ => ?_)
  · have hf := xo_pos c_ hf
    exact ok_Jt_qWordHere_55 hf kr
  · have hf := xo_neg c_ hf
    refine xr_aload_n (pc := 42) 0 dX6_qWordHere_42 rfl rfl ?_
    refine xr_aload_n (pc := 43) 0 dX6_qWordHere_43 rfl rfl ?_
    refine xt_getA (pc := 44) 102 (by decide) q1848 rfl rfl rfl dX6_qWordHere_44 ?_
    obtain ⟨r19, τ19, hτ19, hf⟩ := xo_bd hf
    refine call_f_t_isHere (pc := 47) hτ19 rfl (Nat.le_of_ble_eq_true rfl) (Nat.le_of_ble_eq_true rfl) (Nat.le_of_ble_eq_true rfl) dX6_qWordHere_47 ?_
    refine xr_if_eq (pc := 50) 55 dX6_qWordHere_50 (by decide) (fun c_ => ?_) (fun c_ => ?_)
    · have hf := xo_pos c_ hf
      exact ok_Jt_qWordHere_55 hf kr
    · have hf := xo_neg c_ hf
      refine xr_iconst (pc := 53) dX6_qWordHere_53 xci_2 ?_
      rw [kr _ (Option.some.inj hf).symm]
      exact xr_iret (pc := 54) dX6_qWordHere_54 rfl
def f_t_qWordHere (τ : TS) : Option (Int32 × TS) :=
  xbd (f_t_isHere 100 τ) fun r1 τ1 =>
  if r1 = 0 then
  if 2 ≤ (tI τ1 61) then
  Jt_qWordHere_34 τ1
  else
  xbd (f_t_isHere 101 τ1) fun r20 τ20 =>
  if r20 = 0 then
  Jt_qWordHere_34 τ20
  else
  some ((1, τ20))
  else
  some ((0, τ1))
theorem ok_f_t_qWordHere {D : TD} {m : Nat} {K : xK} {Z : Option Value × TS} {τ : TS} {o_ : (Int32 × TS)} (hf : f_t_qWordHere τ = some o_) (kr : ∀ r_ : (Int32 × TS), o_ = r_ → Z = (some (.int r_.1), r_.2)) : xV (wT D m) K mX6_qWordHere (xQ (wT D m) K Z) τ 0 [(0, .ref m)] [] := by
  unfold f_t_qWordHere at hf
  refine xr_aload_n (pc := 0) 0 dX6_qWordHere_0 rfl rfl ?_
  refine xr_aload_n (pc := 1) 0 dX6_qWordHere_1 rfl rfl ?_
  refine xt_getA (pc := 2) 100 (by decide) q1846 rfl rfl rfl dX6_qWordHere_2 ?_
  obtain ⟨r1, τ1, hτ1, hf⟩ := xo_bd hf
  refine call_f_t_isHere (pc := 5) hτ1 rfl (Nat.le_of_ble_eq_true rfl) (Nat.le_of_ble_eq_true rfl) (Nat.le_of_ble_eq_true rfl) dX6_qWordHere_5 ?_
  refine xr_if_eq (pc := 8) 13 dX6_qWordHere_8 (by decide) (fun c_ => ?_) (fun c_ => ?_)
  · have hf := xo_pos c_ hf
    refine xr_aload_n (pc := 13) 0 dX6_qWordHere_13 rfl rfl ?_
    refine xt_getI (pc := 14) 61 (by decide) q1807 rfl rfl rfl dX6_qWordHere_14 ?_
    refine xr_iconst (pc := 17) dX6_qWordHere_17 xci_2 ?_
    refine xr_icmp_ge (pc := 18) 34 dX6_qWordHere_18 (by decide) (fun c_ => ?_) (fun c_ => ?_)
    · have hf := xo_pos c_ hf
      exact ok_Jt_qWordHere_34 hf kr
    · have hf := xo_neg c_ hf
      refine xr_aload_n (pc := 21) 0 dX6_qWordHere_21 rfl rfl ?_
      refine xr_aload_n (pc := 22) 0 dX6_qWordHere_22 rfl rfl ?_
      refine xt_getA (pc := 23) 101 (by decide) q1847 rfl rfl rfl dX6_qWordHere_23 ?_
      obtain ⟨r20, τ20, hτ20, hf⟩ := xo_bd hf
      refine call_f_t_isHere (pc := 26) hτ20 rfl (Nat.le_of_ble_eq_true rfl) (Nat.le_of_ble_eq_true rfl) (Nat.le_of_ble_eq_true rfl) dX6_qWordHere_26 ?_
      refine xr_if_eq (pc := 29) 34 dX6_qWordHere_29 (by decide) (fun c_ => ?_) (fun c_ => ?_)
      · have hf := xo_pos c_ hf
        exact ok_Jt_qWordHere_34 hf kr
      · have hf := xo_neg c_ hf
        refine xr_iconst (pc := 32) dX6_qWordHere_32 xci_1 ?_
        rw [kr _ (Option.some.inj hf).symm]
        exact xr_iret (pc := 33) dX6_qWordHere_33 rfl
  · have hf := xo_neg c_ hf
    refine xr_iconst (pc := 11) dX6_qWordHere_11 xci_0 ?_
    rw [kr _ (Option.some.inj hf).symm]
    exact xr_iret (pc := 12) dX6_qWordHere_12 rfl
theorem met_f_t_qWordHere (l : Launch) {D : TD} {m : Nat} {τ : TS} {o_ : (Int32 × TS)} (hf : f_t_qWordHere τ = some o_) : xMet (wT D m) l yX6_qWordHere (ws_ yX6_qWordHere cX6_qWordHere 1 (some .int)) 2 120 0 0 [.ref m] τ (some (.int o_.1), o_.2) :=
  xMet_of (by decide) (Nat.le_of_ble_eq_true rfl) KT_moved (fun _ _ => trivial) (fun K _ _ _ => ok_f_t_qWordHere hf (fun _ h => by rw [h]))
theorem hd_f_t_qWordHere : yX6_qWordHere.cls = RX6 ∧ yX6_qWordHere.cls ≠ "java/lang/invoke/MethodHandle" ∧ yX6_qWordHere.cls ≠ "java/lang/invoke/VarHandle" ∧ (parseMethodDescriptor yX6_qWordHere.desc).map (fun d => d.parameters.length) = some 0 := by decide +kernel
theorem call_f_t_qWordHere {D : TD} {m : Nat} {K : xK} {M : xM} {Q : State → Prop} {τ : TS} {pc : Nat} {loc : List (Nat × Value)} {st : List Value} {r : Int32} {τ1 : TS} (hf : f_t_qWordHere τ = some (r, τ1)) (ho : M.2.2.1 = RX6) (hfr : 3 ≤ M.2.2.2.1) (hlo : 140 ≤ M.2.2.2.2.1) (hcat : (st.map fun v => v.category).sum ≤ 8) (d : decode M.1 pc = .ok (.invokevirtual 710, 3)) (k : xV (wT D m) K M Q τ1 (pc + 3) loc (.int r :: st)) : xV (wT D m) K M Q τ pc loc (.ref m :: st) :=
  xr_callV (As := []) (rest := st) (met_f_t_qWordHere K.2.1 hf) (lw_V q2270 q2272 qs92 q186 q2273) hd_f_t_qWordHere ho hfr hlo rfl (fun H hR hK => t_recv H hR hK) rfl hcat d k
abbrev mX6_isAllowed : xM := (cX6_isAllowed, 2, RX6, 0, 0, (some .boolean), "isAllowed")
def Jt_isAllowed_46 (τ : TS) : Option (Int32 × TS) :=
  some ((1, τ))
theorem ok_Jt_isAllowed_46 {D : TD} {m : Nat} {K : xK} {Z : Option Value × TS} {τ : TS} {o_ : (Int32 × TS)} (hf : Jt_isAllowed_46 τ = some o_) (kr : ∀ r_ : (Int32 × TS), o_ = r_ → Z = (some (.int r_.1), r_.2)) : xV (wT D m) K mX6_isAllowed (xQ (wT D m) K Z) τ 46 [] [] := by
  unfold Jt_isAllowed_46 at hf
  refine xr_iconst (pc := 46) dX6_isAllowed_46 xci_1 ?_
  refine xr_goto (pc := 47) 70 dX6_isAllowed_47 (by decide) ?_
  rw [kr _ (Option.some.inj hf).symm]
  exact xr_zret (pc := 70) dX6_isAllowed_70 rfl xz_1
def Jt_isAllowed_65 (τ : TS) : Option (Int32 × TS) :=
  some ((1, τ))
theorem ok_Jt_isAllowed_65 {D : TD} {m : Nat} {K : xK} {Z : Option Value × TS} {τ : TS} {o_ : (Int32 × TS)} (hf : Jt_isAllowed_65 τ = some o_) (kr : ∀ r_ : (Int32 × TS), o_ = r_ → Z = (some (.int r_.1), r_.2)) : xV (wT D m) K mX6_isAllowed (xQ (wT D m) K Z) τ 65 [] [] := by
  unfold Jt_isAllowed_65 at hf
  refine xr_iconst (pc := 65) dX6_isAllowed_65 xci_1 ?_
  refine xr_goto (pc := 66) 70 dX6_isAllowed_66 (by decide) ?_
  rw [kr _ (Option.some.inj hf).symm]
  exact xr_zret (pc := 70) dX6_isAllowed_70 rfl xz_1
def f_t_isAllowed (x1 : Int32) (τ : TS) : Option (Int32 × TS) :=
  if (tI τ 61) = 0 then
  if 8 ≤ x1 then
  some ((0, τ))
  else
  some ((1, τ))
  else
  if (tI τ 61) = 1 then
  if x1 < 4 then
  Jt_isAllowed_46 τ
  else
  if x1 = 8 then
  Jt_isAllowed_46 τ
  else
  if x1 = 9 then
  Jt_isAllowed_46 τ
  else
  some ((0, τ))
  else
  if x1 = 3 then
  Jt_isAllowed_65 τ
  else
  if x1 ≤ 9 then
  some ((0, τ))
  else
  Jt_isAllowed_65 τ
theorem ok_f_t_isAllowed {D : TD} {m : Nat} {K : xK} {Z : Option Value × TS} {x1 : Int32} {τ : TS} {o_ : (Int32 × TS)} (hf : f_t_isAllowed x1 τ = some o_) (kr : ∀ r_ : (Int32 × TS), o_ = r_ → Z = (some (.int r_.1), r_.2)) : xV (wT D m) K mX6_isAllowed (xQ (wT D m) K Z) τ 0 [(0, .ref m), (1, .int x1)] [] := by
  unfold f_t_isAllowed at hf
  refine xr_aload_n (pc := 0) 0 dX6_isAllowed_0 rfl rfl ?_
  refine xt_getI (pc := 1) 61 (by decide) q1807 rfl rfl rfl dX6_isAllowed_1 ?_
  refine xr_if_ne (pc := 4) 21 dX6_isAllowed_4 (by decide) (fun c_ => ?_) (fun c_ => ?_)
  · have hf := xo_pos c_ hf
    refine xr_iload_n (pc := 7) 1 dX6_isAllowed_7 rfl rfl ?_
    refine xr_bipush (pc := 8) dX6_isAllowed_8 xcb_8 ?_
    refine xr_icmp_ge (pc := 10) 17 dX6_isAllowed_10 (by decide) (fun c_ => ?_) (fun c_ => ?_)
    · have hf := xo_pos c_ hf
      refine xr_iconst (pc := 17) dX6_isAllowed_17 xci_0 ?_
      refine xr_goto (pc := 18) 70 dX6_isAllowed_18 (by decide) ?_
      rw [kr _ (Option.some.inj hf).symm]
      exact xr_zret (pc := 70) dX6_isAllowed_70 rfl xz_0
    · have hf := xo_neg c_ hf
      refine xr_iconst (pc := 13) dX6_isAllowed_13 xci_1 ?_
      refine xr_goto (pc := 14) 70 dX6_isAllowed_14 (by decide) ?_
      rw [kr _ (Option.some.inj hf).symm]
      exact xr_zret (pc := 70) dX6_isAllowed_70 rfl xz_1
  · have hf := xo_neg c_ hf
    refine xr_aload_n (pc := 21) 0 dX6_isAllowed_21 rfl rfl ?_
    refine xt_getI (pc := 22) 61 (by decide) q1807 rfl rfl rfl dX6_isAllowed_22 ?_
    refine xr_iconst (pc := 25) dX6_isAllowed_25 xci_1 ?_
    refine xr_icmp_ne (pc := 26) 54 dX6_isAllowed_26 (by decide) (fun c_ => ?_) (fun c_ => ?_)
    · have hf := xo_pos c_ hf
      refine xr_iload_n (pc := 29) 1 dX6_isAllowed_29 rfl rfl ?_
      refine xr_iconst (pc := 30) dX6_isAllowed_30 xci_4 ?_
      refine xr_icmp_lt (pc := 31) 46 dX6_isAllowed_31 (by decide) (fun c_ => ?_) (fun c_ => ?_)
      · have hf := xo_pos c_ hf
        refine xV_sub [] rfl ?_
        exact ok_Jt_isAllowed_46 hf kr
      · have hf := xo_neg c_ hf
        refine xr_iload_n (pc := 34) 1 dX6_isAllowed_34 rfl rfl ?_
        refine xr_bipush (pc := 35) dX6_isAllowed_35 xcb_8 ?_
        refine xr_icmp_eq (pc := 37) 46 dX6_isAllowed_37 (by decide) (fun c_ => ?_) (fun c_ => ?_)
        · have hf := xo_pos c_ hf
          refine xV_sub [] rfl ?_
          exact ok_Jt_isAllowed_46 hf kr
        · have hf := xo_neg c_ hf
          refine xr_iload_n (pc := 40) 1 dX6_isAllowed_40 rfl rfl ?_
          refine xr_bipush (pc := 41) dX6_isAllowed_41 xcb_9 ?_
          refine xr_icmp_ne (pc := 43) 50 dX6_isAllowed_43 (by decide) (fun c_ => ?_) (fun c_ => ?_)
          · have hf := xo_pos c_ hf
            refine xV_sub [] rfl ?_
            exact ok_Jt_isAllowed_46 hf kr
          · have hf := xo_neg c_ hf
            refine xr_iconst (pc := 50) dX6_isAllowed_50 xci_0 ?_
            refine xr_goto (pc := 51) 70 dX6_isAllowed_51 (by decide) ?_
            rw [kr _ (Option.some.inj hf).symm]
            exact xr_zret (pc := 70) dX6_isAllowed_70 rfl xz_0
    · have hf := xo_neg c_ hf
      refine xr_iload_n (pc := 54) 1 dX6_isAllowed_54 rfl rfl ?_
      refine xr_iconst (pc := 55) dX6_isAllowed_55 xci_3 ?_
      refine xr_icmp_eq (pc := 56) 65 dX6_isAllowed_56 (by decide) (fun c_ => ?_) (fun c_ => ?_)
      · have hf := xo_pos c_ hf
        refine xV_sub [] rfl ?_
        exact ok_Jt_isAllowed_65 hf kr
      · have hf := xo_neg c_ hf
        refine xr_iload_n (pc := 59) 1 dX6_isAllowed_59 rfl rfl ?_
        refine xr_bipush (pc := 60) dX6_isAllowed_60 xcb_9 ?_
        refine xr_icmp_le (pc := 62) 69 dX6_isAllowed_62 (by decide) (fun c_ => ?_) (fun c_ => ?_)
        · have hf := xo_pos c_ hf
          refine xr_iconst (pc := 69) dX6_isAllowed_69 xci_0 ?_
          rw [kr _ (Option.some.inj hf).symm]
          exact xr_zret (pc := 70) dX6_isAllowed_70 rfl xz_0
        · have hf := xo_neg c_ hf
          refine xV_sub [] rfl ?_
          exact ok_Jt_isAllowed_65 hf kr
theorem met_f_t_isAllowed (l : Launch) {D : TD} {m : Nat} {x1 : Int32} {τ : TS} {o_ : (Int32 × TS)} (hf : f_t_isAllowed x1 τ = some o_) : xMet (wT D m) l yX6_isAllowed (ws_ yX6_isAllowed cX6_isAllowed 2 (some .boolean)) 0 0 0 0 [.ref m, .int x1] τ (some (.int o_.1), o_.2) :=
  xMet_of (by decide) (Nat.le_of_ble_eq_true rfl) KT_moved (fun _ _ => trivial) (fun K _ _ _ => ok_f_t_isAllowed hf (fun _ h => by rw [h]))
theorem hd_f_t_isAllowed : yX6_isAllowed.cls = RX6 ∧ yX6_isAllowed.cls ≠ "java/lang/invoke/MethodHandle" ∧ yX6_isAllowed.cls ≠ "java/lang/invoke/VarHandle" ∧ (parseMethodDescriptor yX6_isAllowed.desc).map (fun d => d.parameters.length) = some 1 := by decide +kernel
theorem call_f_t_isAllowed {D : TD} {m : Nat} {K : xK} {M : xM} {Q : State → Prop} {x1 : Int32} {τ : TS} {pc : Nat} {loc : List (Nat × Value)} {st : List Value} {r : Int32} {τ1 : TS} (hf : f_t_isAllowed x1 τ = some (r, τ1)) (ho : M.2.2.1 = RX6) (hfr : 1 ≤ M.2.2.2.1) (hlo : 21 ≤ M.2.2.2.2.1) (hcat : (st.map fun v => v.category).sum ≤ 8) (d : decode M.1 pc = .ok (.invokevirtual 713, 3)) (k : xV (wT D m) K M Q τ1 (pc + 3) loc (.int r :: st)) : xV (wT D m) K M Q τ pc loc (.int x1 :: .ref m :: st) :=
  xr_callV (As := [.int x1]) (rest := st) (met_f_t_isAllowed K.2.1 hf) (lw_V q2274 q2276 qs93 q186 q2277) hd_f_t_isAllowed ho hfr hlo rfl (fun H hR hK => t_recv H hR hK) rfl hcat d k
abbrev mX6_qWordOf : xM := (cX6_qWordOf, 4, RX6, 3, 180, (some .int), "qWordOf")
def Jt_qWordOf_27 (τ : TS) : Option (Int32 × TS) :=
  some (((-1), τ))
theorem ok_Jt_qWordOf_27 {D : TD} {m : Nat} {K : xK} {Z : Option Value × TS} {τ : TS} {o_ : (Int32 × TS)} (hf : Jt_qWordOf_27 τ = some o_) (kr : ∀ r_ : (Int32 × TS), o_ = r_ → Z = (some (.int r_.1), r_.2)) : xV (wT D m) K mX6_qWordOf (xQ (wT D m) K Z) τ 27 [] [] := by
  unfold Jt_qWordOf_27 at hf
  refine xr_iconst (pc := 27) dX6_qWordOf_27 xci_m1 ?_
  rw [kr _ (Option.some.inj hf).symm]
  exact xr_iret (pc := 28) dX6_qWordOf_28 rfl
def f_t_qWordOf (x1 : Int32) (x2 : Int32) (τ : TS) : Option (Int32 × TS) :=
  xbd (f_t_qWordHere τ) fun r1 τ1 =>
  if r1 < x1 then
  Jt_qWordOf_27 τ1
  else
  if x2 ≤ r1 then
  Jt_qWordOf_27 τ1
  else
  xbd (f_t_isAllowed r1 τ1) fun r2 τ2 =>
  if r2 = 0 then
  Jt_qWordOf_27 τ2
  else
  some ((r1, τ2))
theorem ok_f_t_qWordOf {D : TD} {m : Nat} {K : xK} {Z : Option Value × TS} {x1 : Int32} {x2 : Int32} {τ : TS} {o_ : (Int32 × TS)} (hf : f_t_qWordOf x1 x2 τ = some o_) (kr : ∀ r_ : (Int32 × TS), o_ = r_ → Z = (some (.int r_.1), r_.2)) : xV (wT D m) K mX6_qWordOf (xQ (wT D m) K Z) τ 0 [(0, .ref m), (1, .int x1), (2, .int x2)] [] := by
  unfold f_t_qWordOf at hf
  refine xr_aload_n (pc := 0) 0 dX6_qWordOf_0 rfl rfl ?_
  obtain ⟨r1, τ1, hτ1, hf⟩ := xo_bd hf
  refine call_f_t_qWordHere (pc := 1) hτ1 rfl (Nat.le_of_ble_eq_true rfl) (Nat.le_of_ble_eq_true rfl) (Nat.le_of_ble_eq_true rfl) dX6_qWordOf_1 ?_
  refine xr_istore_n (pc := 4) (loc' := [(3, .int r1), (0, .ref m), (1, .int x1), (2, .int x2)]) dX6_qWordOf_4 rfl (by decide) rfl ?_
  refine xr_iload_n (pc := 5) 0 dX6_qWordOf_5 rfl rfl ?_
  refine xr_iload_n (pc := 6) 2 dX6_qWordOf_6 rfl rfl ?_
  refine xr_icmp_lt (pc := 7) 27 dX6_qWordOf_7 (by decide) (fun c_ => ?_) (fun c_ => ?_)
  · have hf := xo_pos c_ hf
    refine xV_sub [] rfl ?_
    exact ok_Jt_qWordOf_27 hf kr
  · have hf := xo_neg c_ hf
    refine xr_iload_n (pc := 10) 0 dX6_qWordOf_10 rfl rfl ?_
    refine xr_iload_n (pc := 11) 3 dX6_qWordOf_11 rfl rfl ?_
    refine xr_icmp_ge (pc := 12) 27 dX6_qWordOf_12 (by decide) (fun c_ => ?_) (fun c_ => ?_)
    · have hf := xo_pos c_ hf
      refine xV_sub [] rfl ?_
      exact ok_Jt_qWordOf_27 hf kr
    · have hf := xo_neg c_ hf
      refine xr_aload_n (pc := 15) 1 dX6_qWordOf_15 rfl rfl ?_
      refine xr_iload_n (pc := 16) 0 dX6_qWordOf_16 rfl rfl ?_
      obtain ⟨r2, τ2, hτ2, hf⟩ := xo_bd hf
      refine call_f_t_isAllowed (pc := 17) hτ2 rfl (Nat.le_of_ble_eq_true rfl) (Nat.le_of_ble_eq_true rfl) (Nat.le_of_ble_eq_true rfl) dX6_qWordOf_17 ?_
      refine xr_if_eq (pc := 20) 27 dX6_qWordOf_20 (by decide) (fun c_ => ?_) (fun c_ => ?_)
      · have hf := xo_pos c_ hf
        refine xV_sub [] rfl ?_
        exact ok_Jt_qWordOf_27 hf kr
      · have hf := xo_neg c_ hf
        refine xr_iload_n (pc := 23) 0 dX6_qWordOf_23 rfl rfl ?_
        refine xr_goto (pc := 24) 28 dX6_qWordOf_24 (by decide) ?_
        rw [kr _ (Option.some.inj hf).symm]
        exact xr_iret (pc := 28) dX6_qWordOf_28 rfl
theorem met_f_t_qWordOf (l : Launch) {D : TD} {m : Nat} {x1 : Int32} {x2 : Int32} {τ : TS} {o_ : (Int32 × TS)} (hf : f_t_qWordOf x1 x2 τ = some o_) : xMet (wT D m) l yX6_qWordOf (ws_ yX6_qWordOf cX6_qWordOf 4 (some .int)) 3 180 0 0 [.ref m, .int x1, .int x2] τ (some (.int o_.1), o_.2) :=
  xMet_of (by decide) (Nat.le_of_ble_eq_true rfl) KT_moved (fun _ _ => trivial) (fun K _ _ _ => ok_f_t_qWordOf hf (fun _ h => by rw [h]))
theorem hd_f_t_qWordOf : yX6_qWordOf.cls = RX6 ∧ yX6_qWordOf.cls ≠ "java/lang/invoke/MethodHandle" ∧ yX6_qWordOf.cls ≠ "java/lang/invoke/VarHandle" ∧ (parseMethodDescriptor yX6_qWordOf.desc).map (fun d => d.parameters.length) = some 2 := by decide +kernel
theorem call_f_t_qWordOf {D : TD} {m : Nat} {K : xK} {M : xM} {Q : State → Prop} {x1 : Int32} {x2 : Int32} {τ : TS} {pc : Nat} {loc : List (Nat × Value)} {st : List Value} {r : Int32} {τ1 : TS} (hf : f_t_qWordOf x1 x2 τ = some (r, τ1)) (ho : M.2.2.1 = RX6) (hfr : 4 ≤ M.2.2.2.1) (hlo : 203 ≤ M.2.2.2.2.1) (hcat : (st.map fun v => v.category).sum ≤ 8) (d : decode M.1 pc = .ok (.invokevirtual 716, 3)) (k : xV (wT D m) K M Q τ1 (pc + 3) loc (.int r :: st)) : xV (wT D m) K M Q τ pc loc (.int x2 :: .int x1 :: .ref m :: st) :=
  xr_callV (As := [.int x1, .int x2]) (rest := st) (met_f_t_qWordOf K.2.1 hf) (lw_V q2266 q2268 qs91 q186 q2269) hd_f_t_qWordOf ho hfr hlo rfl (fun H hR hK => t_recv H hR hK) rfl hcat d k
abbrev mX6_qAsksWord : xM := (cX6_qAsksWord, 2, RX6, 4, 240, none, "qAsksWord")
def f_t_qAsksWord (x1 : Int32) (τ : TS) : Option TS :=
  if x1 = 0 then
  (f_t_asks 100 τ).bind fun τ20 =>
  some (τ20)
  else
  if x1 = 1 then
  (f_t_asks 101 τ).bind fun τ19 =>
  some (τ19)
  else
  if x1 = 2 then
  (f_t_asks 102 τ).bind fun τ18 =>
  some (τ18)
  else
  if x1 = 3 then
  (f_t_asks 103 τ).bind fun τ17 =>
  some (τ17)
  else
  if x1 = 4 then
  (f_t_asks 104 τ).bind fun τ16 =>
  some (τ16)
  else
  if x1 = 5 then
  (f_t_asks 105 τ).bind fun τ15 =>
  some (τ15)
  else
  if x1 = 6 then
  (f_t_asks 106 τ).bind fun τ14 =>
  some (τ14)
  else
  if x1 = 7 then
  (f_t_asks 107 τ).bind fun τ13 =>
  some (τ13)
  else
  if x1 = 8 then
  (f_t_asks 108 τ).bind fun τ12 =>
  some (τ12)
  else
  if x1 = 9 then
  (f_t_asks 109 τ).bind fun τ11 =>
  some (τ11)
  else
  if x1 = 10 then
  (f_t_asks 110 τ).bind fun τ10 =>
  some (τ10)
  else
  if x1 = 11 then
  (f_t_asks 111 τ).bind fun τ9 =>
  some (τ9)
  else
  if x1 = 12 then
  (f_t_asks 112 τ).bind fun τ8 =>
  some (τ8)
  else
  if x1 = 13 then
  (f_t_asks 113 τ).bind fun τ7 =>
  some (τ7)
  else
  if x1 = 14 then
  (f_t_asks 114 τ).bind fun τ6 =>
  some (τ6)
  else
  if x1 = 15 then
  (f_t_asks 115 τ).bind fun τ5 =>
  some (τ5)
  else
  if x1 = 16 then
  (f_t_asks 116 τ).bind fun τ4 =>
  some (τ4)
  else
  if x1 = 17 then
  (f_t_asks 117 τ).bind fun τ3 =>
  some (τ3)
  else
  if x1 = 18 then
  (f_t_asks 118 τ).bind fun τ2 =>
  some (τ2)
  else
  (f_t_asks 119 τ).bind fun τ1 =>
  some (τ1)
theorem ok_f_t_qAsksWord {D : TD} {m : Nat} {K : xK} {Z : Option Value × TS} {x1 : Int32} {τ : TS} {o_ : TS} (hf : f_t_qAsksWord x1 τ = some o_) (kr : ∀ r_ : TS, o_ = r_ → Z = (none, r_)) : xV (wT D m) K mX6_qAsksWord (xQ (wT D m) K Z) τ 0 [(0, .ref m), (1, .int x1)] [] := by
  unfold f_t_qAsksWord at hf
  refine xr_iload_n (pc := 0) 1 dX6_qAsksWord_0 rfl rfl ?_
  by_cases c0_ : x1 = 0
  · have hf := xo_pos c0_ hf
    refine xr_tsw_in (pc := 1) (v := 0) (off := 91) 92 dX6_qAsksWord_1 c0_ (by decide) (by decide +kernel) (by decide) ?_
    refine xr_aload_n (pc := 92) 0 dX6_qAsksWord_92 rfl rfl ?_
    refine xr_aload_n (pc := 93) 0 dX6_qAsksWord_93 rfl rfl ?_
    refine xt_getA (pc := 94) 100 (by decide) q1846 rfl rfl rfl dX6_qAsksWord_94 ?_
    obtain ⟨τ20, hτ20, hf⟩ := xo_bind hf
    refine call_f_t_asks (pc := 97) hτ20 rfl (Nat.le_of_ble_eq_true rfl) (Nat.le_of_ble_eq_true rfl) (Nat.le_of_ble_eq_true rfl) dX6_qAsksWord_97 ?_
    refine xr_goto (pc := 100) 309 dX6_qAsksWord_100 (by decide) ?_
    rw [kr _ (Option.some.inj hf).symm]
    exact xr_vret (pc := 309) dX6_qAsksWord_309 rfl
  have hf := xo_neg c0_ hf
  by_cases c1_ : x1 = 1
  · have hf := xo_pos c1_ hf
    refine xr_tsw_in (pc := 1) (v := 1) (off := 102) 103 dX6_qAsksWord_1 c1_ (by decide) (by decide +kernel) (by decide) ?_
    refine xr_aload_n (pc := 103) 0 dX6_qAsksWord_103 rfl rfl ?_
    refine xr_aload_n (pc := 104) 0 dX6_qAsksWord_104 rfl rfl ?_
    refine xt_getA (pc := 105) 101 (by decide) q1847 rfl rfl rfl dX6_qAsksWord_105 ?_
    obtain ⟨τ19, hτ19, hf⟩ := xo_bind hf
    refine call_f_t_asks (pc := 108) hτ19 rfl (Nat.le_of_ble_eq_true rfl) (Nat.le_of_ble_eq_true rfl) (Nat.le_of_ble_eq_true rfl) dX6_qAsksWord_108 ?_
    refine xr_goto (pc := 111) 309 dX6_qAsksWord_111 (by decide) ?_
    rw [kr _ (Option.some.inj hf).symm]
    exact xr_vret (pc := 309) dX6_qAsksWord_309 rfl
  have hf := xo_neg c1_ hf
  by_cases c2_ : x1 = 2
  · have hf := xo_pos c2_ hf
    refine xr_tsw_in (pc := 1) (v := 2) (off := 113) 114 dX6_qAsksWord_1 c2_ (by decide) (by decide +kernel) (by decide) ?_
    refine xr_aload_n (pc := 114) 0 dX6_qAsksWord_114 rfl rfl ?_
    refine xr_aload_n (pc := 115) 0 dX6_qAsksWord_115 rfl rfl ?_
    refine xt_getA (pc := 116) 102 (by decide) q1848 rfl rfl rfl dX6_qAsksWord_116 ?_
    obtain ⟨τ18, hτ18, hf⟩ := xo_bind hf
    refine call_f_t_asks (pc := 119) hτ18 rfl (Nat.le_of_ble_eq_true rfl) (Nat.le_of_ble_eq_true rfl) (Nat.le_of_ble_eq_true rfl) dX6_qAsksWord_119 ?_
    refine xr_goto (pc := 122) 309 dX6_qAsksWord_122 (by decide) ?_
    rw [kr _ (Option.some.inj hf).symm]
    exact xr_vret (pc := 309) dX6_qAsksWord_309 rfl
  have hf := xo_neg c2_ hf
  by_cases c3_ : x1 = 3
  · have hf := xo_pos c3_ hf
    refine xr_tsw_in (pc := 1) (v := 3) (off := 124) 125 dX6_qAsksWord_1 c3_ (by decide) (by decide +kernel) (by decide) ?_
    refine xr_aload_n (pc := 125) 0 dX6_qAsksWord_125 rfl rfl ?_
    refine xr_aload_n (pc := 126) 0 dX6_qAsksWord_126 rfl rfl ?_
    refine xt_getA (pc := 127) 103 (by decide) q1849 rfl rfl rfl dX6_qAsksWord_127 ?_
    obtain ⟨τ17, hτ17, hf⟩ := xo_bind hf
    refine call_f_t_asks (pc := 130) hτ17 rfl (Nat.le_of_ble_eq_true rfl) (Nat.le_of_ble_eq_true rfl) (Nat.le_of_ble_eq_true rfl) dX6_qAsksWord_130 ?_
    refine xr_goto (pc := 133) 309 dX6_qAsksWord_133 (by decide) ?_
    rw [kr _ (Option.some.inj hf).symm]
    exact xr_vret (pc := 309) dX6_qAsksWord_309 rfl
  have hf := xo_neg c3_ hf
  by_cases c4_ : x1 = 4
  · have hf := xo_pos c4_ hf
    refine xr_tsw_in (pc := 1) (v := 4) (off := 135) 136 dX6_qAsksWord_1 c4_ (by decide) (by decide +kernel) (by decide) ?_
    refine xr_aload_n (pc := 136) 0 dX6_qAsksWord_136 rfl rfl ?_
    refine xr_aload_n (pc := 137) 0 dX6_qAsksWord_137 rfl rfl ?_
    refine xt_getA (pc := 138) 104 (by decide) q1850 rfl rfl rfl dX6_qAsksWord_138 ?_
    obtain ⟨τ16, hτ16, hf⟩ := xo_bind hf
    refine call_f_t_asks (pc := 141) hτ16 rfl (Nat.le_of_ble_eq_true rfl) (Nat.le_of_ble_eq_true rfl) (Nat.le_of_ble_eq_true rfl) dX6_qAsksWord_141 ?_
    refine xr_goto (pc := 144) 309 dX6_qAsksWord_144 (by decide) ?_
    rw [kr _ (Option.some.inj hf).symm]
    exact xr_vret (pc := 309) dX6_qAsksWord_309 rfl
  have hf := xo_neg c4_ hf
  by_cases c5_ : x1 = 5
  · have hf := xo_pos c5_ hf
    refine xr_tsw_in (pc := 1) (v := 5) (off := 146) 147 dX6_qAsksWord_1 c5_ (by decide) (by decide +kernel) (by decide) ?_
    refine xr_aload_n (pc := 147) 0 dX6_qAsksWord_147 rfl rfl ?_
    refine xr_aload_n (pc := 148) 0 dX6_qAsksWord_148 rfl rfl ?_
    refine xt_getA (pc := 149) 105 (by decide) q1851 rfl rfl rfl dX6_qAsksWord_149 ?_
    obtain ⟨τ15, hτ15, hf⟩ := xo_bind hf
    refine call_f_t_asks (pc := 152) hτ15 rfl (Nat.le_of_ble_eq_true rfl) (Nat.le_of_ble_eq_true rfl) (Nat.le_of_ble_eq_true rfl) dX6_qAsksWord_152 ?_
    refine xr_goto (pc := 155) 309 dX6_qAsksWord_155 (by decide) ?_
    rw [kr _ (Option.some.inj hf).symm]
    exact xr_vret (pc := 309) dX6_qAsksWord_309 rfl
  have hf := xo_neg c5_ hf
  by_cases c6_ : x1 = 6
  · have hf := xo_pos c6_ hf
    refine xr_tsw_in (pc := 1) (v := 6) (off := 157) 158 dX6_qAsksWord_1 c6_ (by decide) (by decide +kernel) (by decide) ?_
    refine xr_aload_n (pc := 158) 0 dX6_qAsksWord_158 rfl rfl ?_
    refine xr_aload_n (pc := 159) 0 dX6_qAsksWord_159 rfl rfl ?_
    refine xt_getA (pc := 160) 106 (by decide) q1852 rfl rfl rfl dX6_qAsksWord_160 ?_
    obtain ⟨τ14, hτ14, hf⟩ := xo_bind hf
    refine call_f_t_asks (pc := 163) hτ14 rfl (Nat.le_of_ble_eq_true rfl) (Nat.le_of_ble_eq_true rfl) (Nat.le_of_ble_eq_true rfl) dX6_qAsksWord_163 ?_
    refine xr_goto (pc := 166) 309 dX6_qAsksWord_166 (by decide) ?_
    rw [kr _ (Option.some.inj hf).symm]
    exact xr_vret (pc := 309) dX6_qAsksWord_309 rfl
  have hf := xo_neg c6_ hf
  by_cases c7_ : x1 = 7
  · have hf := xo_pos c7_ hf
    refine xr_tsw_in (pc := 1) (v := 7) (off := 168) 169 dX6_qAsksWord_1 c7_ (by decide) (by decide +kernel) (by decide) ?_
    refine xr_aload_n (pc := 169) 0 dX6_qAsksWord_169 rfl rfl ?_
    refine xr_aload_n (pc := 170) 0 dX6_qAsksWord_170 rfl rfl ?_
    refine xt_getA (pc := 171) 107 (by decide) q1853 rfl rfl rfl dX6_qAsksWord_171 ?_
    obtain ⟨τ13, hτ13, hf⟩ := xo_bind hf
    refine call_f_t_asks (pc := 174) hτ13 rfl (Nat.le_of_ble_eq_true rfl) (Nat.le_of_ble_eq_true rfl) (Nat.le_of_ble_eq_true rfl) dX6_qAsksWord_174 ?_
    refine xr_goto (pc := 177) 309 dX6_qAsksWord_177 (by decide) ?_
    rw [kr _ (Option.some.inj hf).symm]
    exact xr_vret (pc := 309) dX6_qAsksWord_309 rfl
  have hf := xo_neg c7_ hf
  by_cases c8_ : x1 = 8
  · have hf := xo_pos c8_ hf
    refine xr_tsw_in (pc := 1) (v := 8) (off := 179) 180 dX6_qAsksWord_1 c8_ (by decide) (by decide +kernel) (by decide) ?_
    refine xr_aload_n (pc := 180) 0 dX6_qAsksWord_180 rfl rfl ?_
    refine xr_aload_n (pc := 181) 0 dX6_qAsksWord_181 rfl rfl ?_
    refine xt_getA (pc := 182) 108 (by decide) q1854 rfl rfl rfl dX6_qAsksWord_182 ?_
    obtain ⟨τ12, hτ12, hf⟩ := xo_bind hf
    refine call_f_t_asks (pc := 185) hτ12 rfl (Nat.le_of_ble_eq_true rfl) (Nat.le_of_ble_eq_true rfl) (Nat.le_of_ble_eq_true rfl) dX6_qAsksWord_185 ?_
    refine xr_goto (pc := 188) 309 dX6_qAsksWord_188 (by decide) ?_
    rw [kr _ (Option.some.inj hf).symm]
    exact xr_vret (pc := 309) dX6_qAsksWord_309 rfl
  have hf := xo_neg c8_ hf
  by_cases c9_ : x1 = 9
  · have hf := xo_pos c9_ hf
    refine xr_tsw_in (pc := 1) (v := 9) (off := 190) 191 dX6_qAsksWord_1 c9_ (by decide) (by decide +kernel) (by decide) ?_
    refine xr_aload_n (pc := 191) 0 dX6_qAsksWord_191 rfl rfl ?_
    refine xr_aload_n (pc := 192) 0 dX6_qAsksWord_192 rfl rfl ?_
    refine xt_getA (pc := 193) 109 (by decide) q1855 rfl rfl rfl dX6_qAsksWord_193 ?_
    obtain ⟨τ11, hτ11, hf⟩ := xo_bind hf
    refine call_f_t_asks (pc := 196) hτ11 rfl (Nat.le_of_ble_eq_true rfl) (Nat.le_of_ble_eq_true rfl) (Nat.le_of_ble_eq_true rfl) dX6_qAsksWord_196 ?_
    refine xr_goto (pc := 199) 309 dX6_qAsksWord_199 (by decide) ?_
    rw [kr _ (Option.some.inj hf).symm]
    exact xr_vret (pc := 309) dX6_qAsksWord_309 rfl
  have hf := xo_neg c9_ hf
  by_cases c10_ : x1 = 10
  · have hf := xo_pos c10_ hf
    refine xr_tsw_in (pc := 1) (v := 10) (off := 201) 202 dX6_qAsksWord_1 c10_ (by decide) (by decide +kernel) (by decide) ?_
    refine xr_aload_n (pc := 202) 0 dX6_qAsksWord_202 rfl rfl ?_
    refine xr_aload_n (pc := 203) 0 dX6_qAsksWord_203 rfl rfl ?_
    refine xt_getA (pc := 204) 110 (by decide) q1856 rfl rfl rfl dX6_qAsksWord_204 ?_
    obtain ⟨τ10, hτ10, hf⟩ := xo_bind hf
    refine call_f_t_asks (pc := 207) hτ10 rfl (Nat.le_of_ble_eq_true rfl) (Nat.le_of_ble_eq_true rfl) (Nat.le_of_ble_eq_true rfl) dX6_qAsksWord_207 ?_
    refine xr_goto (pc := 210) 309 dX6_qAsksWord_210 (by decide) ?_
    rw [kr _ (Option.some.inj hf).symm]
    exact xr_vret (pc := 309) dX6_qAsksWord_309 rfl
  have hf := xo_neg c10_ hf
  by_cases c11_ : x1 = 11
  · have hf := xo_pos c11_ hf
    refine xr_tsw_in (pc := 1) (v := 11) (off := 212) 213 dX6_qAsksWord_1 c11_ (by decide) (by decide +kernel) (by decide) ?_
    refine xr_aload_n (pc := 213) 0 dX6_qAsksWord_213 rfl rfl ?_
    refine xr_aload_n (pc := 214) 0 dX6_qAsksWord_214 rfl rfl ?_
    refine xt_getA (pc := 215) 111 (by decide) q1857 rfl rfl rfl dX6_qAsksWord_215 ?_
    obtain ⟨τ9, hτ9, hf⟩ := xo_bind hf
    refine call_f_t_asks (pc := 218) hτ9 rfl (Nat.le_of_ble_eq_true rfl) (Nat.le_of_ble_eq_true rfl) (Nat.le_of_ble_eq_true rfl) dX6_qAsksWord_218 ?_
    refine xr_goto (pc := 221) 309 dX6_qAsksWord_221 (by decide) ?_
    rw [kr _ (Option.some.inj hf).symm]
    exact xr_vret (pc := 309) dX6_qAsksWord_309 rfl
  have hf := xo_neg c11_ hf
  by_cases c12_ : x1 = 12
  · have hf := xo_pos c12_ hf
    refine xr_tsw_in (pc := 1) (v := 12) (off := 223) 224 dX6_qAsksWord_1 c12_ (by decide) (by decide +kernel) (by decide) ?_
    refine xr_aload_n (pc := 224) 0 dX6_qAsksWord_224 rfl rfl ?_
    refine xr_aload_n (pc := 225) 0 dX6_qAsksWord_225 rfl rfl ?_
    refine xt_getA (pc := 226) 112 (by decide) q1858 rfl rfl rfl dX6_qAsksWord_226 ?_
    obtain ⟨τ8, hτ8, hf⟩ := xo_bind hf
    refine call_f_t_asks (pc := 229) hτ8 rfl (Nat.le_of_ble_eq_true rfl) (Nat.le_of_ble_eq_true rfl) (Nat.le_of_ble_eq_true rfl) dX6_qAsksWord_229 ?_
    refine xr_goto (pc := 232) 309 dX6_qAsksWord_232 (by decide) ?_
    rw [kr _ (Option.some.inj hf).symm]
    exact xr_vret (pc := 309) dX6_qAsksWord_309 rfl
  have hf := xo_neg c12_ hf
  by_cases c13_ : x1 = 13
  · have hf := xo_pos c13_ hf
    refine xr_tsw_in (pc := 1) (v := 13) (off := 234) 235 dX6_qAsksWord_1 c13_ (by decide) (by decide +kernel) (by decide) ?_
    refine xr_aload_n (pc := 235) 0 dX6_qAsksWord_235 rfl rfl ?_
    refine xr_aload_n (pc := 236) 0 dX6_qAsksWord_236 rfl rfl ?_
    refine xt_getA (pc := 237) 113 (by decide) q1859 rfl rfl rfl dX6_qAsksWord_237 ?_
    obtain ⟨τ7, hτ7, hf⟩ := xo_bind hf
    refine call_f_t_asks (pc := 240) hτ7 rfl (Nat.le_of_ble_eq_true rfl) (Nat.le_of_ble_eq_true rfl) (Nat.le_of_ble_eq_true rfl) dX6_qAsksWord_240 ?_
    refine xr_goto (pc := 243) 309 dX6_qAsksWord_243 (by decide) ?_
    rw [kr _ (Option.some.inj hf).symm]
    exact xr_vret (pc := 309) dX6_qAsksWord_309 rfl
  have hf := xo_neg c13_ hf
  by_cases c14_ : x1 = 14
  · have hf := xo_pos c14_ hf
    refine xr_tsw_in (pc := 1) (v := 14) (off := 245) 246 dX6_qAsksWord_1 c14_ (by decide) (by decide +kernel) (by decide) ?_
    refine xr_aload_n (pc := 246) 0 dX6_qAsksWord_246 rfl rfl ?_
    refine xr_aload_n (pc := 247) 0 dX6_qAsksWord_247 rfl rfl ?_
    refine xt_getA (pc := 248) 114 (by decide) q1860 rfl rfl rfl dX6_qAsksWord_248 ?_
    obtain ⟨τ6, hτ6, hf⟩ := xo_bind hf
    refine call_f_t_asks (pc := 251) hτ6 rfl (Nat.le_of_ble_eq_true rfl) (Nat.le_of_ble_eq_true rfl) (Nat.le_of_ble_eq_true rfl) dX6_qAsksWord_251 ?_
    refine xr_goto (pc := 254) 309 dX6_qAsksWord_254 (by decide) ?_
    rw [kr _ (Option.some.inj hf).symm]
    exact xr_vret (pc := 309) dX6_qAsksWord_309 rfl
  have hf := xo_neg c14_ hf
  by_cases c15_ : x1 = 15
  · have hf := xo_pos c15_ hf
    refine xr_tsw_in (pc := 1) (v := 15) (off := 256) 257 dX6_qAsksWord_1 c15_ (by decide) (by decide +kernel) (by decide) ?_
    refine xr_aload_n (pc := 257) 0 dX6_qAsksWord_257 rfl rfl ?_
    refine xr_aload_n (pc := 258) 0 dX6_qAsksWord_258 rfl rfl ?_
    refine xt_getA (pc := 259) 115 (by decide) q1861 rfl rfl rfl dX6_qAsksWord_259 ?_
    obtain ⟨τ5, hτ5, hf⟩ := xo_bind hf
    refine call_f_t_asks (pc := 262) hτ5 rfl (Nat.le_of_ble_eq_true rfl) (Nat.le_of_ble_eq_true rfl) (Nat.le_of_ble_eq_true rfl) dX6_qAsksWord_262 ?_
    refine xr_goto (pc := 265) 309 dX6_qAsksWord_265 (by decide) ?_
    rw [kr _ (Option.some.inj hf).symm]
    exact xr_vret (pc := 309) dX6_qAsksWord_309 rfl
  have hf := xo_neg c15_ hf
  by_cases c16_ : x1 = 16
  · have hf := xo_pos c16_ hf
    refine xr_tsw_in (pc := 1) (v := 16) (off := 267) 268 dX6_qAsksWord_1 c16_ (by decide) (by decide +kernel) (by decide) ?_
    refine xr_aload_n (pc := 268) 0 dX6_qAsksWord_268 rfl rfl ?_
    refine xr_aload_n (pc := 269) 0 dX6_qAsksWord_269 rfl rfl ?_
    refine xt_getA (pc := 270) 116 (by decide) q1862 rfl rfl rfl dX6_qAsksWord_270 ?_
    obtain ⟨τ4, hτ4, hf⟩ := xo_bind hf
    refine call_f_t_asks (pc := 273) hτ4 rfl (Nat.le_of_ble_eq_true rfl) (Nat.le_of_ble_eq_true rfl) (Nat.le_of_ble_eq_true rfl) dX6_qAsksWord_273 ?_
    refine xr_goto (pc := 276) 309 dX6_qAsksWord_276 (by decide) ?_
    rw [kr _ (Option.some.inj hf).symm]
    exact xr_vret (pc := 309) dX6_qAsksWord_309 rfl
  have hf := xo_neg c16_ hf
  by_cases c17_ : x1 = 17
  · have hf := xo_pos c17_ hf
    refine xr_tsw_in (pc := 1) (v := 17) (off := 278) 279 dX6_qAsksWord_1 c17_ (by decide) (by decide +kernel) (by decide) ?_
    refine xr_aload_n (pc := 279) 0 dX6_qAsksWord_279 rfl rfl ?_
    refine xr_aload_n (pc := 280) 0 dX6_qAsksWord_280 rfl rfl ?_
    refine xt_getA (pc := 281) 117 (by decide) q1863 rfl rfl rfl dX6_qAsksWord_281 ?_
    obtain ⟨τ3, hτ3, hf⟩ := xo_bind hf
    refine call_f_t_asks (pc := 284) hτ3 rfl (Nat.le_of_ble_eq_true rfl) (Nat.le_of_ble_eq_true rfl) (Nat.le_of_ble_eq_true rfl) dX6_qAsksWord_284 ?_
    refine xr_goto (pc := 287) 309 dX6_qAsksWord_287 (by decide) ?_
    rw [kr _ (Option.some.inj hf).symm]
    exact xr_vret (pc := 309) dX6_qAsksWord_309 rfl
  have hf := xo_neg c17_ hf
  by_cases c18_ : x1 = 18
  · have hf := xo_pos c18_ hf
    refine xr_tsw_in (pc := 1) (v := 18) (off := 289) 290 dX6_qAsksWord_1 c18_ (by decide) (by decide +kernel) (by decide) ?_
    refine xr_aload_n (pc := 290) 0 dX6_qAsksWord_290 rfl rfl ?_
    refine xr_aload_n (pc := 291) 0 dX6_qAsksWord_291 rfl rfl ?_
    refine xt_getA (pc := 292) 118 (by decide) q1864 rfl rfl rfl dX6_qAsksWord_292 ?_
    obtain ⟨τ2, hτ2, hf⟩ := xo_bind hf
    refine call_f_t_asks (pc := 295) hτ2 rfl (Nat.le_of_ble_eq_true rfl) (Nat.le_of_ble_eq_true rfl) (Nat.le_of_ble_eq_true rfl) dX6_qAsksWord_295 ?_
    refine xr_goto (pc := 298) 309 dX6_qAsksWord_298 (by decide) ?_
    rw [kr _ (Option.some.inj hf).symm]
    exact xr_vret (pc := 309) dX6_qAsksWord_309 rfl
  have hf := xo_neg c18_ hf
  refine xr_tsw_out (pc := 1) 301 dX6_qAsksWord_1 (xsw_out 0 18 [0, 1, 2, 3, 4, 5, 6, 7, 8, 9, 10, 11, 12, 13, 14, 15, 16, 17, 18] (by decide +kernel) (List.forall_mem_cons.mpr ⟨c0_, List.forall_mem_cons.mpr ⟨c1_, List.forall_mem_cons.mpr ⟨c2_, List.forall_mem_cons.mpr ⟨c3_, List.forall_mem_cons.mpr ⟨c4_, List.forall_mem_cons.mpr ⟨c5_, List.forall_mem_cons.mpr ⟨c6_, List.forall_mem_cons.mpr ⟨c7_, List.forall_mem_cons.mpr ⟨c8_, List.forall_mem_cons.mpr ⟨c9_, List.forall_mem_cons.mpr ⟨c10_, List.forall_mem_cons.mpr ⟨c11_, List.forall_mem_cons.mpr ⟨c12_, List.forall_mem_cons.mpr ⟨c13_, List.forall_mem_cons.mpr ⟨c14_, List.forall_mem_cons.mpr ⟨c15_, List.forall_mem_cons.mpr ⟨c16_, List.forall_mem_cons.mpr ⟨c17_, List.forall_mem_cons.mpr ⟨c18_, List.forall_mem_nil _⟩⟩⟩⟩⟩⟩⟩⟩⟩⟩⟩⟩⟩⟩⟩⟩⟩⟩⟩)) (by decide) ?_
  refine xr_aload_n (pc := 301) 0 dX6_qAsksWord_301 rfl rfl ?_
  refine xr_aload_n (pc := 302) 0 dX6_qAsksWord_302 rfl rfl ?_
  refine xt_getA (pc := 303) 119 (by decide) q1865 rfl rfl rfl dX6_qAsksWord_303 ?_
  obtain ⟨τ1, hτ1, hf⟩ := xo_bind hf
  refine call_f_t_asks (pc := 306) hτ1 rfl (Nat.le_of_ble_eq_true rfl) (Nat.le_of_ble_eq_true rfl) (Nat.le_of_ble_eq_true rfl) dX6_qAsksWord_306 ?_
  rw [kr _ (Option.some.inj hf).symm]
  exact xr_vret (pc := 309) dX6_qAsksWord_309 rfl
theorem met_f_t_qAsksWord (l : Launch) {D : TD} {m : Nat} {x1 : Int32} {τ : TS} {o_ : TS} (hf : f_t_qAsksWord x1 τ = some o_) : xMet (wT D m) l yX6_qAsksWord (ws_ yX6_qAsksWord cX6_qAsksWord 2 none) 4 240 0 0 [.ref m, .int x1] τ (none, o_) :=
  xMet_of (by decide) (Nat.le_of_ble_eq_true rfl) KT_moved (fun _ _ => trivial) (fun K _ _ _ => ok_f_t_qAsksWord hf (fun _ h => by rw [h]))
theorem hd_f_t_qAsksWord : yX6_qAsksWord.cls = RX6 ∧ yX6_qAsksWord.cls ≠ "java/lang/invoke/MethodHandle" ∧ yX6_qAsksWord.cls ≠ "java/lang/invoke/VarHandle" ∧ (parseMethodDescriptor yX6_qAsksWord.desc).map (fun d => d.parameters.length) = some 1 := by decide +kernel
theorem call_f_t_qAsksWord {D : TD} {m : Nat} {K : xK} {M : xM} {Q : State → Prop} {x1 : Int32} {τ : TS} {pc : Nat} {loc : List (Nat × Value)} {st : List Value} {τ1 : TS} (hf : f_t_qAsksWord x1 τ = some τ1) (ho : M.2.2.1 = RX6) (hfr : 5 ≤ M.2.2.2.1) (hlo : 261 ≤ M.2.2.2.2.1) (hcat : (st.map fun v => v.category).sum ≤ 8) (d : decode M.1 pc = .ok (.invokevirtual 722, 3)) (k : xV (wT D m) K M Q τ1 (pc + 3) loc st) : xV (wT D m) K M Q τ pc loc (.int x1 :: .ref m :: st) :=
  xr_callV (As := [.int x1]) (rest := st) (met_f_t_qAsksWord K.2.1 hf) (lw_V q2278 q2280 qs94 q186 q2281) hd_f_t_qAsksWord ho hfr hlo rfl (fun H hR hK => t_recv H hR hK) rfl hcat d k
abbrev mX6_qDrops : xM := (cX6_qDrops, 1, RX6, 1, 60, none, "qDrops")
def f_t_qDrops (τ : TS) : Option TS :=
  if xin (tI (sI τ 123 ((tI τ 123) - 1)) 123) 1700 = true then
  (f_t_qCode (tA (sI τ 123 ((tI τ 123) - 1)) 122 (tI (sI τ 123 ((tI τ 123) - 1)) 123).toNatClampNeg) (sI τ 123 ((tI τ 123) - 1))).bind fun τ1 =>
  some (τ1)
  else none
theorem ok_f_t_qDrops {D : TD} {m : Nat} {K : xK} {Z : Option Value × TS} {τ : TS} {o_ : TS} (hf : f_t_qDrops τ = some o_) (kr : ∀ r_ : TS, o_ = r_ → Z = (none, r_)) : xV (wT D m) K mX6_qDrops (xQ (wT D m) K Z) τ 0 [(0, .ref m)] [] := by
  unfold f_t_qDrops at hf
  refine xr_aload_n (pc := 0) 0 dX6_qDrops_0 rfl rfl ?_
  refine xr_dup (pc := 1) dX6_qDrops_1 rfl ?_
  refine xt_getI (pc := 2) 123 (by decide) q1869 rfl rfl rfl dX6_qDrops_2 ?_
  refine xr_iconst (pc := 5) dX6_qDrops_5 xci_1 ?_
  refine xr_isub (pc := 6) dX6_qDrops_6 ?_
  refine xt_putI (pc := 7) 123 (by decide) q1869 rfl rfl rfl (by decide +kernel) rfl dX6_qDrops_7 ?_
  refine xr_aload_n (pc := 10) 0 dX6_qDrops_10 rfl rfl ?_
  refine xr_aload_n (pc := 11) 0 dX6_qDrops_11 rfl rfl ?_
  refine xt_getA (pc := 12) 122 (by decide) q1868 rfl rfl rfl dX6_qDrops_12 ?_
  refine xr_aload_n (pc := 15) 0 dX6_qDrops_15 rfl rfl ?_
  refine xt_getI (pc := 16) 123 (by decide) q1869 rfl rfl rfl dX6_qDrops_16 ?_
  obtain ⟨hi_, hf⟩ := xo_if hf
  refine xt_iald (pc := 19) 122 rfl rfl hi_ dX6_qDrops_19 ?_
  obtain ⟨τ1, hτ1, hf⟩ := xo_bind hf
  refine call_f_t_qCode (pc := 20) hτ1 rfl (Nat.le_of_ble_eq_true rfl) (Nat.le_of_ble_eq_true rfl) (Nat.le_of_ble_eq_true rfl) dX6_qDrops_20 ?_
  rw [kr _ (Option.some.inj hf).symm]
  exact xr_vret (pc := 23) dX6_qDrops_23 rfl
theorem met_f_t_qDrops (l : Launch) {D : TD} {m : Nat} {τ : TS} {o_ : TS} (hf : f_t_qDrops τ = some o_) : xMet (wT D m) l yX6_qDrops (ws_ yX6_qDrops cX6_qDrops 1 none) 1 60 0 0 [.ref m] τ (none, o_) :=
  xMet_of (by decide) (Nat.le_of_ble_eq_true rfl) KT_moved (fun _ _ => trivial) (fun K _ _ _ => ok_f_t_qDrops hf (fun _ h => by rw [h]))
theorem hd_f_t_qDrops : yX6_qDrops.cls = RX6 ∧ yX6_qDrops.cls ≠ "java/lang/invoke/MethodHandle" ∧ yX6_qDrops.cls ≠ "java/lang/invoke/VarHandle" ∧ (parseMethodDescriptor yX6_qDrops.desc).map (fun d => d.parameters.length) = some 0 := by decide +kernel
theorem call_f_t_qDrops {D : TD} {m : Nat} {K : xK} {M : xM} {Q : State → Prop} {τ : TS} {pc : Nat} {loc : List (Nat × Value)} {st : List Value} {τ1 : TS} (hf : f_t_qDrops τ = some τ1) (ho : M.2.2.1 = RX6) (hfr : 2 ≤ M.2.2.2.1) (hlo : 80 ≤ M.2.2.2.2.1) (hcat : (st.map fun v => v.category).sum ≤ 8) (d : decode M.1 pc = .ok (.invokevirtual 707, 3)) (k : xV (wT D m) K M Q τ1 (pc + 3) loc st) : xV (wT D m) K M Q τ pc loc (.ref m :: st) :=
  xr_callV (As := []) (rest := st) (met_f_t_qDrops K.2.1 hf) (lw_V q2286 q2288 qs96 q186 q2289) hd_f_t_qDrops ho hfr hlo rfl (fun H hR hK => t_recv H hR hK) rfl hcat d k
abbrev mX6_qEndsPart : xM := (cX6_qEndsPart, 1, RX6, 2, 120, none, "qEndsPart")
def Bt_qEndsPart_0 (τ : TS) : Option ((TS) ⊕ ((TS))) :=
  if (tI τ 5) = 0 then
  if (tI τ 123) ≤ (tI τ 125) then
  some (.inr τ)
  else
  if xin ((tI τ 123) - 1) 1700 = true then
  if (tA τ 122 ((tI τ 123) - 1).toNatClampNeg) < 60 then
  some (.inr τ)
  else
  (f_t_qDrops (sI τ 124 ((tI τ 124) - 1))).bind fun τ1 =>
  some (.inl τ1)
  else none
  else
  some (.inr τ)
theorem ok_Bt_qEndsPart_0 {D : TD} {m : Nat} {K : xK} {Z : Option Value × TS} {τ : TS} {o_ : ((TS) ⊕ ((TS)))} (hf : Bt_qEndsPart_0 τ = some o_) (kc : ∀ s_ : TS, o_ = .inl s_ → xV (wT D m) K mX6_qEndsPart (xQ (wT D m) K Z) s_ 0 [(0, .ref m)] []) (ke0 : ∀ e_ : TS, o_ = .inr e_ → xV (wT D m) K mX6_qEndsPart (xQ (wT D m) K Z) e_ 51 [] []) : xV (wT D m) K mX6_qEndsPart (xQ (wT D m) K Z) τ 0 [(0, .ref m)] [] := by
  unfold Bt_qEndsPart_0 at hf
  refine xr_aload_n (pc := 0) 0 dX6_qEndsPart_0 rfl rfl ?_
  refine xt_getI (pc := 1) 5 (by decide) q1751 rfl rfl rfl dX6_qEndsPart_1 ?_
  refine xr_if_ne (pc := 4) 51 dX6_qEndsPart_4 (by decide) (fun c_ => ?_) (fun c_ => ?_)
  · have hf := xo_pos c_ hf
    refine xr_aload_n (pc := 7) 0 dX6_qEndsPart_7 rfl rfl ?_
    refine xt_getI (pc := 8) 123 (by decide) q1869 rfl rfl rfl dX6_qEndsPart_8 ?_
    refine xr_aload_n (pc := 11) 0 dX6_qEndsPart_11 rfl rfl ?_
    refine xt_getI (pc := 12) 125 (by decide) q1871 rfl rfl rfl dX6_qEndsPart_12 ?_
    refine xr_icmp_le (pc := 15) 51 dX6_qEndsPart_15 (by decide) (fun c_ => ?_) (fun c_ => ?_)
    · have hf := xo_pos c_ hf
      refine xV_sub [] rfl ?_
      exact ke0 _ (Option.some.inj hf).symm
    · have hf := xo_neg c_ hf
      refine xr_aload_n (pc := 18) 0 dX6_qEndsPart_18 rfl rfl ?_
      refine xt_getA (pc := 19) 122 (by decide) q1868 rfl rfl rfl dX6_qEndsPart_19 ?_
      refine xr_aload_n (pc := 22) 0 dX6_qEndsPart_22 rfl rfl ?_
      refine xt_getI (pc := 23) 123 (by decide) q1869 rfl rfl rfl dX6_qEndsPart_23 ?_
      refine xr_iconst (pc := 26) dX6_qEndsPart_26 xci_1 ?_
      refine xr_isub (pc := 27) dX6_qEndsPart_27 ?_
      obtain ⟨hi_, hf⟩ := xo_if hf
      refine xt_iald (pc := 28) 122 rfl rfl hi_ dX6_qEndsPart_28 ?_
      refine xr_bipush (pc := 29) dX6_qEndsPart_29 xcb_60 ?_
      refine xr_icmp_lt (pc := 31) 51 dX6_qEndsPart_31 (by decide) (fun c_ => ?_) (fun c_ => ?_)
      · have hf := xo_pos c_ hf
        refine xV_sub [] rfl ?_
        exact ke0 _ (Option.some.inj hf).symm
      · have hf := xo_neg c_ hf
        refine xr_aload_n (pc := 34) 0 dX6_qEndsPart_34 rfl rfl ?_
        refine xr_dup (pc := 35) dX6_qEndsPart_35 rfl ?_
        refine xt_getI (pc := 36) 124 (by decide) q1870 rfl rfl rfl dX6_qEndsPart_36 ?_
        refine xr_iconst (pc := 39) dX6_qEndsPart_39 xci_1 ?_
        refine xr_isub (pc := 40) dX6_qEndsPart_40 ?_
        refine xt_putI (pc := 41) 124 (by decide) q1870 rfl rfl rfl (by decide +kernel) rfl dX6_qEndsPart_41 ?_
        refine xr_aload_n (pc := 44) 0 dX6_qEndsPart_44 rfl rfl ?_
        obtain ⟨τ1, hτ1, hf⟩ := xo_bind hf
        refine call_f_t_qDrops (pc := 45) hτ1 rfl (Nat.le_of_ble_eq_true rfl) (Nat.le_of_ble_eq_true rfl) (Nat.le_of_ble_eq_true rfl) dX6_qEndsPart_45 ?_
        refine xr_goto (pc := 48) 0 dX6_qEndsPart_48 (by decide) ?_
        exact kc _ (Option.some.inj hf).symm
  · have hf := xo_neg c_ hf
    refine xV_sub [] rfl ?_
    exact ke0 _ (Option.some.inj hf).symm
def f_t_qEndsPart (τ : TS) : Option TS :=
  (itr (fun s_ : TS => Bt_qEndsPart_0 s_) 4096 τ).bind fun b2 =>
  some (b2)
theorem ok_f_t_qEndsPart {D : TD} {m : Nat} {K : xK} {Z : Option Value × TS} {τ : TS} {o_ : TS} (hf : f_t_qEndsPart τ = some o_) (kr : ∀ r_ : TS, o_ = r_ → Z = (none, r_)) : xV (wT D m) K mX6_qEndsPart (xQ (wT D m) K Z) τ 0 [(0, .ref m)] [] := by
  unfold f_t_qEndsPart at hf
  obtain ⟨b2, hb2, hf⟩ := xo_bind hf
  refine itr_rule (P := fun s_ : TS => xV (wT D m) K mX6_qEndsPart (xQ (wT D m) K Z) s_ 0 [(0, .ref m)] []) (fun s_ o_ hB_ hc_ he_ => ok_Bt_qEndsPart_0 hB_ hc_ (fun e_ h_ => ?_)) 4096 _ hb2
  · have e9_ := he_ _ h_
    rw [e9_]
    rw [kr _ (Option.some.inj hf).symm]
    exact xr_vret (pc := 51) dX6_qEndsPart_51 rfl
theorem met_f_t_qEndsPart (l : Launch) {D : TD} {m : Nat} {τ : TS} {o_ : TS} (hf : f_t_qEndsPart τ = some o_) : xMet (wT D m) l yX6_qEndsPart (ws_ yX6_qEndsPart cX6_qEndsPart 1 none) 2 120 0 0 [.ref m] τ (none, o_) :=
  xMet_of (by decide) (Nat.le_of_ble_eq_true rfl) KT_moved (fun _ _ => trivial) (fun K _ _ _ => ok_f_t_qEndsPart hf (fun _ h => by rw [h]))
theorem hd_f_t_qEndsPart : yX6_qEndsPart.cls = RX6 ∧ yX6_qEndsPart.cls ≠ "java/lang/invoke/MethodHandle" ∧ yX6_qEndsPart.cls ≠ "java/lang/invoke/VarHandle" ∧ (parseMethodDescriptor yX6_qEndsPart.desc).map (fun d => d.parameters.length) = some 0 := by decide +kernel
theorem call_f_t_qEndsPart {D : TD} {m : Nat} {K : xK} {M : xM} {Q : State → Prop} {τ : TS} {pc : Nat} {loc : List (Nat × Value)} {st : List Value} {τ1 : TS} (hf : f_t_qEndsPart τ = some τ1) (ho : M.2.2.1 = RX6) (hfr : 3 ≤ M.2.2.2.1) (hlo : 140 ≤ M.2.2.2.2.1) (hcat : (st.map fun v => v.category).sum ≤ 8) (d : decode M.1 pc = .ok (.invokevirtual 725, 3)) (k : xV (wT D m) K M Q τ1 (pc + 3) loc st) : xV (wT D m) K M Q τ pc loc (.ref m :: st) :=
  xr_callV (As := []) (rest := st) (met_f_t_qEndsPart K.2.1 hf) (lw_V q2282 q2284 qs95 q186 q2285) hd_f_t_qEndsPart ho hfr hlo rfl (fun H hR hK => t_recv H hR hK) rfl hcat d k
abbrev mX6_qPartTold : xM := (cX6_qPartTold, 6, RX6, 5, 300, none, "qPartTold")
def Jt_qPartTold_144 (x1 : Int32) (τ : TS) : Option ((Int32 × TS) ⊕ ((TS))) :=
  (f_t_asksSign 40 τ).bind fun τ11 =>
  some (.inl (x1, τ11))
theorem ok_Jt_qPartTold_144 {D : TD} {m : Nat} {K : xK} {Z : Option Value × TS} {x1 : Int32} {τ : TS} {o_ : ((Int32 × TS) ⊕ ((TS)))} (hf : Jt_qPartTold_144 x1 τ = some o_) (kc : ∀ s_ : Int32 × TS, o_ = .inl s_ → xV (wT D m) K mX6_qPartTold (xQ (wT D m) K Z) s_.2 2 [(0, .ref m), (1, .int s_.1)] []) (ke0 : ∀ e_ : TS, o_ = .inr e_ → xV (wT D m) K mX6_qPartTold (xQ (wT D m) K Z) e_ 186 [(0, .ref m)] []) : xV (wT D m) K mX6_qPartTold (xQ (wT D m) K Z) τ 144 [(0, .ref m), (1, .int x1)] [] := by
  unfold Jt_qPartTold_144 at hf
  refine xr_aload_n (pc := 144) 0 dX6_qPartTold_144 rfl rfl ?_
  refine xr_bipush (pc := 145) dX6_qPartTold_145 xcb_40 ?_
  obtain ⟨τ11, hτ11, hf⟩ := xo_bind hf
  refine call_f_t_asksSign (pc := 147) hτ11 rfl (Nat.le_of_ble_eq_true rfl) (Nat.le_of_ble_eq_true rfl) (Nat.le_of_ble_eq_true rfl) dX6_qPartTold_147 ?_
  refine xr_goto (pc := 150) 183 dX6_qPartTold_150 (by decide) ?_
  refine xr_goto (pc := 183) 2 dX6_qPartTold_183 (by decide) ?_
  exact kc _ (Option.some.inj hf).symm
def Jt_qPartTold_139 (x1 : Int32) (x5 : Int32) (s0 : Int32) (τ : TS) : Option ((Int32 × TS) ⊕ ((TS))) :=
  (f_t_qOpens s0 x5 τ).bind fun τ12 =>
  Jt_qPartTold_144 x1 τ12
theorem ok_Jt_qPartTold_139 {D : TD} {m : Nat} {K : xK} {Z : Option Value × TS} {x1 : Int32} {x5 : Int32} {s0 : Int32} {τ : TS} {o_ : ((Int32 × TS) ⊕ ((TS)))} (hf : Jt_qPartTold_139 x1 x5 s0 τ = some o_) (kc : ∀ s_ : Int32 × TS, o_ = .inl s_ → xV (wT D m) K mX6_qPartTold (xQ (wT D m) K Z) s_.2 2 [(0, .ref m), (1, .int s_.1)] []) (ke0 : ∀ e_ : TS, o_ = .inr e_ → xV (wT D m) K mX6_qPartTold (xQ (wT D m) K Z) e_ 186 [(0, .ref m)] []) : xV (wT D m) K mX6_qPartTold (xQ (wT D m) K Z) τ 139 [(0, .ref m), (1, .int x1), (5, .int x5)] [.int s0, .ref m] := by
  unfold Jt_qPartTold_139 at hf
  refine xr_iload (pc := 139) 2 dX6_qPartTold_139 rfl ?_
  obtain ⟨τ12, hτ12, hf⟩ := xo_bind hf
  refine call_f_t_qOpens (pc := 141) hτ12 rfl (Nat.le_of_ble_eq_true rfl) (Nat.le_of_ble_eq_true rfl) (Nat.le_of_ble_eq_true rfl) dX6_qPartTold_141 ?_
  refine xV_sub [0, 1] rfl ?_
  exact ok_Jt_qPartTold_144 hf kc ke0
def Jt_qPartTold_118 (x1 : Int32) (x4 : Int32) (s0 : Int32) (τ : TS) : Option ((Int32 × TS) ⊕ ((TS))) :=
  if s0 = (-1) then
  Jt_qPartTold_144 x1 τ
  else
  if x4 = 0 then
  Jt_qPartTold_139 x1 s0 22 τ
  else
  Jt_qPartTold_139 x1 s0 21 τ
theorem ok_Jt_qPartTold_118 {D : TD} {m : Nat} {K : xK} {Z : Option Value × TS} {x1 : Int32} {x4 : Int32} {s0 : Int32} {τ : TS} {o_ : ((Int32 × TS) ⊕ ((TS)))} (hf : Jt_qPartTold_118 x1 x4 s0 τ = some o_) (kc : ∀ s_ : Int32 × TS, o_ = .inl s_ → xV (wT D m) K mX6_qPartTold (xQ (wT D m) K Z) s_.2 2 [(0, .ref m), (1, .int s_.1)] []) (ke0 : ∀ e_ : TS, o_ = .inr e_ → xV (wT D m) K mX6_qPartTold (xQ (wT D m) K Z) e_ 186 [(0, .ref m)] []) : xV (wT D m) K mX6_qPartTold (xQ (wT D m) K Z) τ 118 [(0, .ref m), (1, .int x1), (4, .int x4)] [.int s0] := by
  unfold Jt_qPartTold_118 at hf
  refine xr_istore (pc := 118) (loc' := [(5, .int s0), (0, .ref m), (1, .int x1), (4, .int x4)]) dX6_qPartTold_118 (by decide) rfl ?_
  refine xr_iload (pc := 120) 0 dX6_qPartTold_120 rfl ?_
  refine xr_iconst (pc := 122) dX6_qPartTold_122 xci_m1 ?_
  refine xr_icmp_eq (pc := 123) 144 dX6_qPartTold_123 (by decide) (fun c_ => ?_) (fun c_ => ?_)
  · have hf := xo_pos c_ hf
    refine xV_sub [1, 2] rfl ?_
    exact ok_Jt_qPartTold_144 hf kc ke0
  · have hf := xo_neg c_ hf
    refine xr_aload_n (pc := 126) 1 dX6_qPartTold_126 rfl rfl ?_
    refine xr_iload (pc := 127) 3 dX6_qPartTold_127 rfl ?_
    refine xr_if_eq (pc := 129) 137 dX6_qPartTold_129 (by decide) (fun c_ => ?_) (fun c_ => ?_)
    · have hf := xo_pos c_ hf
      refine xr_bipush (pc := 137) dX6_qPartTold_137 xcb_22 ?_
      refine xV_sub [1, 2, 0] rfl ?_
      exact ok_Jt_qPartTold_139 hf kc ke0
    · have hf := xo_neg c_ hf
      refine xr_bipush (pc := 132) dX6_qPartTold_132 xcb_21 ?_
      refine xr_goto (pc := 134) 139 dX6_qPartTold_134 (by decide) ?_
      refine xV_sub [1, 2, 0] rfl ?_
      exact ok_Jt_qPartTold_139 hf kc ke0
def Jt_qPartTold_101 (x1 : Int32) (x4 : Int32) (τ : TS) : Option ((Int32 × TS) ⊕ ((TS))) :=
  xbd (f_t_look τ) fun r10 τ10 =>
  if r10 = 40 then
  Jt_qPartTold_118 x1 x4 (tI τ10 2) τ10
  else
  Jt_qPartTold_118 x1 x4 (-1) τ10
theorem ok_Jt_qPartTold_101 {D : TD} {m : Nat} {K : xK} {Z : Option Value × TS} {x1 : Int32} {x4 : Int32} {τ : TS} {o_ : ((Int32 × TS) ⊕ ((TS)))} (hf : Jt_qPartTold_101 x1 x4 τ = some o_) (kc : ∀ s_ : Int32 × TS, o_ = .inl s_ → xV (wT D m) K mX6_qPartTold (xQ (wT D m) K Z) s_.2 2 [(0, .ref m), (1, .int s_.1)] []) (ke0 : ∀ e_ : TS, o_ = .inr e_ → xV (wT D m) K mX6_qPartTold (xQ (wT D m) K Z) e_ 186 [(0, .ref m)] []) : xV (wT D m) K mX6_qPartTold (xQ (wT D m) K Z) τ 101 [(0, .ref m), (1, .int x1), (4, .int x4)] [] := by
  unfold Jt_qPartTold_101 at hf
  refine xr_aload_n (pc := 101) 0 dX6_qPartTold_101 rfl rfl ?_
  obtain ⟨r10, τ10, hτ10, hf⟩ := xo_bd hf
  refine call_f_t_look (pc := 102) hτ10 rfl (Nat.le_of_ble_eq_true rfl) (Nat.le_of_ble_eq_true rfl) (Nat.le_of_ble_eq_true rfl) dX6_qPartTold_102 ?_
  refine xr_bipush (pc := 105) dX6_qPartTold_105 xcb_40 ?_
  refine xr_icmp_ne (pc := 107) 117 dX6_qPartTold_107 (by decide) (fun c_ => ?_) (fun c_ => ?_)
  · have hf := xo_pos c_ hf
    refine xr_aload_n (pc := 110) 0 dX6_qPartTold_110 rfl rfl ?_
    refine xt_getI (pc := 111) 2 (by decide) q1748 rfl rfl rfl dX6_qPartTold_111 ?_
    refine xr_goto (pc := 114) 118 dX6_qPartTold_114 (by decide) ?_
    exact ok_Jt_qPartTold_118 hf kc ke0
  · have hf := xo_neg c_ hf
    refine xr_iconst (pc := 117) dX6_qPartTold_117 xci_m1 ?_
    exact ok_Jt_qPartTold_118 hf kc ke0
def Jt_qPartTold_78 (x1 : Int32) (τ : TS) : Option ((Int32 × TS) ⊕ ((TS))) :=
  xbd (f_t_takes 98 τ) fun r8 τ8 =>
  if r8 = 0 then
  (f_t_asks 99 τ8).bind fun τ9 =>
  Jt_qPartTold_101 x1 r8 τ9
  else
  Jt_qPartTold_101 x1 r8 τ8
theorem ok_Jt_qPartTold_78 {D : TD} {m : Nat} {K : xK} {Z : Option Value × TS} {x1 : Int32} {τ : TS} {o_ : ((Int32 × TS) ⊕ ((TS)))} (hf : Jt_qPartTold_78 x1 τ = some o_) (kc : ∀ s_ : Int32 × TS, o_ = .inl s_ → xV (wT D m) K mX6_qPartTold (xQ (wT D m) K Z) s_.2 2 [(0, .ref m), (1, .int s_.1)] []) (ke0 : ∀ e_ : TS, o_ = .inr e_ → xV (wT D m) K mX6_qPartTold (xQ (wT D m) K Z) e_ 186 [(0, .ref m)] []) : xV (wT D m) K mX6_qPartTold (xQ (wT D m) K Z) τ 78 [(0, .ref m), (1, .int x1)] [] := by
  unfold Jt_qPartTold_78 at hf
  refine xr_aload_n (pc := 78) 0 dX6_qPartTold_78 rfl rfl ?_
  refine xr_aload_n (pc := 79) 0 dX6_qPartTold_79 rfl rfl ?_
  refine xt_getA (pc := 80) 98 (by decide) q1844 rfl rfl rfl dX6_qPartTold_80 ?_
  obtain ⟨r8, τ8, hτ8, hf⟩ := xo_bd hf
  refine call_f_t_takes (pc := 83) hτ8 rfl (Nat.le_of_ble_eq_true rfl) (Nat.le_of_ble_eq_true rfl) (Nat.le_of_ble_eq_true rfl) dX6_qPartTold_83 ?_
  refine xr_istore (pc := 86) (loc' := [(4, .int r8), (0, .ref m), (1, .int x1)]) dX6_qPartTold_86 (by decide) rfl ?_
  refine xr_iload (pc := 88) 0 dX6_qPartTold_88 rfl ?_
  refine xr_if_ne (pc := 90) 101 dX6_qPartTold_90 (by decide) (fun c_ => ?_) (fun c_ => ?_)
  · have hf := xo_pos c_ hf
    refine xr_aload_n (pc := 93) 1 dX6_qPartTold_93 rfl rfl ?_
    refine xr_aload_n (pc := 94) 1 dX6_qPartTold_94 rfl rfl ?_
    refine xt_getA (pc := 95) 99 (by decide) q1845 rfl rfl rfl dX6_qPartTold_95 ?_
    obtain ⟨τ9, hτ9, hf⟩ := xo_bind hf
    refine call_f_t_asks (pc := 98) hτ9 rfl (Nat.le_of_ble_eq_true rfl) (Nat.le_of_ble_eq_true rfl) (Nat.le_of_ble_eq_true rfl) dX6_qPartTold_98 ?_
    refine xV_sub [1, 2, 0] rfl ?_
    exact ok_Jt_qPartTold_101 hf kc ke0
  · have hf := xo_neg c_ hf
    refine xV_sub [1, 2, 0] rfl ?_
    exact ok_Jt_qPartTold_101 hf kc ke0
def Bt_qPartTold_2 (x1 : Int32) (τ : TS) : Option ((Int32 × TS) ⊕ ((TS))) :=
  if x1 = 0 then
  some (.inr τ)
  else
  if (tI τ 5) = 0 then
  xbd (f_t_look τ) fun r1 τ1 =>
  xbd (f_t_qWordOf 18 20 τ1) fun r2 τ2 =>
  if r1 = 40 then
  (f_t_qOpens 20 (tI τ2 2) τ2).bind fun τ3 =>
  some (.inl (x1, sI τ3 2 ((tI τ3 2) + 1)))
  else
  xbd (f_t_isHere 98 τ2) fun r4 τ4 =>
  if r4 = 0 then
  xbd (f_t_isHere 99 τ4) fun r5 τ5 =>
  if r5 = 0 then
  if r2 = (-1) then
  some (.inl (0, τ5))
  else
  (f_t_qOpens ((60 + r2) - 18) (tI τ5 2) τ5).bind fun τ6 =>
  (f_t_qAsksWord r2 τ6).bind fun τ7 =>
  some (.inl (x1, τ7))
  else
  Jt_qPartTold_78 x1 τ5
  else
  Jt_qPartTold_78 x1 τ4
  else
  some (.inr τ)
theorem ok_Bt_qPartTold_2 {D : TD} {m : Nat} {K : xK} {Z : Option Value × TS} {x1 : Int32} {τ : TS} {o_ : ((Int32 × TS) ⊕ ((TS)))} (hf : Bt_qPartTold_2 x1 τ = some o_) (kc : ∀ s_ : Int32 × TS, o_ = .inl s_ → xV (wT D m) K mX6_qPartTold (xQ (wT D m) K Z) s_.2 2 [(0, .ref m), (1, .int s_.1)] []) (ke0 : ∀ e_ : TS, o_ = .inr e_ → xV (wT D m) K mX6_qPartTold (xQ (wT D m) K Z) e_ 186 [(0, .ref m)] []) : xV (wT D m) K mX6_qPartTold (xQ (wT D m) K Z) τ 2 [(0, .ref m), (1, .int x1)] [] := by
  unfold Bt_qPartTold_2 at hf
  refine xr_iload_n (pc := 2) 1 dX6_qPartTold_2 rfl rfl ?_
  refine xr_if_eq (pc := 3) 186 dX6_qPartTold_3 (by decide) (fun c_ => ?_) (fun c_ => ?_)
  · have hf := xo_pos c_ hf
    refine xV_sub [0] rfl ?_
    exact ke0 _ (Option.some.inj hf).symm
  · have hf := xo_neg c_ hf
    refine xr_aload_n (pc := 6) 0 dX6_qPartTold_6 rfl rfl ?_
    refine xt_getI (pc := 7) 5 (by decide) q1751 rfl rfl rfl dX6_qPartTold_7 ?_
    refine xr_if_ne (pc := 10) 186 dX6_qPartTold_10 (by decide) (fun c_ => ?_) (fun c_ => ?_)
    · have hf := xo_pos c_ hf
      refine xr_aload_n (pc := 13) 0 dX6_qPartTold_13 rfl rfl ?_
      obtain ⟨r1, τ1, hτ1, hf⟩ := xo_bd hf
      refine call_f_t_look (pc := 14) hτ1 rfl (Nat.le_of_ble_eq_true rfl) (Nat.le_of_ble_eq_true rfl) (Nat.le_of_ble_eq_true rfl) dX6_qPartTold_14 ?_
      refine xr_istore_n (pc := 17) (loc' := [(2, .int r1), (0, .ref m), (1, .int x1)]) dX6_qPartTold_17 rfl (by decide) rfl ?_
      refine xr_aload_n (pc := 18) 1 dX6_qPartTold_18 rfl rfl ?_
      refine xr_bipush (pc := 19) dX6_qPartTold_19 xcb_18 ?_
      refine xr_bipush (pc := 21) dX6_qPartTold_21 xcb_20 ?_
      obtain ⟨r2, τ2, hτ2, hf⟩ := xo_bd hf
      refine call_f_t_qWordOf (pc := 23) hτ2 rfl (Nat.le_of_ble_eq_true rfl) (Nat.le_of_ble_eq_true rfl) (Nat.le_of_ble_eq_true rfl) dX6_qPartTold_23 ?_
      refine xr_istore_n (pc := 26) (loc' := [(3, .int r2), (2, .int r1), (0, .ref m), (1, .int x1)]) dX6_qPartTold_26 rfl (by decide) rfl ?_
      refine xr_iload_n (pc := 27) 1 dX6_qPartTold_27 rfl rfl ?_
      refine xr_bipush (pc := 28) dX6_qPartTold_28 xcb_40 ?_
      refine xr_icmp_ne (pc := 30) 56 dX6_qPartTold_30 (by decide) (fun c_ => ?_) (fun c_ => ?_)
      · have hf := xo_pos c_ hf
        refine xr_aload_n (pc := 33) 2 dX6_qPartTold_33 rfl rfl ?_
        refine xr_bipush (pc := 34) dX6_qPartTold_34 xcb_20 ?_
        refine xr_aload_n (pc := 36) 2 dX6_qPartTold_36 rfl rfl ?_
        refine xt_getI (pc := 37) 2 (by decide) q1748 rfl rfl rfl dX6_qPartTold_37 ?_
        obtain ⟨τ3, hτ3, hf⟩ := xo_bind hf
        refine call_f_t_qOpens (pc := 40) hτ3 rfl (Nat.le_of_ble_eq_true rfl) (Nat.le_of_ble_eq_true rfl) (Nat.le_of_ble_eq_true rfl) dX6_qPartTold_40 ?_
        refine xr_aload_n (pc := 43) 2 dX6_qPartTold_43 rfl rfl ?_
        refine xr_dup (pc := 44) dX6_qPartTold_44 rfl ?_
        refine xt_getI (pc := 45) 2 (by decide) q1748 rfl rfl rfl dX6_qPartTold_45 ?_
        refine xr_iconst (pc := 48) dX6_qPartTold_48 xci_1 ?_
        refine xr_iadd (pc := 49) dX6_qPartTold_49 ?_
        refine xt_putI (pc := 50) 2 (by decide) q1748 rfl rfl rfl (by decide +kernel) rfl dX6_qPartTold_50 ?_
        refine xr_goto (pc := 53) 183 dX6_qPartTold_53 (by decide) ?_
        refine xr_goto (pc := 183) 2 dX6_qPartTold_183 (by decide) ?_
        refine xV_sub [2, 3] rfl ?_
        exact kc _ (Option.some.inj hf).symm
      · have hf := xo_neg c_ hf
        refine xr_aload_n (pc := 56) 2 dX6_qPartTold_56 rfl rfl ?_
        refine xr_aload_n (pc := 57) 2 dX6_qPartTold_57 rfl rfl ?_
        refine xt_getA (pc := 58) 98 (by decide) q1844 rfl rfl rfl dX6_qPartTold_58 ?_
        obtain ⟨r4, τ4, hτ4, hf⟩ := xo_bd hf
        refine call_f_t_isHere (pc := 61) hτ4 rfl (Nat.le_of_ble_eq_true rfl) (Nat.le_of_ble_eq_true rfl) (Nat.le_of_ble_eq_true rfl) dX6_qPartTold_61 ?_
        refine xr_if_ne (pc := 64) 78 dX6_qPartTold_64 (by decide) (fun c_ => ?_) (fun c_ => ?_)
        · have hf := xo_pos c_ hf
          refine xr_aload_n (pc := 67) 2 dX6_qPartTold_67 rfl rfl ?_
          refine xr_aload_n (pc := 68) 2 dX6_qPartTold_68 rfl rfl ?_
          refine xt_getA (pc := 69) 99 (by decide) q1845 rfl rfl rfl dX6_qPartTold_69 ?_
          obtain ⟨r5, τ5, hτ5, hf⟩ := xo_bd hf
          refine call_f_t_isHere (pc := 72) hτ5 rfl (Nat.le_of_ble_eq_true rfl) (Nat.le_of_ble_eq_true rfl) (Nat.le_of_ble_eq_true rfl) dX6_qPartTold_72 ?_
          refine xr_if_eq (pc := 75) 153 dX6_qPartTold_75 (by decide) (fun c_ => ?_) (fun c_ => ?_)
          · have hf := xo_pos c_ hf
            refine xr_iload_n (pc := 153) 0 dX6_qPartTold_153 rfl rfl ?_
            refine xr_iconst (pc := 154) dX6_qPartTold_154 xci_m1 ?_
            refine xr_icmp_eq (pc := 155) 181 dX6_qPartTold_155 (by decide) (fun c_ => ?_) (fun c_ => ?_)
            · have hf := xo_pos c_ hf
              refine xr_iconst (pc := 181) dX6_qPartTold_181 xci_0 ?_
              refine xr_istore_n (pc := 182) (loc' := [(1, .int 0), (3, .int r2), (2, .int r1), (0, .ref m)]) dX6_qPartTold_182 rfl (by decide) rfl ?_
              refine xr_goto (pc := 183) 2 dX6_qPartTold_183 (by decide) ?_
              refine xV_sub [3, 0] rfl ?_
              exact kc _ (Option.some.inj hf).symm
            · have hf := xo_neg c_ hf
              refine xr_aload_n (pc := 158) 2 dX6_qPartTold_158 rfl rfl ?_
              refine xr_bipush (pc := 159) dX6_qPartTold_159 xcb_60 ?_
              refine xr_iload_n (pc := 161) 0 dX6_qPartTold_161 rfl rfl ?_
              refine xr_iadd (pc := 162) dX6_qPartTold_162 ?_
              refine xr_bipush (pc := 163) dX6_qPartTold_163 xcb_18 ?_
              refine xr_isub (pc := 165) dX6_qPartTold_165 ?_
              refine xr_aload_n (pc := 166) 2 dX6_qPartTold_166 rfl rfl ?_
              refine xt_getI (pc := 167) 2 (by decide) q1748 rfl rfl rfl dX6_qPartTold_167 ?_
              obtain ⟨τ6, hτ6, hf⟩ := xo_bind hf
              refine call_f_t_qOpens (pc := 170) hτ6 rfl (Nat.le_of_ble_eq_true rfl) (Nat.le_of_ble_eq_true rfl) (Nat.le_of_ble_eq_true rfl) dX6_qPartTold_170 ?_
              refine xr_aload_n (pc := 173) 2 dX6_qPartTold_173 rfl rfl ?_
              refine xr_iload_n (pc := 174) 0 dX6_qPartTold_174 rfl rfl ?_
              obtain ⟨τ7, hτ7, hf⟩ := xo_bind hf
              refine call_f_t_qAsksWord (pc := 175) hτ7 rfl (Nat.le_of_ble_eq_true rfl) (Nat.le_of_ble_eq_true rfl) (Nat.le_of_ble_eq_true rfl) dX6_qPartTold_175 ?_
              refine xr_goto (pc := 178) 183 dX6_qPartTold_178 (by decide) ?_
              refine xr_goto (pc := 183) 2 dX6_qPartTold_183 (by decide) ?_
              refine xV_sub [2, 3] rfl ?_
              exact kc _ (Option.some.inj hf).symm
          · have hf := xo_neg c_ hf
            refine xV_sub [2, 3] rfl ?_
            exact ok_Jt_qPartTold_78 hf kc ke0
        · have hf := xo_neg c_ hf
          refine xV_sub [2, 3] rfl ?_
          exact ok_Jt_qPartTold_78 hf kc ke0
    · have hf := xo_neg c_ hf
      refine xV_sub [0] rfl ?_
      exact ke0 _ (Option.some.inj hf).symm
def Jt_qPartTold_237 (s0 : Int32) (τ : TS) : Option TS :=
  (f_t_qCode s0 τ).bind fun τ16 =>
  (f_t_qEndsPart τ16).bind fun τ17 =>
  some (τ17)
theorem ok_Jt_qPartTold_237 {D : TD} {m : Nat} {K : xK} {Z : Option Value × TS} {s0 : Int32} {τ : TS} {o_ : TS} (hf : Jt_qPartTold_237 s0 τ = some o_) (kr : ∀ r_ : TS, o_ = r_ → Z = (none, r_)) : xV (wT D m) K mX6_qPartTold (xQ (wT D m) K Z) τ 237 [(0, .ref m)] [.int s0, .ref m] := by
  unfold Jt_qPartTold_237 at hf
  obtain ⟨τ16, hτ16, hf⟩ := xo_bind hf
  refine call_f_t_qCode (pc := 237) hτ16 rfl (Nat.le_of_ble_eq_true rfl) (Nat.le_of_ble_eq_true rfl) (Nat.le_of_ble_eq_true rfl) dX6_qPartTold_237 ?_
  refine xr_aload_n (pc := 240) 0 dX6_qPartTold_240 rfl rfl ?_
  obtain ⟨τ17, hτ17, hf⟩ := xo_bind hf
  refine call_f_t_qEndsPart (pc := 241) hτ17 rfl (Nat.le_of_ble_eq_true rfl) (Nat.le_of_ble_eq_true rfl) (Nat.le_of_ble_eq_true rfl) dX6_qPartTold_241 ?_
  rw [kr _ (Option.some.inj hf).symm]
  exact xr_vret (pc := 244) dX6_qPartTold_244 rfl
def Jt_qPartTold_212 (x2 : Int32) (τ : TS) : Option TS :=
  if x2 = (-1) then
  xbd (f_t_number 0 9999 τ) fun r15 τ15 =>
  Jt_qPartTold_237 (1000 + r15) τ15
  else
  Jt_qPartTold_237 (40 + x2) τ
theorem ok_Jt_qPartTold_212 {D : TD} {m : Nat} {K : xK} {Z : Option Value × TS} {x2 : Int32} {τ : TS} {o_ : TS} (hf : Jt_qPartTold_212 x2 τ = some o_) (kr : ∀ r_ : TS, o_ = r_ → Z = (none, r_)) : xV (wT D m) K mX6_qPartTold (xQ (wT D m) K Z) τ 212 [(0, .ref m), (2, .int x2)] [] := by
  unfold Jt_qPartTold_212 at hf
  refine xr_aload_n (pc := 212) 0 dX6_qPartTold_212 rfl rfl ?_
  refine xr_iload_n (pc := 213) 1 dX6_qPartTold_213 rfl rfl ?_
  refine xr_iconst (pc := 214) dX6_qPartTold_214 xci_m1 ?_
  refine xr_icmp_eq (pc := 215) 225 dX6_qPartTold_215 (by decide) (fun c_ => ?_) (fun c_ => ?_)
  · have hf := xo_pos c_ hf
    refine xr_sipush (pc := 225) dX6_qPartTold_225 xcs_1000 ?_
    refine xr_aload_n (pc := 228) 0 dX6_qPartTold_228 rfl rfl ?_
    refine xr_iconst (pc := 229) dX6_qPartTold_229 xci_0 ?_
    refine xr_sipush (pc := 230) dX6_qPartTold_230 xcs_9999 ?_
    obtain ⟨r15, τ15, hτ15, hf⟩ := xo_bd hf
    refine call_f_t_number (pc := 233) hτ15 rfl (Nat.le_of_ble_eq_true rfl) (Nat.le_of_ble_eq_true rfl) (Nat.le_of_ble_eq_true rfl) dX6_qPartTold_233 ?_
    refine xr_iadd (pc := 236) dX6_qPartTold_236 ?_
    refine xV_sub [0] rfl ?_
    exact ok_Jt_qPartTold_237 hf kr
  · have hf := xo_neg c_ hf
    refine xr_bipush (pc := 218) dX6_qPartTold_218 xcb_40 ?_
    refine xr_iload_n (pc := 220) 1 dX6_qPartTold_220 rfl rfl ?_
    refine xr_iadd (pc := 221) dX6_qPartTold_221 ?_
    refine xr_goto (pc := 222) 237 dX6_qPartTold_222 (by decide) ?_
    refine xV_sub [0] rfl ?_
    exact ok_Jt_qPartTold_237 hf kr
def Jt_qPartTold_186 (τ : TS) : Option TS :=
  if (tI τ 5) = 0 then
  xbd (f_t_qWordOf 0 18 τ) fun r14 τ14 =>
  if r14 = (-1) then
  Jt_qPartTold_212 r14 τ14
  else
  (f_t_qAsksWord r14 τ14).bind fun τ18 =>
  Jt_qPartTold_212 r14 τ18
  else
  some (τ)
theorem ok_Jt_qPartTold_186 {D : TD} {m : Nat} {K : xK} {Z : Option Value × TS} {τ : TS} {o_ : TS} (hf : Jt_qPartTold_186 τ = some o_) (kr : ∀ r_ : TS, o_ = r_ → Z = (none, r_)) : xV (wT D m) K mX6_qPartTold (xQ (wT D m) K Z) τ 186 [(0, .ref m)] [] := by
  unfold Jt_qPartTold_186 at hf
  refine xr_aload_n (pc := 186) 0 dX6_qPartTold_186 rfl rfl ?_
  refine xt_getI (pc := 187) 5 (by decide) q1751 rfl rfl rfl dX6_qPartTold_187 ?_
  refine xr_if_eq (pc := 190) 194 dX6_qPartTold_190 (by decide) (fun c_ => ?_) (fun c_ => ?_)
  · have hf := xo_pos c_ hf
    refine xr_aload_n (pc := 194) 0 dX6_qPartTold_194 rfl rfl ?_
    refine xr_iconst (pc := 195) dX6_qPartTold_195 xci_0 ?_
    refine xr_bipush (pc := 196) dX6_qPartTold_196 xcb_18 ?_
    obtain ⟨r14, τ14, hτ14, hf⟩ := xo_bd hf
    refine call_f_t_qWordOf (pc := 198) hτ14 rfl (Nat.le_of_ble_eq_true rfl) (Nat.le_of_ble_eq_true rfl) (Nat.le_of_ble_eq_true rfl) dX6_qPartTold_198 ?_
    refine xr_istore_n (pc := 201) (loc' := [(2, .int r14), (0, .ref m)]) dX6_qPartTold_201 rfl (by decide) rfl ?_
    refine xr_iload_n (pc := 202) 0 dX6_qPartTold_202 rfl rfl ?_
    refine xr_iconst (pc := 203) dX6_qPartTold_203 xci_m1 ?_
    refine xr_icmp_eq (pc := 204) 212 dX6_qPartTold_204 (by decide) (fun c_ => ?_) (fun c_ => ?_)
    · have hf := xo_pos c_ hf
      refine xV_sub [1, 0] rfl ?_
      exact ok_Jt_qPartTold_212 hf kr
    · have hf := xo_neg c_ hf
      refine xr_aload_n (pc := 207) 1 dX6_qPartTold_207 rfl rfl ?_
      refine xr_iload_n (pc := 208) 0 dX6_qPartTold_208 rfl rfl ?_
      obtain ⟨τ18, hτ18, hf⟩ := xo_bind hf
      refine call_f_t_qAsksWord (pc := 209) hτ18 rfl (Nat.le_of_ble_eq_true rfl) (Nat.le_of_ble_eq_true rfl) (Nat.le_of_ble_eq_true rfl) dX6_qPartTold_209 ?_
      refine xV_sub [1, 0] rfl ?_
      exact ok_Jt_qPartTold_212 hf kr
  · have hf := xo_neg c_ hf
    rw [kr _ (Option.some.inj hf).symm]
    exact xr_vret (pc := 193) dX6_qPartTold_193 rfl
def f_t_qPartTold (τ : TS) : Option TS :=
  (itr (fun s_ : Int32 × TS => Bt_qPartTold_2 s_.1 s_.2) 4096 (1, τ)).bind fun b13 =>
  Jt_qPartTold_186 b13
theorem ok_f_t_qPartTold {D : TD} {m : Nat} {K : xK} {Z : Option Value × TS} {τ : TS} {o_ : TS} (hf : f_t_qPartTold τ = some o_) (kr : ∀ r_ : TS, o_ = r_ → Z = (none, r_)) : xV (wT D m) K mX6_qPartTold (xQ (wT D m) K Z) τ 0 [(0, .ref m)] [] := by
  unfold f_t_qPartTold at hf
  refine xr_iconst (pc := 0) dX6_qPartTold_0 xci_1 ?_
  refine xr_istore_n (pc := 1) (loc' := [(1, .int 1), (0, .ref m)]) dX6_qPartTold_1 rfl (by decide) rfl ?_
  refine xV_sub [1, 0] rfl ?_
  obtain ⟨b13, hb13, hf⟩ := xo_bind hf
  refine itr_rule (P := fun s_ : Int32 × TS => xV (wT D m) K mX6_qPartTold (xQ (wT D m) K Z) s_.2 2 [(0, .ref m), (1, .int s_.1)] []) (fun s_ o_ hB_ hc_ he_ => ok_Bt_qPartTold_2 hB_ hc_ (fun e_ h_ => ?_)) 4096 _ hb13
  · have e9_ := he_ _ h_
    rw [e9_]
    exact ok_Jt_qPartTold_186 hf kr
theorem met_f_t_qPartTold (l : Launch) {D : TD} {m : Nat} {τ : TS} {o_ : TS} (hf : f_t_qPartTold τ = some o_) : xMet (wT D m) l yX6_qPartTold (ws_ yX6_qPartTold cX6_qPartTold 6 none) 5 300 0 0 [.ref m] τ (none, o_) :=
  xMet_of (by decide) (Nat.le_of_ble_eq_true rfl) KT_moved (fun _ _ => trivial) (fun K _ _ _ => ok_f_t_qPartTold hf (fun _ h => by rw [h]))
theorem hd_f_t_qPartTold : yX6_qPartTold.cls = RX6 ∧ yX6_qPartTold.cls ≠ "java/lang/invoke/MethodHandle" ∧ yX6_qPartTold.cls ≠ "java/lang/invoke/VarHandle" ∧ (parseMethodDescriptor yX6_qPartTold.desc).map (fun d => d.parameters.length) = some 0 := by decide +kernel
theorem call_f_t_qPartTold {D : TD} {m : Nat} {K : xK} {M : xM} {Q : State → Prop} {τ : TS} {pc : Nat} {loc : List (Nat × Value)} {st : List Value} {τ1 : TS} (hf : f_t_qPartTold τ = some τ1) (ho : M.2.2.1 = RX6) (hfr : 6 ≤ M.2.2.2.1) (hlo : 325 ≤ M.2.2.2.2.1) (hcat : (st.map fun v => v.category).sum ≤ 8) (d : decode M.1 pc = .ok (.invokevirtual 737, 3)) (k : xV (wT D m) K M Q τ1 (pc + 3) loc st) : xV (wT D m) K M Q τ pc loc (.ref m :: st) :=
  xr_callV (As := []) (rest := st) (met_f_t_qPartTold K.2.1 hf) (lw_V q2262 q2264 qs90 q186 q2265) hd_f_t_qPartTold ho hfr hlo rfl (fun H hR hK => t_recv H hR hK) rfl hcat d k
abbrev mX6_qIsBracket : xM := (cX6_qIsBracket, 1, RX6, 0, 0, (some .boolean), "qIsBracket")
def Jt_qIsBracket_16 (τ : TS) : Option (Int32 × TS) :=
  some ((0, τ))
theorem ok_Jt_qIsBracket_16 {D : TD} {m : Nat} {K : xK} {Z : Option Value × TS} {τ : TS} {o_ : (Int32 × TS)} (hf : Jt_qIsBracket_16 τ = some o_) (kr : ∀ r_ : (Int32 × TS), o_ = r_ → Z = (some (.int r_.1), r_.2)) : xV (wT D m) K mX6_qIsBracket (xQ (wT D m) K Z) τ 16 [] [] := by
  unfold Jt_qIsBracket_16 at hf
  refine xr_iconst (pc := 16) dX6_qIsBracket_16 xci_0 ?_
  rw [kr _ (Option.some.inj hf).symm]
  exact xr_zret (pc := 17) dX6_qIsBracket_17 rfl xz_0
def f_t_qIsBracket (x0 : Int32) (τ : TS) : Option (Int32 × TS) :=
  if x0 < 20 then
  Jt_qIsBracket_16 τ
  else
  if 24 < x0 then
  Jt_qIsBracket_16 τ
  else
  some ((1, τ))
theorem ok_f_t_qIsBracket {D : TD} {m : Nat} {K : xK} {Z : Option Value × TS} {x0 : Int32} {τ : TS} {o_ : (Int32 × TS)} (hf : f_t_qIsBracket x0 τ = some o_) (kr : ∀ r_ : (Int32 × TS), o_ = r_ → Z = (some (.int r_.1), r_.2)) : xV (wT D m) K mX6_qIsBracket (xQ (wT D m) K Z) τ 0 [(0, .int x0)] [] := by
  unfold f_t_qIsBracket at hf
  refine xr_iload_n (pc := 0) 0 dX6_qIsBracket_0 rfl rfl ?_
  refine xr_bipush (pc := 1) dX6_qIsBracket_1 xcb_20 ?_
  refine xr_icmp_lt (pc := 3) 16 dX6_qIsBracket_3 (by decide) (fun c_ => ?_) (fun c_ => ?_)
  · have hf := xo_pos c_ hf
    refine xV_sub [] rfl ?_
    exact ok_Jt_qIsBracket_16 hf kr
  · have hf := xo_neg c_ hf
    refine xr_iload_n (pc := 6) 0 dX6_qIsBracket_6 rfl rfl ?_
    refine xr_bipush (pc := 7) dX6_qIsBracket_7 xcb_24 ?_
    refine xr_icmp_gt (pc := 9) 16 dX6_qIsBracket_9 (by decide) (fun c_ => ?_) (fun c_ => ?_)
    · have hf := xo_pos c_ hf
      refine xV_sub [] rfl ?_
      exact ok_Jt_qIsBracket_16 hf kr
    · have hf := xo_neg c_ hf
      refine xr_iconst (pc := 12) dX6_qIsBracket_12 xci_1 ?_
      refine xr_goto (pc := 13) 17 dX6_qIsBracket_13 (by decide) ?_
      rw [kr _ (Option.some.inj hf).symm]
      exact xr_zret (pc := 17) dX6_qIsBracket_17 rfl xz_1
theorem met_f_t_qIsBracket (l : Launch) {D : TD} {m : Nat} {x0 : Int32} {τ : TS} {o_ : (Int32 × TS)} (hf : f_t_qIsBracket x0 τ = some o_) : xMet (wT D m) l yX6_qIsBracket (ws_ yX6_qIsBracket cX6_qIsBracket 1 (some .boolean)) 0 0 0 0 [.int x0] τ (some (.int o_.1), o_.2) :=
  xMet_of (by decide) (Nat.le_of_ble_eq_true rfl) KT_moved (fun _ _ => trivial) (fun K _ _ _ => ok_f_t_qIsBracket hf (fun _ h => by rw [h]))
theorem hd_f_t_qIsBracket : yX6_qIsBracket.cls ≠ "java/lang/invoke/MethodHandle" ∧ yX6_qIsBracket.cls ≠ "java/lang/invoke/VarHandle" ∧ (parseMethodDescriptor yX6_qIsBracket.desc).map (fun d => d.parameters.length) = some 1 := by decide +kernel
theorem call_f_t_qIsBracket {D : TD} {m : Nat} {K : xK} {M : xM} {Q : State → Prop} {x0 : Int32} {τ : TS} {pc : Nat} {loc : List (Nat × Value)} {st : List Value} {r : Int32} {τ1 : TS} (hf : f_t_qIsBracket x0 τ = some (r, τ1)) (ho : M.2.2.1 = RX6) (hfr : 1 ≤ M.2.2.2.1) (hlo : 20 ≤ M.2.2.2.2.1) (hcat : (st.map fun v => v.category).sum ≤ 8) (d : decode M.1 pc = .ok (.invokestatic 704, 3)) (k : xV (wT D m) K M Q τ1 (pc + 3) loc (.int r :: st)) : xV (wT D m) K M Q τ pc loc (.int x0 :: st) :=
  xr_callS (As := [.int x0]) (rest := st) (met_f_t_qIsBracket K.2.1 hf) (lw_S q2298 q2299 q186 q2300) hd_f_t_qIsBracket ho hfr hlo rfl rfl hcat d k
abbrev mX6_qBracket : xM := (cX6_qBracket, 2, RX6, 1, 60, (some .int), "qBracket")
def Bt_qBracket_7 (x1 : Int32) (τ : TS) : Option ((Int32 × TS) ⊕ ((Int32 × TS))) :=
  if x1 < (tI τ 125) then
  some (.inr (x1, τ))
  else
  if xin x1 1700 = true then
  xbd (f_t_qIsBracket (tA τ 122 x1.toNatClampNeg) τ) fun r1 τ1 =>
  if r1 = 0 then
  some (.inl (x1 + (-1), τ1))
  else
  some (.inr (x1, τ1))
  else none
theorem ok_Bt_qBracket_7 {D : TD} {m : Nat} {K : xK} {Z : Option Value × TS} {x1 : Int32} {τ : TS} {o_ : ((Int32 × TS) ⊕ ((Int32 × TS)))} (hf : Bt_qBracket_7 x1 τ = some o_) (kc : ∀ s_ : Int32 × TS, o_ = .inl s_ → xV (wT D m) K mX6_qBracket (xQ (wT D m) K Z) s_.2 7 [(0, .ref m), (1, .int s_.1)] []) (ke0 : ∀ e_ : Int32 × TS, o_ = .inr e_ → xV (wT D m) K mX6_qBracket (xQ (wT D m) K Z) e_.2 33 [(0, .ref m), (1, .int e_.1)] []) : xV (wT D m) K mX6_qBracket (xQ (wT D m) K Z) τ 7 [(0, .ref m), (1, .int x1)] [] := by
  unfold Bt_qBracket_7 at hf
  refine xr_iload_n (pc := 7) 1 dX6_qBracket_7 rfl rfl ?_
  refine xr_aload_n (pc := 8) 0 dX6_qBracket_8 rfl rfl ?_
  refine xt_getI (pc := 9) 125 (by decide) q1871 rfl rfl rfl dX6_qBracket_9 ?_
  refine xr_icmp_lt (pc := 12) 33 dX6_qBracket_12 (by decide) (fun c_ => ?_) (fun c_ => ?_)
  · have hf := xo_pos c_ hf
    exact ke0 _ (Option.some.inj hf).symm
  · have hf := xo_neg c_ hf
    refine xr_aload_n (pc := 15) 0 dX6_qBracket_15 rfl rfl ?_
    refine xt_getA (pc := 16) 122 (by decide) q1868 rfl rfl rfl dX6_qBracket_16 ?_
    refine xr_iload_n (pc := 19) 1 dX6_qBracket_19 rfl rfl ?_
    obtain ⟨hi_, hf⟩ := xo_if hf
    refine xt_iald (pc := 20) 122 rfl rfl hi_ dX6_qBracket_20 ?_
    obtain ⟨r1, τ1, hτ1, hf⟩ := xo_bd hf
    refine call_f_t_qIsBracket (pc := 21) hτ1 rfl (Nat.le_of_ble_eq_true rfl) (Nat.le_of_ble_eq_true rfl) (Nat.le_of_ble_eq_true rfl) dX6_qBracket_21 ?_
    refine xr_if_ne (pc := 24) 33 dX6_qBracket_24 (by decide) (fun c_ => ?_) (fun c_ => ?_)
    · have hf := xo_pos c_ hf
      refine xr_iinc (pc := 27) (loc' := [(1, .int (x1 + (-1))), (0, .ref m)]) 1 dX6_qBracket_27 rfl xci_m1 (by decide) rfl ?_
      refine xr_goto (pc := 30) 7 dX6_qBracket_30 (by decide) ?_
      refine xV_sub [1, 0] rfl ?_
      exact kc _ (Option.some.inj hf).symm
    · have hf := xo_neg c_ hf
      exact ke0 _ (Option.some.inj hf).symm
def Jt_qBracket_33 (x1 : Int32) (τ : TS) : Option (Int32 × TS) :=
  if x1 < (tI τ 125) then
  some (((-1), τ))
  else
  if xin x1 1700 = true then
  some ((tA τ 122 x1.toNatClampNeg, τ))
  else none
theorem ok_Jt_qBracket_33 {D : TD} {m : Nat} {K : xK} {Z : Option Value × TS} {x1 : Int32} {τ : TS} {o_ : (Int32 × TS)} (hf : Jt_qBracket_33 x1 τ = some o_) (kr : ∀ r_ : (Int32 × TS), o_ = r_ → Z = (some (.int r_.1), r_.2)) : xV (wT D m) K mX6_qBracket (xQ (wT D m) K Z) τ 33 [(0, .ref m), (1, .int x1)] [] := by
  unfold Jt_qBracket_33 at hf
  refine xr_iload_n (pc := 33) 1 dX6_qBracket_33 rfl rfl ?_
  refine xr_aload_n (pc := 34) 0 dX6_qBracket_34 rfl rfl ?_
  refine xt_getI (pc := 35) 125 (by decide) q1871 rfl rfl rfl dX6_qBracket_35 ?_
  refine xr_icmp_lt (pc := 38) 50 dX6_qBracket_38 (by decide) (fun c_ => ?_) (fun c_ => ?_)
  · have hf := xo_pos c_ hf
    refine xr_iconst (pc := 50) dX6_qBracket_50 xci_m1 ?_
    rw [kr _ (Option.some.inj hf).symm]
    exact xr_iret (pc := 51) dX6_qBracket_51 rfl
  · have hf := xo_neg c_ hf
    refine xr_aload_n (pc := 41) 0 dX6_qBracket_41 rfl rfl ?_
    refine xt_getA (pc := 42) 122 (by decide) q1868 rfl rfl rfl dX6_qBracket_42 ?_
    refine xr_iload_n (pc := 45) 1 dX6_qBracket_45 rfl rfl ?_
    obtain ⟨hi_, hf⟩ := xo_if hf
    refine xt_iald (pc := 46) 122 rfl rfl hi_ dX6_qBracket_46 ?_
    refine xr_goto (pc := 47) 51 dX6_qBracket_47 (by decide) ?_
    rw [kr _ (Option.some.inj hf).symm]
    exact xr_iret (pc := 51) dX6_qBracket_51 rfl
def f_t_qBracket (τ : TS) : Option (Int32 × TS) :=
  (itr (fun s_ : Int32 × TS => Bt_qBracket_7 s_.1 s_.2) 4096 ((tI τ 123) - 1, τ)).bind fun b2 =>
  Jt_qBracket_33 b2.1 b2.2
theorem ok_f_t_qBracket {D : TD} {m : Nat} {K : xK} {Z : Option Value × TS} {τ : TS} {o_ : (Int32 × TS)} (hf : f_t_qBracket τ = some o_) (kr : ∀ r_ : (Int32 × TS), o_ = r_ → Z = (some (.int r_.1), r_.2)) : xV (wT D m) K mX6_qBracket (xQ (wT D m) K Z) τ 0 [(0, .ref m)] [] := by
  unfold f_t_qBracket at hf
  refine xr_aload_n (pc := 0) 0 dX6_qBracket_0 rfl rfl ?_
  refine xt_getI (pc := 1) 123 (by decide) q1869 rfl rfl rfl dX6_qBracket_1 ?_
  refine xr_iconst (pc := 4) dX6_qBracket_4 xci_1 ?_
  refine xr_isub (pc := 5) dX6_qBracket_5 ?_
  refine xr_istore_n (pc := 6) (loc' := [(1, .int ((tI τ 123) - 1)), (0, .ref m)]) dX6_qBracket_6 rfl (by decide) rfl ?_
  refine xV_sub [1, 0] rfl ?_
  obtain ⟨b2, hb2, hf⟩ := xo_bind hf
  refine itr_rule (P := fun s_ : Int32 × TS => xV (wT D m) K mX6_qBracket (xQ (wT D m) K Z) s_.2 7 [(0, .ref m), (1, .int s_.1)] []) (fun s_ o_ hB_ hc_ he_ => ok_Bt_qBracket_7 hB_ hc_ (fun e_ h_ => ?_)) 4096 _ hb2
  · have e9_ := he_ _ h_
    rw [e9_]
    exact ok_Jt_qBracket_33 hf kr
theorem met_f_t_qBracket (l : Launch) {D : TD} {m : Nat} {τ : TS} {o_ : (Int32 × TS)} (hf : f_t_qBracket τ = some o_) : xMet (wT D m) l yX6_qBracket (ws_ yX6_qBracket cX6_qBracket 2 (some .int)) 1 60 0 0 [.ref m] τ (some (.int o_.1), o_.2) :=
  xMet_of (by decide) (Nat.le_of_ble_eq_true rfl) KT_moved (fun _ _ => trivial) (fun K _ _ _ => ok_f_t_qBracket hf (fun _ h => by rw [h]))
theorem hd_f_t_qBracket : yX6_qBracket.cls = RX6 ∧ yX6_qBracket.cls ≠ "java/lang/invoke/MethodHandle" ∧ yX6_qBracket.cls ≠ "java/lang/invoke/VarHandle" ∧ (parseMethodDescriptor yX6_qBracket.desc).map (fun d => d.parameters.length) = some 0 := by decide +kernel
theorem call_f_t_qBracket {D : TD} {m : Nat} {K : xK} {M : xM} {Q : State → Prop} {τ : TS} {pc : Nat} {loc : List (Nat × Value)} {st : List Value} {r : Int32} {τ1 : TS} (hf : f_t_qBracket τ = some (r, τ1)) (ho : M.2.2.1 = RX6) (hfr : 2 ≤ M.2.2.2.1) (hlo : 81 ≤ M.2.2.2.2.1) (hcat : (st.map fun v => v.category).sum ≤ 8) (d : decode M.1 pc = .ok (.invokevirtual 728, 3)) (k : xV (wT D m) K M Q τ1 (pc + 3) loc (.int r :: st)) : xV (wT D m) K M Q τ pc loc (.ref m :: st) :=
  xr_callV (As := []) (rest := st) (met_f_t_qBracket K.2.1 hf) (lw_V q2294 q2296 qs98 q186 q2297) hd_f_t_qBracket ho hfr hlo rfl (fun H hR hK => t_recv H hR hK) rfl hcat d k
abbrev mX6_qDropsToBracket : xM := (cX6_qDropsToBracket, 1, RX6, 2, 120, none, "qDropsToBracket")
def Bt_qDropsToBracket_0 (τ : TS) : Option ((TS) ⊕ ((TS))) :=
  if (tI τ 123) ≤ (tI τ 125) then
  some (.inr τ)
  else
  if xin ((tI τ 123) - 1) 1700 = true then
  xbd (f_t_qIsBracket (tA τ 122 ((tI τ 123) - 1).toNatClampNeg) τ) fun r1 τ1 =>
  if r1 = 0 then
  (f_t_qDrops τ1).bind fun τ2 =>
  some (.inl τ2)
  else
  some (.inr τ1)
  else none
theorem ok_Bt_qDropsToBracket_0 {D : TD} {m : Nat} {K : xK} {Z : Option Value × TS} {τ : TS} {o_ : ((TS) ⊕ ((TS)))} (hf : Bt_qDropsToBracket_0 τ = some o_) (kc : ∀ s_ : TS, o_ = .inl s_ → xV (wT D m) K mX6_qDropsToBracket (xQ (wT D m) K Z) s_ 0 [(0, .ref m)] []) (ke0 : ∀ e_ : TS, o_ = .inr e_ → xV (wT D m) K mX6_qDropsToBracket (xQ (wT D m) K Z) e_ 35 [] []) : xV (wT D m) K mX6_qDropsToBracket (xQ (wT D m) K Z) τ 0 [(0, .ref m)] [] := by
  unfold Bt_qDropsToBracket_0 at hf
  refine xr_aload_n (pc := 0) 0 dX6_qDropsToBracket_0 rfl rfl ?_
  refine xt_getI (pc := 1) 123 (by decide) q1869 rfl rfl rfl dX6_qDropsToBracket_1 ?_
  refine xr_aload_n (pc := 4) 0 dX6_qDropsToBracket_4 rfl rfl ?_
  refine xt_getI (pc := 5) 125 (by decide) q1871 rfl rfl rfl dX6_qDropsToBracket_5 ?_
  refine xr_icmp_le (pc := 8) 35 dX6_qDropsToBracket_8 (by decide) (fun c_ => ?_) (fun c_ => ?_)
  · have hf := xo_pos c_ hf
    refine xV_sub [] rfl ?_
    exact ke0 _ (Option.some.inj hf).symm
  · have hf := xo_neg c_ hf
    refine xr_aload_n (pc := 11) 0 dX6_qDropsToBracket_11 rfl rfl ?_
    refine xt_getA (pc := 12) 122 (by decide) q1868 rfl rfl rfl dX6_qDropsToBracket_12 ?_
    refine xr_aload_n (pc := 15) 0 dX6_qDropsToBracket_15 rfl rfl ?_
    refine xt_getI (pc := 16) 123 (by decide) q1869 rfl rfl rfl dX6_qDropsToBracket_16 ?_
    refine xr_iconst (pc := 19) dX6_qDropsToBracket_19 xci_1 ?_
    refine xr_isub (pc := 20) dX6_qDropsToBracket_20 ?_
    obtain ⟨hi_, hf⟩ := xo_if hf
    refine xt_iald (pc := 21) 122 rfl rfl hi_ dX6_qDropsToBracket_21 ?_
    obtain ⟨r1, τ1, hτ1, hf⟩ := xo_bd hf
    refine call_f_t_qIsBracket (pc := 22) hτ1 rfl (Nat.le_of_ble_eq_true rfl) (Nat.le_of_ble_eq_true rfl) (Nat.le_of_ble_eq_true rfl) dX6_qDropsToBracket_22 ?_
    refine xr_if_ne (pc := 25) 35 dX6_qDropsToBracket_25 (by decide) (fun c_ => ?_) (fun c_ => ?_)
    · have hf := xo_pos c_ hf
      refine xr_aload_n (pc := 28) 0 dX6_qDropsToBracket_28 rfl rfl ?_
      obtain ⟨τ2, hτ2, hf⟩ := xo_bind hf
      refine call_f_t_qDrops (pc := 29) hτ2 rfl (Nat.le_of_ble_eq_true rfl) (Nat.le_of_ble_eq_true rfl) (Nat.le_of_ble_eq_true rfl) dX6_qDropsToBracket_29 ?_
      refine xr_goto (pc := 32) 0 dX6_qDropsToBracket_32 (by decide) ?_
      exact kc _ (Option.some.inj hf).symm
    · have hf := xo_neg c_ hf
      refine xV_sub [] rfl ?_
      exact ke0 _ (Option.some.inj hf).symm
def f_t_qDropsToBracket (τ : TS) : Option TS :=
  (itr (fun s_ : TS => Bt_qDropsToBracket_0 s_) 4096 τ).bind fun b3 =>
  some (b3)
theorem ok_f_t_qDropsToBracket {D : TD} {m : Nat} {K : xK} {Z : Option Value × TS} {τ : TS} {o_ : TS} (hf : f_t_qDropsToBracket τ = some o_) (kr : ∀ r_ : TS, o_ = r_ → Z = (none, r_)) : xV (wT D m) K mX6_qDropsToBracket (xQ (wT D m) K Z) τ 0 [(0, .ref m)] [] := by
  unfold f_t_qDropsToBracket at hf
  obtain ⟨b3, hb3, hf⟩ := xo_bind hf
  refine itr_rule (P := fun s_ : TS => xV (wT D m) K mX6_qDropsToBracket (xQ (wT D m) K Z) s_ 0 [(0, .ref m)] []) (fun s_ o_ hB_ hc_ he_ => ok_Bt_qDropsToBracket_0 hB_ hc_ (fun e_ h_ => ?_)) 4096 _ hb3
  · have e9_ := he_ _ h_
    rw [e9_]
    rw [kr _ (Option.some.inj hf).symm]
    exact xr_vret (pc := 35) dX6_qDropsToBracket_35 rfl
theorem met_f_t_qDropsToBracket (l : Launch) {D : TD} {m : Nat} {τ : TS} {o_ : TS} (hf : f_t_qDropsToBracket τ = some o_) : xMet (wT D m) l yX6_qDropsToBracket (ws_ yX6_qDropsToBracket cX6_qDropsToBracket 1 none) 2 120 0 0 [.ref m] τ (none, o_) :=
  xMet_of (by decide) (Nat.le_of_ble_eq_true rfl) KT_moved (fun _ _ => trivial) (fun K _ _ _ => ok_f_t_qDropsToBracket hf (fun _ h => by rw [h]))
theorem hd_f_t_qDropsToBracket : yX6_qDropsToBracket.cls = RX6 ∧ yX6_qDropsToBracket.cls ≠ "java/lang/invoke/MethodHandle" ∧ yX6_qDropsToBracket.cls ≠ "java/lang/invoke/VarHandle" ∧ (parseMethodDescriptor yX6_qDropsToBracket.desc).map (fun d => d.parameters.length) = some 0 := by decide +kernel
theorem call_f_t_qDropsToBracket {D : TD} {m : Nat} {K : xK} {M : xM} {Q : State → Prop} {τ : TS} {pc : Nat} {loc : List (Nat × Value)} {st : List Value} {τ1 : TS} (hf : f_t_qDropsToBracket τ = some τ1) (ho : M.2.2.1 = RX6) (hfr : 3 ≤ M.2.2.2.1) (hlo : 140 ≤ M.2.2.2.2.1) (hcat : (st.map fun v => v.category).sum ≤ 8) (d : decode M.1 pc = .ok (.invokevirtual 731, 3)) (k : xV (wT D m) K M Q τ1 (pc + 3) loc st) : xV (wT D m) K M Q τ pc loc (.ref m :: st) :=
  xr_callV (As := []) (rest := st) (met_f_t_qDropsToBracket K.2.1 hf) (lw_V q2301 q2303 qs99 q186 q2304) hd_f_t_qDropsToBracket ho hfr hlo rfl (fun H hR hK => t_recv H hR hK) rfl hcat d k
abbrev mX6_qIsOn : xM := (cX6_qIsOn, 2, RX6, 0, 0, (some .boolean), "qIsOn")
def Jt_qIsOn_26 (τ : TS) : Option (Int32 × TS) :=
  some ((0, τ))
theorem ok_Jt_qIsOn_26 {D : TD} {m : Nat} {K : xK} {Z : Option Value × TS} {τ : TS} {o_ : (Int32 × TS)} (hf : Jt_qIsOn_26 τ = some o_) (kr : ∀ r_ : (Int32 × TS), o_ = r_ → Z = (some (.int r_.1), r_.2)) : xV (wT D m) K mX6_qIsOn (xQ (wT D m) K Z) τ 26 [] [] := by
  unfold Jt_qIsOn_26 at hf
  refine xr_iconst (pc := 26) dX6_qIsOn_26 xci_0 ?_
  rw [kr _ (Option.some.inj hf).symm]
  exact xr_zret (pc := 27) dX6_qIsOn_27 rfl xz_0
def f_t_qIsOn (x1 : Int32) (τ : TS) : Option (Int32 × TS) :=
  if (tI τ 123) ≤ 0 then
  Jt_qIsOn_26 τ
  else
  if xin ((tI τ 123) - 1) 1700 = true then
  if (tA τ 122 ((tI τ 123) - 1).toNatClampNeg) = x1 then
  some ((1, τ))
  else
  Jt_qIsOn_26 τ
  else none
theorem ok_f_t_qIsOn {D : TD} {m : Nat} {K : xK} {Z : Option Value × TS} {x1 : Int32} {τ : TS} {o_ : (Int32 × TS)} (hf : f_t_qIsOn x1 τ = some o_) (kr : ∀ r_ : (Int32 × TS), o_ = r_ → Z = (some (.int r_.1), r_.2)) : xV (wT D m) K mX6_qIsOn (xQ (wT D m) K Z) τ 0 [(0, .ref m), (1, .int x1)] [] := by
  unfold f_t_qIsOn at hf
  refine xr_aload_n (pc := 0) 0 dX6_qIsOn_0 rfl rfl ?_
  refine xt_getI (pc := 1) 123 (by decide) q1869 rfl rfl rfl dX6_qIsOn_1 ?_
  refine xr_if_le (pc := 4) 26 dX6_qIsOn_4 (by decide) (fun c_ => ?_) (fun c_ => ?_)
  · have hf := xo_pos c_ hf
    refine xV_sub [] rfl ?_
    exact ok_Jt_qIsOn_26 hf kr
  · have hf := xo_neg c_ hf
    refine xr_aload_n (pc := 7) 0 dX6_qIsOn_7 rfl rfl ?_
    refine xt_getA (pc := 8) 122 (by decide) q1868 rfl rfl rfl dX6_qIsOn_8 ?_
    refine xr_aload_n (pc := 11) 0 dX6_qIsOn_11 rfl rfl ?_
    refine xt_getI (pc := 12) 123 (by decide) q1869 rfl rfl rfl dX6_qIsOn_12 ?_
    refine xr_iconst (pc := 15) dX6_qIsOn_15 xci_1 ?_
    refine xr_isub (pc := 16) dX6_qIsOn_16 ?_
    obtain ⟨hi_, hf⟩ := xo_if hf
    refine xt_iald (pc := 17) 122 rfl rfl hi_ dX6_qIsOn_17 ?_
    refine xr_iload_n (pc := 18) 1 dX6_qIsOn_18 rfl rfl ?_
    refine xr_icmp_ne (pc := 19) 26 dX6_qIsOn_19 (by decide) (fun c_ => ?_) (fun c_ => ?_)
    · have hf := xo_pos c_ hf
      refine xr_iconst (pc := 22) dX6_qIsOn_22 xci_1 ?_
      refine xr_goto (pc := 23) 27 dX6_qIsOn_23 (by decide) ?_
      rw [kr _ (Option.some.inj hf).symm]
      exact xr_zret (pc := 27) dX6_qIsOn_27 rfl xz_1
    · have hf := xo_neg c_ hf
      refine xV_sub [] rfl ?_
      exact ok_Jt_qIsOn_26 hf kr
theorem met_f_t_qIsOn (l : Launch) {D : TD} {m : Nat} {x1 : Int32} {τ : TS} {o_ : (Int32 × TS)} (hf : f_t_qIsOn x1 τ = some o_) : xMet (wT D m) l yX6_qIsOn (ws_ yX6_qIsOn cX6_qIsOn 2 (some .boolean)) 0 0 0 0 [.ref m, .int x1] τ (some (.int o_.1), o_.2) :=
  xMet_of (by decide) (Nat.le_of_ble_eq_true rfl) KT_moved (fun _ _ => trivial) (fun K _ _ _ => ok_f_t_qIsOn hf (fun _ h => by rw [h]))
theorem hd_f_t_qIsOn : yX6_qIsOn.cls = RX6 ∧ yX6_qIsOn.cls ≠ "java/lang/invoke/MethodHandle" ∧ yX6_qIsOn.cls ≠ "java/lang/invoke/VarHandle" ∧ (parseMethodDescriptor yX6_qIsOn.desc).map (fun d => d.parameters.length) = some 1 := by decide +kernel
theorem call_f_t_qIsOn {D : TD} {m : Nat} {K : xK} {M : xM} {Q : State → Prop} {x1 : Int32} {τ : TS} {pc : Nat} {loc : List (Nat × Value)} {st : List Value} {r : Int32} {τ1 : TS} (hf : f_t_qIsOn x1 τ = some (r, τ1)) (ho : M.2.2.1 = RX6) (hfr : 1 ≤ M.2.2.2.1) (hlo : 21 ≤ M.2.2.2.2.1) (hcat : (st.map fun v => v.category).sum ≤ 8) (d : decode M.1 pc = .ok (.invokevirtual 734, 3)) (k : xV (wT D m) K M Q τ1 (pc + 3) loc (.int r :: st)) : xV (wT D m) K M Q τ pc loc (.int x1 :: .ref m :: st) :=
  xr_callV (As := [.int x1]) (rest := st) (met_f_t_qIsOn K.2.1 hf) (lw_V q2305 q2307 qs100 q186 q2308) hd_f_t_qIsOn ho hfr hlo rfl (fun H hR hK => t_recv H hR hK) rfl hcat d k
abbrev mX6_qGoesOn : xM := (cX6_qGoesOn, 2, RX6, 3, 180, (some .boolean), "qGoesOn")
def Jt_qGoesOn_115 (τ : TS) : Option ((TS) ⊕ ((TS))) :=
  (f_t_qEndsPart τ).bind fun τ4 =>
  some (.inl τ4)
theorem ok_Jt_qGoesOn_115 {D : TD} {m : Nat} {K : xK} {Z : Option Value × TS} {τ : TS} {o_ : ((TS) ⊕ ((TS)))} (hf : Jt_qGoesOn_115 τ = some o_) (kc : ∀ s_ : TS, o_ = .inl s_ → xV (wT D m) K mX6_qGoesOn (xQ (wT D m) K Z) s_ 0 [(0, .ref m)] []) (ke0 : ∀ e_ : TS, o_ = .inr e_ → xV (wT D m) K mX6_qGoesOn (xQ (wT D m) K Z) e_ 122 [(0, .ref m)] []) : xV (wT D m) K mX6_qGoesOn (xQ (wT D m) K Z) τ 115 [(0, .ref m)] [] := by
  unfold Jt_qGoesOn_115 at hf
  refine xr_aload_n (pc := 115) 0 dX6_qGoesOn_115 rfl rfl ?_
  obtain ⟨τ4, hτ4, hf⟩ := xo_bind hf
  refine call_f_t_qEndsPart (pc := 116) hτ4 rfl (Nat.le_of_ble_eq_true rfl) (Nat.le_of_ble_eq_true rfl) (Nat.le_of_ble_eq_true rfl) dX6_qGoesOn_116 ?_
  refine xr_goto (pc := 119) 0 dX6_qGoesOn_119 (by decide) ?_
  exact kc _ (Option.some.inj hf).symm
def Jt_qGoesOn_112 (s0 : Int32) (τ : TS) : Option ((TS) ⊕ ((TS))) :=
  (f_t_qCode s0 τ).bind fun τ5 =>
  Jt_qGoesOn_115 τ5
theorem ok_Jt_qGoesOn_112 {D : TD} {m : Nat} {K : xK} {Z : Option Value × TS} {s0 : Int32} {τ : TS} {o_ : ((TS) ⊕ ((TS)))} (hf : Jt_qGoesOn_112 s0 τ = some o_) (kc : ∀ s_ : TS, o_ = .inl s_ → xV (wT D m) K mX6_qGoesOn (xQ (wT D m) K Z) s_ 0 [(0, .ref m)] []) (ke0 : ∀ e_ : TS, o_ = .inr e_ → xV (wT D m) K mX6_qGoesOn (xQ (wT D m) K Z) e_ 122 [(0, .ref m)] []) : xV (wT D m) K mX6_qGoesOn (xQ (wT D m) K Z) τ 112 [(0, .ref m)] [.int s0, .ref m] := by
  unfold Jt_qGoesOn_112 at hf
  obtain ⟨τ5, hτ5, hf⟩ := xo_bind hf
  refine call_f_t_qCode (pc := 112) hτ5 rfl (Nat.le_of_ble_eq_true rfl) (Nat.le_of_ble_eq_true rfl) (Nat.le_of_ble_eq_true rfl) dX6_qGoesOn_112 ?_
  exact ok_Jt_qGoesOn_115 hf kc ke0
def Jt_qGoesOn_43 (τ : TS) : Option ((TS) ⊕ ((TS))) :=
  (f_t_qDropsToBracket (sI τ 2 ((tI τ 2) + 1))).bind fun τ3 =>
  if xin (tI (sI (sI τ3 123 ((tI τ3 123) - 1)) 124 ((tI (sI τ3 123 ((tI τ3 123) - 1)) 124) - 1)) 123) 1700 = true then
  if (tA (sI (sI τ3 123 ((tI τ3 123) - 1)) 124 ((tI (sI τ3 123 ((tI τ3 123) - 1)) 124) - 1)) 122 (tI (sI (sI τ3 123 ((tI τ3 123) - 1)) 124 ((tI (sI τ3 123 ((tI τ3 123) - 1)) 124) - 1)) 123).toNatClampNeg) = 20 then
  Jt_qGoesOn_115 (sI (sI τ3 123 ((tI τ3 123) - 1)) 124 ((tI (sI τ3 123 ((tI τ3 123) - 1)) 124) - 1))
  else
  if xin (tI (sI (sI τ3 123 ((tI τ3 123) - 1)) 124 ((tI (sI τ3 123 ((tI τ3 123) - 1)) 124) - 1)) 123) 1700 = true then
  if (tA (sI (sI τ3 123 ((tI τ3 123) - 1)) 124 ((tI (sI τ3 123 ((tI τ3 123) - 1)) 124) - 1)) 122 (tI (sI (sI τ3 123 ((tI τ3 123) - 1)) 124 ((tI (sI τ3 123 ((tI τ3 123) - 1)) 124) - 1)) 123).toNatClampNeg) = 23 then
  Jt_qGoesOn_112 5 (sI (sI τ3 123 ((tI τ3 123) - 1)) 124 ((tI (sI τ3 123 ((tI τ3 123) - 1)) 124) - 1))
  else
  Jt_qGoesOn_112 6 (sI (sI τ3 123 ((tI τ3 123) - 1)) 124 ((tI (sI τ3 123 ((tI τ3 123) - 1)) 124) - 1))
  else none
  else none
theorem ok_Jt_qGoesOn_43 {D : TD} {m : Nat} {K : xK} {Z : Option Value × TS} {τ : TS} {o_ : ((TS) ⊕ ((TS)))} (hf : Jt_qGoesOn_43 τ = some o_) (kc : ∀ s_ : TS, o_ = .inl s_ → xV (wT D m) K mX6_qGoesOn (xQ (wT D m) K Z) s_ 0 [(0, .ref m)] []) (ke0 : ∀ e_ : TS, o_ = .inr e_ → xV (wT D m) K mX6_qGoesOn (xQ (wT D m) K Z) e_ 122 [(0, .ref m)] []) : xV (wT D m) K mX6_qGoesOn (xQ (wT D m) K Z) τ 43 [(0, .ref m)] [] := by
  unfold Jt_qGoesOn_43 at hf
  refine xr_aload_n (pc := 43) 0 dX6_qGoesOn_43 rfl rfl ?_
  refine xr_dup (pc := 44) dX6_qGoesOn_44 rfl ?_
  refine xt_getI (pc := 45) 2 (by decide) q1748 rfl rfl rfl dX6_qGoesOn_45 ?_
  refine xr_iconst (pc := 48) dX6_qGoesOn_48 xci_1 ?_
  refine xr_iadd (pc := 49) dX6_qGoesOn_49 ?_
  refine xt_putI (pc := 50) 2 (by decide) q1748 rfl rfl rfl (by decide +kernel) rfl dX6_qGoesOn_50 ?_
  refine xr_aload_n (pc := 53) 0 dX6_qGoesOn_53 rfl rfl ?_
  obtain ⟨τ3, hτ3, hf⟩ := xo_bind hf
  refine call_f_t_qDropsToBracket (pc := 54) hτ3 rfl (Nat.le_of_ble_eq_true rfl) (Nat.le_of_ble_eq_true rfl) (Nat.le_of_ble_eq_true rfl) dX6_qGoesOn_54 ?_
  refine xr_aload_n (pc := 57) 0 dX6_qGoesOn_57 rfl rfl ?_
  refine xr_dup (pc := 58) dX6_qGoesOn_58 rfl ?_
  refine xt_getI (pc := 59) 123 (by decide) q1869 rfl rfl rfl dX6_qGoesOn_59 ?_
  refine xr_iconst (pc := 62) dX6_qGoesOn_62 xci_1 ?_
  refine xr_isub (pc := 63) dX6_qGoesOn_63 ?_
  refine xt_putI (pc := 64) 123 (by decide) q1869 rfl rfl rfl (by decide +kernel) rfl dX6_qGoesOn_64 ?_
  refine xr_aload_n (pc := 67) 0 dX6_qGoesOn_67 rfl rfl ?_
  refine xr_dup (pc := 68) dX6_qGoesOn_68 rfl ?_
  refine xt_getI (pc := 69) 124 (by decide) q1870 rfl rfl rfl dX6_qGoesOn_69 ?_
  refine xr_iconst (pc := 72) dX6_qGoesOn_72 xci_1 ?_
  refine xr_isub (pc := 73) dX6_qGoesOn_73 ?_
  refine xt_putI (pc := 74) 124 (by decide) q1870 rfl rfl rfl (by decide +kernel) rfl dX6_qGoesOn_74 ?_
  refine xr_aload_n (pc := 77) 0 dX6_qGoesOn_77 rfl rfl ?_
  refine xt_getA (pc := 78) 122 (by decide) q1868 rfl rfl rfl dX6_qGoesOn_78 ?_
  refine xr_aload_n (pc := 81) 0 dX6_qGoesOn_81 rfl rfl ?_
  refine xt_getI (pc := 82) 123 (by decide) q1869 rfl rfl rfl dX6_qGoesOn_82 ?_
  obtain ⟨hi_, hf⟩ := xo_if hf
  refine xt_iald (pc := 85) 122 rfl rfl hi_ dX6_qGoesOn_85 ?_
  refine xr_bipush (pc := 86) dX6_qGoesOn_86 xcb_20 ?_
  refine xr_icmp_eq (pc := 88) 115 dX6_qGoesOn_88 (by decide) (fun c_ => ?_) (fun c_ => ?_)
  · have hf := xo_pos c_ hf
    exact ok_Jt_qGoesOn_115 hf kc ke0
  · have hf := xo_neg c_ hf
    refine xr_aload_n (pc := 91) 0 dX6_qGoesOn_91 rfl rfl ?_
    refine xr_aload_n (pc := 92) 0 dX6_qGoesOn_92 rfl rfl ?_
    refine xt_getA (pc := 93) 122 (by decide) q1868 rfl rfl rfl dX6_qGoesOn_93 ?_
    refine xr_aload_n (pc := 96) 0 dX6_qGoesOn_96 rfl rfl ?_
    refine xt_getI (pc := 97) 123 (by decide) q1869 rfl rfl rfl dX6_qGoesOn_97 ?_
    obtain ⟨hi_, hf⟩ := xo_if hf
    refine xt_iald (pc := 100) 122 rfl rfl hi_ dX6_qGoesOn_100 ?_
    refine xr_bipush (pc := 101) dX6_qGoesOn_101 xcb_23 ?_
    refine xr_icmp_ne (pc := 103) 110 dX6_qGoesOn_103 (by decide) (fun c_ => ?_) (fun c_ => ?_)
    · have hf := xo_pos c_ hf
      refine xr_iconst (pc := 106) dX6_qGoesOn_106 xci_5 ?_
      refine xr_goto (pc := 107) 112 dX6_qGoesOn_107 (by decide) ?_
      exact ok_Jt_qGoesOn_112 hf kc ke0
    · have hf := xo_neg c_ hf
      refine xr_bipush (pc := 110) dX6_qGoesOn_110 xcb_6 ?_
      exact ok_Jt_qGoesOn_112 hf kc ke0
def Bt_qGoesOn_0 (τ : TS) : Option ((TS) ⊕ ((TS))) :=
  if (tI τ 5) = 0 then
  xbd (f_t_look τ) fun r1 τ1 =>
  if r1 = 41 then
  xbd (f_t_qBracket τ1) fun r2 τ2 =>
  if r2 = 20 then
  Jt_qGoesOn_43 τ2
  else
  xbd (f_t_qBracket τ2) fun r6 τ6 =>
  if r6 = 23 then
  Jt_qGoesOn_43 τ6
  else
  xbd (f_t_qBracket τ6) fun r7 τ7 =>
  if r7 = 24 then
  Jt_qGoesOn_43 τ7
  else
  some (.inr τ7)
  else
  some (.inr τ1)
  else
  some (.inr τ)
theorem ok_Bt_qGoesOn_0 {D : TD} {m : Nat} {K : xK} {Z : Option Value × TS} {τ : TS} {o_ : ((TS) ⊕ ((TS)))} (hf : Bt_qGoesOn_0 τ = some o_) (kc : ∀ s_ : TS, o_ = .inl s_ → xV (wT D m) K mX6_qGoesOn (xQ (wT D m) K Z) s_ 0 [(0, .ref m)] []) (ke0 : ∀ e_ : TS, o_ = .inr e_ → xV (wT D m) K mX6_qGoesOn (xQ (wT D m) K Z) e_ 122 [(0, .ref m)] []) : xV (wT D m) K mX6_qGoesOn (xQ (wT D m) K Z) τ 0 [(0, .ref m)] [] := by
  unfold Bt_qGoesOn_0 at hf
  refine xr_aload_n (pc := 0) 0 dX6_qGoesOn_0 rfl rfl ?_
  refine xt_getI (pc := 1) 5 (by decide) q1751 rfl rfl rfl dX6_qGoesOn_1 ?_
  refine xr_if_ne (pc := 4) 122 dX6_qGoesOn_4 (by decide) (fun c_ => ?_) (fun c_ => ?_)
  · have hf := xo_pos c_ hf
    refine xr_aload_n (pc := 7) 0 dX6_qGoesOn_7 rfl rfl ?_
    obtain ⟨r1, τ1, hτ1, hf⟩ := xo_bd hf
    refine call_f_t_look (pc := 8) hτ1 rfl (Nat.le_of_ble_eq_true rfl) (Nat.le_of_ble_eq_true rfl) (Nat.le_of_ble_eq_true rfl) dX6_qGoesOn_8 ?_
    refine xr_bipush (pc := 11) dX6_qGoesOn_11 xcb_41 ?_
    refine xr_icmp_ne (pc := 13) 122 dX6_qGoesOn_13 (by decide) (fun c_ => ?_) (fun c_ => ?_)
    · have hf := xo_pos c_ hf
      refine xr_aload_n (pc := 16) 0 dX6_qGoesOn_16 rfl rfl ?_
      obtain ⟨r2, τ2, hτ2, hf⟩ := xo_bd hf
      refine call_f_t_qBracket (pc := 17) hτ2 rfl (Nat.le_of_ble_eq_true rfl) (Nat.le_of_ble_eq_true rfl) (Nat.le_of_ble_eq_true rfl) dX6_qGoesOn_17 ?_
      refine xr_bipush (pc := 20) dX6_qGoesOn_20 xcb_20 ?_
      refine xr_icmp_eq (pc := 22) 43 dX6_qGoesOn_22 (by decide) (fun c_ => ?_) (fun c_ => ?_)
      · have hf := xo_pos c_ hf
        exact ok_Jt_qGoesOn_43 hf kc ke0
      · have hf := xo_neg c_ hf
        refine xr_aload_n (pc := 25) 0 dX6_qGoesOn_25 rfl rfl ?_
        obtain ⟨r6, τ6, hτ6, hf⟩ := xo_bd hf
        refine call_f_t_qBracket (pc := 26) hτ6 rfl (Nat.le_of_ble_eq_true rfl) (Nat.le_of_ble_eq_true rfl) (Nat.le_of_ble_eq_true rfl) dX6_qGoesOn_26 ?_
        refine xr_bipush (pc := 29) dX6_qGoesOn_29 xcb_23 ?_
        refine xr_icmp_eq (pc := 31) 43 dX6_qGoesOn_31 (by decide) (fun c_ => ?_) (fun c_ => ?_)
        · have hf := xo_pos c_ hf
          exact ok_Jt_qGoesOn_43 hf kc ke0
        · have hf := xo_neg c_ hf
          refine xr_aload_n (pc := 34) 0 dX6_qGoesOn_34 rfl rfl ?_
          obtain ⟨r7, τ7, hτ7, hf⟩ := xo_bd hf
          refine call_f_t_qBracket (pc := 35) hτ7 rfl (Nat.le_of_ble_eq_true rfl) (Nat.le_of_ble_eq_true rfl) (Nat.le_of_ble_eq_true rfl) dX6_qGoesOn_35 ?_
          refine xr_bipush (pc := 38) dX6_qGoesOn_38 xcb_24 ?_
          refine xr_icmp_ne (pc := 40) 122 dX6_qGoesOn_40 (by decide) (fun c_ => ?_) (fun c_ => ?_)
          · have hf := xo_pos c_ hf
            exact ok_Jt_qGoesOn_43 hf kc ke0
          · have hf := xo_neg c_ hf
            exact ke0 _ (Option.some.inj hf).symm
    · have hf := xo_neg c_ hf
      exact ke0 _ (Option.some.inj hf).symm
  · have hf := xo_neg c_ hf
    exact ke0 _ (Option.some.inj hf).symm
def Jt_qGoesOn_326 (τ : TS) : Option (Int32 × TS) :=
  (f_t_asksSign 44 τ).bind fun τ14 =>
  if (tI τ14 5) = 0 then
  (f_t_qDropsToBracket τ14).bind fun τ15 =>
  if xin ((tI τ15 123) - 1) 1700 = true then
  if xin ((tI τ15 123) - 1) 1700 = true then
  some ((1, sA τ15 122 ((tI τ15 123) - 1).toNatClampNeg ((tA τ15 122 ((tI τ15 123) - 1).toNatClampNeg) + 2)))
  else none
  else none
  else
  some ((0, τ14))
theorem ok_Jt_qGoesOn_326 {D : TD} {m : Nat} {K : xK} {Z : Option Value × TS} {τ : TS} {o_ : (Int32 × TS)} (hf : Jt_qGoesOn_326 τ = some o_) (kr : ∀ r_ : (Int32 × TS), o_ = r_ → Z = (some (.int r_.1), r_.2)) : xV (wT D m) K mX6_qGoesOn (xQ (wT D m) K Z) τ 326 [(0, .ref m)] [] := by
  unfold Jt_qGoesOn_326 at hf
  refine xr_aload_n (pc := 326) 0 dX6_qGoesOn_326 rfl rfl ?_
  refine xr_bipush (pc := 327) dX6_qGoesOn_327 xcb_44 ?_
  obtain ⟨τ14, hτ14, hf⟩ := xo_bind hf
  refine call_f_t_asksSign (pc := 329) hτ14 rfl (Nat.le_of_ble_eq_true rfl) (Nat.le_of_ble_eq_true rfl) (Nat.le_of_ble_eq_true rfl) dX6_qGoesOn_329 ?_
  refine xr_aload_n (pc := 332) 0 dX6_qGoesOn_332 rfl rfl ?_
  refine xt_getI (pc := 333) 5 (by decide) q1751 rfl rfl rfl dX6_qGoesOn_333 ?_
  refine xr_if_eq (pc := 336) 341 dX6_qGoesOn_336 (by decide) (fun c_ => ?_) (fun c_ => ?_)
  · have hf := xo_pos c_ hf
    refine xr_aload_n (pc := 341) 0 dX6_qGoesOn_341 rfl rfl ?_
    obtain ⟨τ15, hτ15, hf⟩ := xo_bind hf
    refine call_f_t_qDropsToBracket (pc := 342) hτ15 rfl (Nat.le_of_ble_eq_true rfl) (Nat.le_of_ble_eq_true rfl) (Nat.le_of_ble_eq_true rfl) dX6_qGoesOn_342 ?_
    refine xr_aload_n (pc := 345) 0 dX6_qGoesOn_345 rfl rfl ?_
    refine xt_getA (pc := 346) 122 (by decide) q1868 rfl rfl rfl dX6_qGoesOn_346 ?_
    refine xr_aload_n (pc := 349) 0 dX6_qGoesOn_349 rfl rfl ?_
    refine xt_getI (pc := 350) 123 (by decide) q1869 rfl rfl rfl dX6_qGoesOn_350 ?_
    refine xr_iconst (pc := 353) dX6_qGoesOn_353 xci_1 ?_
    refine xr_isub (pc := 354) dX6_qGoesOn_354 ?_
    refine xr_dup2_11 (pc := 355) dX6_qGoesOn_355 rfl rfl ?_
    obtain ⟨hi_, hf⟩ := xo_if hf
    refine xt_iald (pc := 356) 122 rfl rfl hi_ dX6_qGoesOn_356 ?_
    refine xr_iconst (pc := 357) dX6_qGoesOn_357 xci_2 ?_
    refine xr_iadd (pc := 358) dX6_qGoesOn_358 ?_
    obtain ⟨hi_, hf⟩ := xo_if hf
    refine xt_iast (pc := 359) 122 rfl rfl hi_ dX6_qGoesOn_359 ?_
    refine xr_iconst (pc := 360) dX6_qGoesOn_360 xci_1 ?_
    rw [kr _ (Option.some.inj hf).symm]
    exact xr_zret (pc := 361) dX6_qGoesOn_361 rfl xz_1
  · have hf := xo_neg c_ hf
    refine xr_iconst (pc := 339) dX6_qGoesOn_339 xci_0 ?_
    rw [kr _ (Option.some.inj hf).symm]
    exact xr_zret (pc := 340) dX6_qGoesOn_340 rfl xz_0
def Jt_qGoesOn_279 (x1 : Int32) (τ : TS) : Option ((TS) ⊕ ((TS))) :=
  (f_t_qDrops τ).bind fun τ23 =>
  some (.inl τ23)
theorem ok_Jt_qGoesOn_279 {D : TD} {m : Nat} {K : xK} {Z : Option Value × TS} {x1 : Int32} {τ : TS} {o_ : ((TS) ⊕ ((TS)))} (hf : Jt_qGoesOn_279 x1 τ = some o_) (kc : ∀ s_ : TS, o_ = .inl s_ → xV (wT D m) K mX6_qGoesOn (xQ (wT D m) K Z) s_ 247 [(0, .ref m), (1, .int x1)] []) (ke0 : ∀ e_ : TS, o_ = .inr e_ → xV (wT D m) K mX6_qGoesOn (xQ (wT D m) K Z) e_ 286 [(0, .ref m), (1, .int x1)] []) : xV (wT D m) K mX6_qGoesOn (xQ (wT D m) K Z) τ 279 [(0, .ref m), (1, .int x1)] [] := by
  unfold Jt_qGoesOn_279 at hf
  refine xr_aload_n (pc := 279) 0 dX6_qGoesOn_279 rfl rfl ?_
  obtain ⟨τ23, hτ23, hf⟩ := xo_bind hf
  refine call_f_t_qDrops (pc := 280) hτ23 rfl (Nat.le_of_ble_eq_true rfl) (Nat.le_of_ble_eq_true rfl) (Nat.le_of_ble_eq_true rfl) dX6_qGoesOn_280 ?_
  refine xr_goto (pc := 283) 247 dX6_qGoesOn_283 (by decide) ?_
  exact kc _ (Option.some.inj hf).symm
def Bt_qGoesOn_247 (x1 : Int32) (τ : TS) : Option ((TS) ⊕ ((TS))) :=
  xbd (f_t_qIsOn 3 τ) fun r19 τ19 =>
  if r19 = 0 then
  xbd (f_t_qIsOn 4 τ19) fun r20 τ20 =>
  if r20 = 0 then
  xbd (f_t_qIsOn 1 τ20) fun r21 τ21 =>
  if r21 = 0 then
  xbd (f_t_qIsOn 2 τ21) fun r22 τ22 =>
  if r22 = 0 then
  some (.inr τ22)
  else
  Jt_qGoesOn_279 x1 τ22
  else
  Jt_qGoesOn_279 x1 τ21
  else
  Jt_qGoesOn_279 x1 τ20
  else
  Jt_qGoesOn_279 x1 τ19
theorem ok_Bt_qGoesOn_247 {D : TD} {m : Nat} {K : xK} {Z : Option Value × TS} {x1 : Int32} {τ : TS} {o_ : ((TS) ⊕ ((TS)))} (hf : Bt_qGoesOn_247 x1 τ = some o_) (kc : ∀ s_ : TS, o_ = .inl s_ → xV (wT D m) K mX6_qGoesOn (xQ (wT D m) K Z) s_ 247 [(0, .ref m), (1, .int x1)] []) (ke0 : ∀ e_ : TS, o_ = .inr e_ → xV (wT D m) K mX6_qGoesOn (xQ (wT D m) K Z) e_ 286 [(0, .ref m), (1, .int x1)] []) : xV (wT D m) K mX6_qGoesOn (xQ (wT D m) K Z) τ 247 [(0, .ref m), (1, .int x1)] [] := by
  unfold Bt_qGoesOn_247 at hf
  refine xr_aload_n (pc := 247) 0 dX6_qGoesOn_247 rfl rfl ?_
  refine xr_iconst (pc := 248) dX6_qGoesOn_248 xci_3 ?_
  obtain ⟨r19, τ19, hτ19, hf⟩ := xo_bd hf
  refine call_f_t_qIsOn (pc := 249) hτ19 rfl (Nat.le_of_ble_eq_true rfl) (Nat.le_of_ble_eq_true rfl) (Nat.le_of_ble_eq_true rfl) dX6_qGoesOn_249 ?_
  refine xr_if_ne (pc := 252) 279 dX6_qGoesOn_252 (by decide) (fun c_ => ?_) (fun c_ => ?_)
  · have hf := xo_pos c_ hf
    refine xr_aload_n (pc := 255) 0 dX6_qGoesOn_255 rfl rfl ?_
    refine xr_iconst (pc := 256) dX6_qGoesOn_256 xci_4 ?_
    obtain ⟨r20, τ20, hτ20, hf⟩ := xo_bd hf
    refine call_f_t_qIsOn (pc := 257) hτ20 rfl (Nat.le_of_ble_eq_true rfl) (Nat.le_of_ble_eq_true rfl) (Nat.le_of_ble_eq_true rfl) dX6_qGoesOn_257 ?_
    refine xr_if_ne (pc := 260) 279 dX6_qGoesOn_260 (by decide) (fun c_ => ?_) (fun c_ => ?_)
    · have hf := xo_pos c_ hf
      refine xr_aload_n (pc := 263) 0 dX6_qGoesOn_263 rfl rfl ?_
      refine xr_iconst (pc := 264) dX6_qGoesOn_264 xci_1 ?_
      obtain ⟨r21, τ21, hτ21, hf⟩ := xo_bd hf
      refine call_f_t_qIsOn (pc := 265) hτ21 rfl (Nat.le_of_ble_eq_true rfl) (Nat.le_of_ble_eq_true rfl) (Nat.le_of_ble_eq_true rfl) dX6_qGoesOn_265 ?_
      refine xr_if_ne (pc := 268) 279 dX6_qGoesOn_268 (by decide) (fun c_ => ?_) (fun c_ => ?_)
      · have hf := xo_pos c_ hf
        refine xr_aload_n (pc := 271) 0 dX6_qGoesOn_271 rfl rfl ?_
        refine xr_iconst (pc := 272) dX6_qGoesOn_272 xci_2 ?_
        obtain ⟨r22, τ22, hτ22, hf⟩ := xo_bd hf
        refine call_f_t_qIsOn (pc := 273) hτ22 rfl (Nat.le_of_ble_eq_true rfl) (Nat.le_of_ble_eq_true rfl) (Nat.le_of_ble_eq_true rfl) dX6_qGoesOn_273 ?_
        refine xr_if_eq (pc := 276) 286 dX6_qGoesOn_276 (by decide) (fun c_ => ?_) (fun c_ => ?_)
        · have hf := xo_pos c_ hf
          exact ke0 _ (Option.some.inj hf).symm
        · have hf := xo_neg c_ hf
          exact ok_Jt_qGoesOn_279 hf kc ke0
      · have hf := xo_neg c_ hf
        exact ok_Jt_qGoesOn_279 hf kc ke0
    · have hf := xo_neg c_ hf
      exact ok_Jt_qGoesOn_279 hf kc ke0
  · have hf := xo_neg c_ hf
    exact ok_Jt_qGoesOn_279 hf kc ke0
def Jt_qGoesOn_246 (s0 : Int32) (τ : TS) : Option (Int32 × TS) :=
  (itr (fun s_ : TS => Bt_qGoesOn_247 s0 s_) 4096 τ).bind fun b24 =>
  if xin (tI b24 123) 1700 = true then
  some ((1, sI (sA b24 122 (tI b24 123).toNatClampNeg s0) 123 ((tI (sA b24 122 (tI b24 123).toNatClampNeg s0) 123) + 1)))
  else none
theorem ok_Jt_qGoesOn_246 {D : TD} {m : Nat} {K : xK} {Z : Option Value × TS} {s0 : Int32} {τ : TS} {o_ : (Int32 × TS)} (hf : Jt_qGoesOn_246 s0 τ = some o_) (kr : ∀ r_ : (Int32 × TS), o_ = r_ → Z = (some (.int r_.1), r_.2)) : xV (wT D m) K mX6_qGoesOn (xQ (wT D m) K Z) τ 246 [(0, .ref m)] [.int s0] := by
  unfold Jt_qGoesOn_246 at hf
  refine xr_istore_n (pc := 246) (loc' := [(1, .int s0), (0, .ref m)]) dX6_qGoesOn_246 rfl (by decide) rfl ?_
  refine xV_sub [1, 0] rfl ?_
  obtain ⟨b24, hb24, hf⟩ := xo_bind hf
  refine itr_rule (P := fun s_ : TS => xV (wT D m) K mX6_qGoesOn (xQ (wT D m) K Z) s_ 247 [(0, .ref m), (1, .int s0)] []) (fun s_ o_ hB_ hc_ he_ => ok_Bt_qGoesOn_247 hB_ hc_ (fun e_ h_ => ?_)) 4096 _ hb24
  · have e9_ := he_ _ h_
    rw [e9_]
    refine xr_aload_n (pc := 286) 0 dX6_qGoesOn_286 rfl rfl ?_
    refine xt_getA (pc := 287) 122 (by decide) q1868 rfl rfl rfl dX6_qGoesOn_287 ?_
    refine xr_aload_n (pc := 290) 0 dX6_qGoesOn_290 rfl rfl ?_
    refine xt_getI (pc := 291) 123 (by decide) q1869 rfl rfl rfl dX6_qGoesOn_291 ?_
    refine xr_iload_n (pc := 294) 1 dX6_qGoesOn_294 rfl rfl ?_
    obtain ⟨hi_, hf⟩ := xo_if hf
    refine xt_iast (pc := 295) 122 rfl rfl hi_ dX6_qGoesOn_295 ?_
    refine xr_aload_n (pc := 296) 0 dX6_qGoesOn_296 rfl rfl ?_
    refine xr_dup (pc := 297) dX6_qGoesOn_297 rfl ?_
    refine xt_getI (pc := 298) 123 (by decide) q1869 rfl rfl rfl dX6_qGoesOn_298 ?_
    refine xr_iconst (pc := 301) dX6_qGoesOn_301 xci_1 ?_
    refine xr_iadd (pc := 302) dX6_qGoesOn_302 ?_
    refine xt_putI (pc := 303) 123 (by decide) q1869 rfl rfl rfl (by decide +kernel) rfl dX6_qGoesOn_303 ?_
    refine xr_iconst (pc := 306) dX6_qGoesOn_306 xci_1 ?_
    rw [kr _ (Option.some.inj hf).symm]
    exact xr_zret (pc := 307) dX6_qGoesOn_307 rfl xz_1
def Jt_qGoesOn_225 (τ : TS) : Option (Int32 × TS) :=
  if xin ((tI τ 2) - 1) 1600 = true then
  if (tA τ 0 ((tI τ 2) - 1).toNatClampNeg) = 43 then
  Jt_qGoesOn_246 1 τ
  else
  Jt_qGoesOn_246 2 τ
  else none
theorem ok_Jt_qGoesOn_225 {D : TD} {m : Nat} {K : xK} {Z : Option Value × TS} {τ : TS} {o_ : (Int32 × TS)} (hf : Jt_qGoesOn_225 τ = some o_) (kr : ∀ r_ : (Int32 × TS), o_ = r_ → Z = (some (.int r_.1), r_.2)) : xV (wT D m) K mX6_qGoesOn (xQ (wT D m) K Z) τ 225 [(0, .ref m)] [] := by
  unfold Jt_qGoesOn_225 at hf
  refine xr_aload_n (pc := 225) 0 dX6_qGoesOn_225 rfl rfl ?_
  refine xt_getA (pc := 226) 0 (by decide) q1746 rfl rfl rfl dX6_qGoesOn_226 ?_
  refine xr_aload_n (pc := 229) 0 dX6_qGoesOn_229 rfl rfl ?_
  refine xt_getI (pc := 230) 2 (by decide) q1748 rfl rfl rfl dX6_qGoesOn_230 ?_
  refine xr_iconst (pc := 233) dX6_qGoesOn_233 xci_1 ?_
  refine xr_isub (pc := 234) dX6_qGoesOn_234 ?_
  obtain ⟨hi_, hf⟩ := xo_if hf
  refine xt_iald (pc := 235) 0 rfl rfl hi_ dX6_qGoesOn_235 ?_
  refine xr_bipush (pc := 236) dX6_qGoesOn_236 xcb_43 ?_
  refine xr_icmp_ne (pc := 238) 245 dX6_qGoesOn_238 (by decide) (fun c_ => ?_) (fun c_ => ?_)
  · have hf := xo_pos c_ hf
    refine xr_iconst (pc := 241) dX6_qGoesOn_241 xci_1 ?_
    refine xr_goto (pc := 242) 246 dX6_qGoesOn_242 (by decide) ?_
    exact ok_Jt_qGoesOn_246 hf kr
  · have hf := xo_neg c_ hf
    refine xr_iconst (pc := 245) dX6_qGoesOn_245 xci_2 ?_
    exact ok_Jt_qGoesOn_246 hf kr
def Jt_qGoesOn_178 (x1 : Int32) (τ : TS) : Option ((TS) ⊕ ((TS))) :=
  (f_t_qDrops τ).bind fun τ27 =>
  some (.inl τ27)
theorem ok_Jt_qGoesOn_178 {D : TD} {m : Nat} {K : xK} {Z : Option Value × TS} {x1 : Int32} {τ : TS} {o_ : ((TS) ⊕ ((TS)))} (hf : Jt_qGoesOn_178 x1 τ = some o_) (kc : ∀ s_ : TS, o_ = .inl s_ → xV (wT D m) K mX6_qGoesOn (xQ (wT D m) K Z) s_ 162 [(0, .ref m), (1, .int x1)] []) (ke0 : ∀ e_ : TS, o_ = .inr e_ → xV (wT D m) K mX6_qGoesOn (xQ (wT D m) K Z) e_ 185 [(0, .ref m), (1, .int x1)] []) : xV (wT D m) K mX6_qGoesOn (xQ (wT D m) K Z) τ 178 [(0, .ref m), (1, .int x1)] [] := by
  unfold Jt_qGoesOn_178 at hf
  refine xr_aload_n (pc := 178) 0 dX6_qGoesOn_178 rfl rfl ?_
  obtain ⟨τ27, hτ27, hf⟩ := xo_bind hf
  refine call_f_t_qDrops (pc := 179) hτ27 rfl (Nat.le_of_ble_eq_true rfl) (Nat.le_of_ble_eq_true rfl) (Nat.le_of_ble_eq_true rfl) dX6_qGoesOn_179 ?_
  refine xr_goto (pc := 182) 162 dX6_qGoesOn_182 (by decide) ?_
  exact kc _ (Option.some.inj hf).symm
def Bt_qGoesOn_162 (x1 : Int32) (τ : TS) : Option ((TS) ⊕ ((TS))) :=
  xbd (f_t_qIsOn 3 τ) fun r25 τ25 =>
  if r25 = 0 then
  xbd (f_t_qIsOn 4 τ25) fun r26 τ26 =>
  if r26 = 0 then
  some (.inr τ26)
  else
  Jt_qGoesOn_178 x1 τ26
  else
  Jt_qGoesOn_178 x1 τ25
theorem ok_Bt_qGoesOn_162 {D : TD} {m : Nat} {K : xK} {Z : Option Value × TS} {x1 : Int32} {τ : TS} {o_ : ((TS) ⊕ ((TS)))} (hf : Bt_qGoesOn_162 x1 τ = some o_) (kc : ∀ s_ : TS, o_ = .inl s_ → xV (wT D m) K mX6_qGoesOn (xQ (wT D m) K Z) s_ 162 [(0, .ref m), (1, .int x1)] []) (ke0 : ∀ e_ : TS, o_ = .inr e_ → xV (wT D m) K mX6_qGoesOn (xQ (wT D m) K Z) e_ 185 [(0, .ref m), (1, .int x1)] []) : xV (wT D m) K mX6_qGoesOn (xQ (wT D m) K Z) τ 162 [(0, .ref m), (1, .int x1)] [] := by
  unfold Bt_qGoesOn_162 at hf
  refine xr_aload_n (pc := 162) 0 dX6_qGoesOn_162 rfl rfl ?_
  refine xr_iconst (pc := 163) dX6_qGoesOn_163 xci_3 ?_
  obtain ⟨r25, τ25, hτ25, hf⟩ := xo_bd hf
  refine call_f_t_qIsOn (pc := 164) hτ25 rfl (Nat.le_of_ble_eq_true rfl) (Nat.le_of_ble_eq_true rfl) (Nat.le_of_ble_eq_true rfl) dX6_qGoesOn_164 ?_
  refine xr_if_ne (pc := 167) 178 dX6_qGoesOn_167 (by decide) (fun c_ => ?_) (fun c_ => ?_)
  · have hf := xo_pos c_ hf
    refine xr_aload_n (pc := 170) 0 dX6_qGoesOn_170 rfl rfl ?_
    refine xr_iconst (pc := 171) dX6_qGoesOn_171 xci_4 ?_
    obtain ⟨r26, τ26, hτ26, hf⟩ := xo_bd hf
    refine call_f_t_qIsOn (pc := 172) hτ26 rfl (Nat.le_of_ble_eq_true rfl) (Nat.le_of_ble_eq_true rfl) (Nat.le_of_ble_eq_true rfl) dX6_qGoesOn_172 ?_
    refine xr_if_eq (pc := 175) 185 dX6_qGoesOn_175 (by decide) (fun c_ => ?_) (fun c_ => ?_)
    · have hf := xo_pos c_ hf
      exact ke0 _ (Option.some.inj hf).symm
    · have hf := xo_neg c_ hf
      exact ok_Jt_qGoesOn_178 hf kc ke0
  · have hf := xo_neg c_ hf
    exact ok_Jt_qGoesOn_178 hf kc ke0
def Jt_qGoesOn_161 (s0 : Int32) (τ : TS) : Option (Int32 × TS) :=
  (itr (fun s_ : TS => Bt_qGoesOn_162 s0 s_) 4096 τ).bind fun b28 =>
  if xin (tI b28 123) 1700 = true then
  some ((1, sI (sA b28 122 (tI b28 123).toNatClampNeg s0) 123 ((tI (sA b28 122 (tI b28 123).toNatClampNeg s0) 123) + 1)))
  else none
theorem ok_Jt_qGoesOn_161 {D : TD} {m : Nat} {K : xK} {Z : Option Value × TS} {s0 : Int32} {τ : TS} {o_ : (Int32 × TS)} (hf : Jt_qGoesOn_161 s0 τ = some o_) (kr : ∀ r_ : (Int32 × TS), o_ = r_ → Z = (some (.int r_.1), r_.2)) : xV (wT D m) K mX6_qGoesOn (xQ (wT D m) K Z) τ 161 [(0, .ref m)] [.int s0] := by
  unfold Jt_qGoesOn_161 at hf
  refine xr_istore_n (pc := 161) (loc' := [(1, .int s0), (0, .ref m)]) dX6_qGoesOn_161 rfl (by decide) rfl ?_
  refine xV_sub [1, 0] rfl ?_
  obtain ⟨b28, hb28, hf⟩ := xo_bind hf
  refine itr_rule (P := fun s_ : TS => xV (wT D m) K mX6_qGoesOn (xQ (wT D m) K Z) s_ 162 [(0, .ref m), (1, .int s0)] []) (fun s_ o_ hB_ hc_ he_ => ok_Bt_qGoesOn_162 hB_ hc_ (fun e_ h_ => ?_)) 4096 _ hb28
  · have e9_ := he_ _ h_
    rw [e9_]
    refine xr_aload_n (pc := 185) 0 dX6_qGoesOn_185 rfl rfl ?_
    refine xt_getA (pc := 186) 122 (by decide) q1868 rfl rfl rfl dX6_qGoesOn_186 ?_
    refine xr_aload_n (pc := 189) 0 dX6_qGoesOn_189 rfl rfl ?_
    refine xt_getI (pc := 190) 123 (by decide) q1869 rfl rfl rfl dX6_qGoesOn_190 ?_
    refine xr_iload_n (pc := 193) 1 dX6_qGoesOn_193 rfl rfl ?_
    obtain ⟨hi_, hf⟩ := xo_if hf
    refine xt_iast (pc := 194) 122 rfl rfl hi_ dX6_qGoesOn_194 ?_
    refine xr_aload_n (pc := 195) 0 dX6_qGoesOn_195 rfl rfl ?_
    refine xr_dup (pc := 196) dX6_qGoesOn_196 rfl ?_
    refine xt_getI (pc := 197) 123 (by decide) q1869 rfl rfl rfl dX6_qGoesOn_197 ?_
    refine xr_iconst (pc := 200) dX6_qGoesOn_200 xci_1 ?_
    refine xr_iadd (pc := 201) dX6_qGoesOn_201 ?_
    refine xt_putI (pc := 202) 123 (by decide) q1869 rfl rfl rfl (by decide +kernel) rfl dX6_qGoesOn_202 ?_
    refine xr_iconst (pc := 205) dX6_qGoesOn_205 xci_1 ?_
    rw [kr _ (Option.some.inj hf).symm]
    exact xr_zret (pc := 206) dX6_qGoesOn_206 rfl xz_1
def Jt_qGoesOn_140 (τ : TS) : Option (Int32 × TS) :=
  if xin ((tI τ 2) - 1) 1600 = true then
  if (tA τ 0 ((tI τ 2) - 1).toNatClampNeg) = 42 then
  Jt_qGoesOn_161 3 τ
  else
  Jt_qGoesOn_161 4 τ
  else none
theorem ok_Jt_qGoesOn_140 {D : TD} {m : Nat} {K : xK} {Z : Option Value × TS} {τ : TS} {o_ : (Int32 × TS)} (hf : Jt_qGoesOn_140 τ = some o_) (kr : ∀ r_ : (Int32 × TS), o_ = r_ → Z = (some (.int r_.1), r_.2)) : xV (wT D m) K mX6_qGoesOn (xQ (wT D m) K Z) τ 140 [(0, .ref m)] [] := by
  unfold Jt_qGoesOn_140 at hf
  refine xr_aload_n (pc := 140) 0 dX6_qGoesOn_140 rfl rfl ?_
  refine xt_getA (pc := 141) 0 (by decide) q1746 rfl rfl rfl dX6_qGoesOn_141 ?_
  refine xr_aload_n (pc := 144) 0 dX6_qGoesOn_144 rfl rfl ?_
  refine xt_getI (pc := 145) 2 (by decide) q1748 rfl rfl rfl dX6_qGoesOn_145 ?_
  refine xr_iconst (pc := 148) dX6_qGoesOn_148 xci_1 ?_
  refine xr_isub (pc := 149) dX6_qGoesOn_149 ?_
  obtain ⟨hi_, hf⟩ := xo_if hf
  refine xt_iald (pc := 150) 0 rfl rfl hi_ dX6_qGoesOn_150 ?_
  refine xr_bipush (pc := 151) dX6_qGoesOn_151 xcb_42 ?_
  refine xr_icmp_ne (pc := 153) 160 dX6_qGoesOn_153 (by decide) (fun c_ => ?_) (fun c_ => ?_)
  · have hf := xo_pos c_ hf
    refine xr_iconst (pc := 156) dX6_qGoesOn_156 xci_3 ?_
    refine xr_goto (pc := 157) 161 dX6_qGoesOn_157 (by decide) ?_
    exact ok_Jt_qGoesOn_161 hf kr
  · have hf := xo_neg c_ hf
    refine xr_iconst (pc := 160) dX6_qGoesOn_160 xci_4 ?_
    exact ok_Jt_qGoesOn_161 hf kr
def Jt_qGoesOn_122 (τ : TS) : Option (Int32 × TS) :=
  xbd (f_t_takesSign 42 τ) fun r9 τ9 =>
  if r9 = 0 then
  xbd (f_t_takesSign 47 τ9) fun r10 τ10 =>
  if r10 = 0 then
  xbd (f_t_takesSign 43 τ10) fun r11 τ11 =>
  if r11 = 0 then
  xbd (f_t_takesSign 45 τ11) fun r12 τ12 =>
  if r12 = 0 then
  xbd (f_t_qBracket τ12) fun r13 τ13 =>
  if r13 = 21 then
  Jt_qGoesOn_326 τ13
  else
  xbd (f_t_qBracket τ13) fun r16 τ16 =>
  if r16 = 22 then
  Jt_qGoesOn_326 τ16
  else
  xbd (f_t_qBracket τ16) fun r17 τ17 =>
  if r17 = (-1) then
  some ((0, τ17))
  else
  if (tI τ17 5) = 0 then
  (f_t_fail 1 (tI τ17 2) τ17).bind fun τ18 =>
  some ((0, τ18))
  else
  some ((0, τ17))
  else
  Jt_qGoesOn_225 τ12
  else
  Jt_qGoesOn_225 τ11
  else
  Jt_qGoesOn_140 τ10
  else
  Jt_qGoesOn_140 τ9
theorem ok_Jt_qGoesOn_122 {D : TD} {m : Nat} {K : xK} {Z : Option Value × TS} {τ : TS} {o_ : (Int32 × TS)} (hf : Jt_qGoesOn_122 τ = some o_) (kr : ∀ r_ : (Int32 × TS), o_ = r_ → Z = (some (.int r_.1), r_.2)) : xV (wT D m) K mX6_qGoesOn (xQ (wT D m) K Z) τ 122 [(0, .ref m)] [] := by
  unfold Jt_qGoesOn_122 at hf
  refine xr_aload_n (pc := 122) 0 dX6_qGoesOn_122 rfl rfl ?_
  refine xr_bipush (pc := 123) dX6_qGoesOn_123 xcb_42 ?_
  obtain ⟨r9, τ9, hτ9, hf⟩ := xo_bd hf
  refine call_f_t_takesSign (pc := 125) hτ9 rfl (Nat.le_of_ble_eq_true rfl) (Nat.le_of_ble_eq_true rfl) (Nat.le_of_ble_eq_true rfl) dX6_qGoesOn_125 ?_
  refine xr_if_ne (pc := 128) 140 dX6_qGoesOn_128 (by decide) (fun c_ => ?_) (fun c_ => ?_)
  · have hf := xo_pos c_ hf
    refine xr_aload_n (pc := 131) 0 dX6_qGoesOn_131 rfl rfl ?_
    refine xr_bipush (pc := 132) dX6_qGoesOn_132 xcb_47 ?_
    obtain ⟨r10, τ10, hτ10, hf⟩ := xo_bd hf
    refine call_f_t_takesSign (pc := 134) hτ10 rfl (Nat.le_of_ble_eq_true rfl) (Nat.le_of_ble_eq_true rfl) (Nat.le_of_ble_eq_true rfl) dX6_qGoesOn_134 ?_
    refine xr_if_eq (pc := 137) 207 dX6_qGoesOn_137 (by decide) (fun c_ => ?_) (fun c_ => ?_)
    · have hf := xo_pos c_ hf
      refine xr_aload_n (pc := 207) 0 dX6_qGoesOn_207 rfl rfl ?_
      refine xr_bipush (pc := 208) dX6_qGoesOn_208 xcb_43 ?_
      obtain ⟨r11, τ11, hτ11, hf⟩ := xo_bd hf
      refine call_f_t_takesSign (pc := 210) hτ11 rfl (Nat.le_of_ble_eq_true rfl) (Nat.le_of_ble_eq_true rfl) (Nat.le_of_ble_eq_true rfl) dX6_qGoesOn_210 ?_
      refine xr_if_ne (pc := 213) 225 dX6_qGoesOn_213 (by decide) (fun c_ => ?_) (fun c_ => ?_)
      · have hf := xo_pos c_ hf
        refine xr_aload_n (pc := 216) 0 dX6_qGoesOn_216 rfl rfl ?_
        refine xr_bipush (pc := 217) dX6_qGoesOn_217 xcb_45 ?_
        obtain ⟨r12, τ12, hτ12, hf⟩ := xo_bd hf
        refine call_f_t_takesSign (pc := 219) hτ12 rfl (Nat.le_of_ble_eq_true rfl) (Nat.le_of_ble_eq_true rfl) (Nat.le_of_ble_eq_true rfl) dX6_qGoesOn_219 ?_
        refine xr_if_eq (pc := 222) 308 dX6_qGoesOn_222 (by decide) (fun c_ => ?_) (fun c_ => ?_)
        · have hf := xo_pos c_ hf
          refine xr_aload_n (pc := 308) 0 dX6_qGoesOn_308 rfl rfl ?_
          obtain ⟨r13, τ13, hτ13, hf⟩ := xo_bd hf
          refine call_f_t_qBracket (pc := 309) hτ13 rfl (Nat.le_of_ble_eq_true rfl) (Nat.le_of_ble_eq_true rfl) (Nat.le_of_ble_eq_true rfl) dX6_qGoesOn_309 ?_
          refine xr_bipush (pc := 312) dX6_qGoesOn_312 xcb_21 ?_
          refine xr_icmp_eq (pc := 314) 326 dX6_qGoesOn_314 (by decide) (fun c_ => ?_) (fun c_ => ?_)
          · have hf := xo_pos c_ hf
            exact ok_Jt_qGoesOn_326 hf kr
          · have hf := xo_neg c_ hf
            refine xr_aload_n (pc := 317) 0 dX6_qGoesOn_317 rfl rfl ?_
            obtain ⟨r16, τ16, hτ16, hf⟩ := xo_bd hf
            refine call_f_t_qBracket (pc := 318) hτ16 rfl (Nat.le_of_ble_eq_true rfl) (Nat.le_of_ble_eq_true rfl) (Nat.le_of_ble_eq_true rfl) dX6_qGoesOn_318 ?_
            refine xr_bipush (pc := 321) dX6_qGoesOn_321 xcb_22 ?_
            refine xr_icmp_ne (pc := 323) 362 dX6_qGoesOn_323 (by decide) (fun c_ => ?_) (fun c_ => ?_)
            · have hf := xo_pos c_ hf
              exact ok_Jt_qGoesOn_326 hf kr
            · have hf := xo_neg c_ hf
              refine xr_aload_n (pc := 362) 0 dX6_qGoesOn_362 rfl rfl ?_
              obtain ⟨r17, τ17, hτ17, hf⟩ := xo_bd hf
              refine call_f_t_qBracket (pc := 363) hτ17 rfl (Nat.le_of_ble_eq_true rfl) (Nat.le_of_ble_eq_true rfl) (Nat.le_of_ble_eq_true rfl) dX6_qGoesOn_363 ?_
              refine xr_iconst (pc := 366) dX6_qGoesOn_366 xci_m1 ?_
              refine xr_icmp_eq (pc := 367) 386 dX6_qGoesOn_367 (by decide) (fun c_ => ?_) (fun c_ => ?_)
              · have hf := xo_pos c_ hf
                refine xr_iconst (pc := 386) dX6_qGoesOn_386 xci_0 ?_
                rw [kr _ (Option.some.inj hf).symm]
                exact xr_zret (pc := 387) dX6_qGoesOn_387 rfl xz_0
              · have hf := xo_neg c_ hf
                refine xr_aload_n (pc := 370) 0 dX6_qGoesOn_370 rfl rfl ?_
                refine xt_getI (pc := 371) 5 (by decide) q1751 rfl rfl rfl dX6_qGoesOn_371 ?_
                refine xr_if_ne (pc := 374) 386 dX6_qGoesOn_374 (by decide) (fun c_ => ?_) (fun c_ => ?_)
                · have hf := xo_pos c_ hf
                  refine xr_aload_n (pc := 377) 0 dX6_qGoesOn_377 rfl rfl ?_
                  refine xr_iconst (pc := 378) dX6_qGoesOn_378 xci_1 ?_
                  refine xr_aload_n (pc := 379) 0 dX6_qGoesOn_379 rfl rfl ?_
                  refine xt_getI (pc := 380) 2 (by decide) q1748 rfl rfl rfl dX6_qGoesOn_380 ?_
                  obtain ⟨τ18, hτ18, hf⟩ := xo_bind hf
                  refine call_f_t_fail (pc := 383) hτ18 rfl (Nat.le_of_ble_eq_true rfl) (Nat.le_of_ble_eq_true rfl) (Nat.le_of_ble_eq_true rfl) dX6_qGoesOn_383 ?_
                  refine xr_iconst (pc := 386) dX6_qGoesOn_386 xci_0 ?_
                  rw [kr _ (Option.some.inj hf).symm]
                  exact xr_zret (pc := 387) dX6_qGoesOn_387 rfl xz_0
                · have hf := xo_neg c_ hf
                  refine xr_iconst (pc := 386) dX6_qGoesOn_386 xci_0 ?_
                  rw [kr _ (Option.some.inj hf).symm]
                  exact xr_zret (pc := 387) dX6_qGoesOn_387 rfl xz_0
        · have hf := xo_neg c_ hf
          exact ok_Jt_qGoesOn_225 hf kr
      · have hf := xo_neg c_ hf
        exact ok_Jt_qGoesOn_225 hf kr
    · have hf := xo_neg c_ hf
      exact ok_Jt_qGoesOn_140 hf kr
  · have hf := xo_neg c_ hf
    exact ok_Jt_qGoesOn_140 hf kr
def f_t_qGoesOn (τ : TS) : Option (Int32 × TS) :=
  (itr (fun s_ : TS => Bt_qGoesOn_0 s_) 4096 τ).bind fun b8 =>
  Jt_qGoesOn_122 b8
theorem ok_f_t_qGoesOn {D : TD} {m : Nat} {K : xK} {Z : Option Value × TS} {τ : TS} {o_ : (Int32 × TS)} (hf : f_t_qGoesOn τ = some o_) (kr : ∀ r_ : (Int32 × TS), o_ = r_ → Z = (some (.int r_.1), r_.2)) : xV (wT D m) K mX6_qGoesOn (xQ (wT D m) K Z) τ 0 [(0, .ref m)] [] := by
  unfold f_t_qGoesOn at hf
  obtain ⟨b8, hb8, hf⟩ := xo_bind hf
  refine itr_rule (P := fun s_ : TS => xV (wT D m) K mX6_qGoesOn (xQ (wT D m) K Z) s_ 0 [(0, .ref m)] []) (fun s_ o_ hB_ hc_ he_ => ok_Bt_qGoesOn_0 hB_ hc_ (fun e_ h_ => ?_)) 4096 _ hb8
  · have e9_ := he_ _ h_
    rw [e9_]
    exact ok_Jt_qGoesOn_122 hf kr
theorem met_f_t_qGoesOn (l : Launch) {D : TD} {m : Nat} {τ : TS} {o_ : (Int32 × TS)} (hf : f_t_qGoesOn τ = some o_) : xMet (wT D m) l yX6_qGoesOn (ws_ yX6_qGoesOn cX6_qGoesOn 2 (some .boolean)) 3 180 0 0 [.ref m] τ (some (.int o_.1), o_.2) :=
  xMet_of (by decide) (Nat.le_of_ble_eq_true rfl) KT_moved (fun _ _ => trivial) (fun K _ _ _ => ok_f_t_qGoesOn hf (fun _ h => by rw [h]))
theorem hd_f_t_qGoesOn : yX6_qGoesOn.cls = RX6 ∧ yX6_qGoesOn.cls ≠ "java/lang/invoke/MethodHandle" ∧ yX6_qGoesOn.cls ≠ "java/lang/invoke/VarHandle" ∧ (parseMethodDescriptor yX6_qGoesOn.desc).map (fun d => d.parameters.length) = some 0 := by decide +kernel
theorem call_f_t_qGoesOn {D : TD} {m : Nat} {K : xK} {M : xM} {Q : State → Prop} {τ : TS} {pc : Nat} {loc : List (Nat × Value)} {st : List Value} {r : Int32} {τ1 : TS} (hf : f_t_qGoesOn τ = some (r, τ1)) (ho : M.2.2.1 = RX6) (hfr : 4 ≤ M.2.2.2.1) (hlo : 201 ≤ M.2.2.2.2.1) (hcat : (st.map fun v => v.category).sum ≤ 8) (d : decode M.1 pc = .ok (.invokevirtual 740, 3)) (k : xV (wT D m) K M Q τ1 (pc + 3) loc (.int r :: st)) : xV (wT D m) K M Q τ pc loc (.ref m :: st) :=
  xr_callV (As := []) (rest := st) (met_f_t_qGoesOn K.2.1 hf) (lw_V q2290 q2292 qs97 q186 q2293) hd_f_t_qGoesOn ho hfr hlo rfl (fun H hR hK => t_recv H hR hK) rfl hcat d k
abbrev mX6_qSums : xM := (cX6_qSums, 3, RX6, 6, 360, none, "qSums")
def Jt_qSums_49 (x1 : Int32) (s0 : Int32) (τ : TS) : Option ((Int32 × TS) ⊕ ((TS))) :=
  some (.inl (s0, τ))
theorem ok_Jt_qSums_49 {D : TD} {m : Nat} {K : xK} {Z : Option Value × TS} {x1 : Int32} {s0 : Int32} {τ : TS} {o_ : ((Int32 × TS) ⊕ ((TS)))} (hf : Jt_qSums_49 x1 s0 τ = some o_) (kc : ∀ s_ : Int32 × TS, o_ = .inl s_ → xV (wT D m) K mX6_qSums (xQ (wT D m) K Z) s_.2 15 [(0, .ref m), (1, .int x1), (2, .int s_.1)] []) (ke0 : ∀ e_ : TS, o_ = .inr e_ → xV (wT D m) K mX6_qSums (xQ (wT D m) K Z) e_ 53 [(0, .ref m), (1, .int x1)] []) : xV (wT D m) K mX6_qSums (xQ (wT D m) K Z) τ 49 [(0, .ref m), (1, .int x1)] [.int s0] := by
  unfold Jt_qSums_49 at hf
  refine xr_istore_n (pc := 49) (loc' := [(2, .int s0), (0, .ref m), (1, .int x1)]) dX6_qSums_49 rfl (by decide) rfl ?_
  refine xr_goto (pc := 50) 15 dX6_qSums_50 (by decide) ?_
  refine xV_sub [1, 2, 0] rfl ?_
  exact kc _ (Option.some.inj hf).symm
def Jt_qSums_48 (x1 : Int32) (τ : TS) : Option ((Int32 × TS) ⊕ ((TS))) :=
  Jt_qSums_49 x1 0 τ
theorem ok_Jt_qSums_48 {D : TD} {m : Nat} {K : xK} {Z : Option Value × TS} {x1 : Int32} {τ : TS} {o_ : ((Int32 × TS) ⊕ ((TS)))} (hf : Jt_qSums_48 x1 τ = some o_) (kc : ∀ s_ : Int32 × TS, o_ = .inl s_ → xV (wT D m) K mX6_qSums (xQ (wT D m) K Z) s_.2 15 [(0, .ref m), (1, .int x1), (2, .int s_.1)] []) (ke0 : ∀ e_ : TS, o_ = .inr e_ → xV (wT D m) K mX6_qSums (xQ (wT D m) K Z) e_ 53 [(0, .ref m), (1, .int x1)] []) : xV (wT D m) K mX6_qSums (xQ (wT D m) K Z) τ 48 [(0, .ref m), (1, .int x1)] [] := by
  unfold Jt_qSums_48 at hf
  refine xr_iconst (pc := 48) dX6_qSums_48 xci_0 ?_
  exact ok_Jt_qSums_49 hf kc ke0
def Bt_qSums_15 (x1 : Int32) (x2 : Int32) (τ : TS) : Option ((Int32 × TS) ⊕ ((TS))) :=
  if x2 = 0 then
  some (.inr τ)
  else
  if (tI τ 5) = 0 then
  (f_t_qPartTold τ).bind fun τ1 =>
  if (tI τ1 5) = 0 then
  xbd (f_t_qGoesOn τ1) fun r2 τ2 =>
  if r2 = 0 then
  Jt_qSums_48 x1 τ2
  else
  Jt_qSums_49 x1 1 τ2
  else
  Jt_qSums_48 x1 τ1
  else
  some (.inr τ)
theorem ok_Bt_qSums_15 {D : TD} {m : Nat} {K : xK} {Z : Option Value × TS} {x1 : Int32} {x2 : Int32} {τ : TS} {o_ : ((Int32 × TS) ⊕ ((TS)))} (hf : Bt_qSums_15 x1 x2 τ = some o_) (kc : ∀ s_ : Int32 × TS, o_ = .inl s_ → xV (wT D m) K mX6_qSums (xQ (wT D m) K Z) s_.2 15 [(0, .ref m), (1, .int x1), (2, .int s_.1)] []) (ke0 : ∀ e_ : TS, o_ = .inr e_ → xV (wT D m) K mX6_qSums (xQ (wT D m) K Z) e_ 53 [(0, .ref m), (1, .int x1)] []) : xV (wT D m) K mX6_qSums (xQ (wT D m) K Z) τ 15 [(0, .ref m), (1, .int x1), (2, .int x2)] [] := by
  unfold Bt_qSums_15 at hf
  refine xr_iload_n (pc := 15) 2 dX6_qSums_15 rfl rfl ?_
  refine xr_if_eq (pc := 16) 53 dX6_qSums_16 (by decide) (fun c_ => ?_) (fun c_ => ?_)
  · have hf := xo_pos c_ hf
    refine xV_sub [0, 1] rfl ?_
    exact ke0 _ (Option.some.inj hf).symm
  · have hf := xo_neg c_ hf
    refine xr_aload_n (pc := 19) 0 dX6_qSums_19 rfl rfl ?_
    refine xt_getI (pc := 20) 5 (by decide) q1751 rfl rfl rfl dX6_qSums_20 ?_
    refine xr_if_ne (pc := 23) 53 dX6_qSums_23 (by decide) (fun c_ => ?_) (fun c_ => ?_)
    · have hf := xo_pos c_ hf
      refine xr_aload_n (pc := 26) 0 dX6_qSums_26 rfl rfl ?_
      obtain ⟨τ1, hτ1, hf⟩ := xo_bind hf
      refine call_f_t_qPartTold (pc := 27) hτ1 rfl (Nat.le_of_ble_eq_true rfl) (Nat.le_of_ble_eq_true rfl) (Nat.le_of_ble_eq_true rfl) dX6_qSums_27 ?_
      refine xr_aload_n (pc := 30) 0 dX6_qSums_30 rfl rfl ?_
      refine xt_getI (pc := 31) 5 (by decide) q1751 rfl rfl rfl dX6_qSums_31 ?_
      refine xr_if_ne (pc := 34) 48 dX6_qSums_34 (by decide) (fun c_ => ?_) (fun c_ => ?_)
      · have hf := xo_pos c_ hf
        refine xr_aload_n (pc := 37) 0 dX6_qSums_37 rfl rfl ?_
        obtain ⟨r2, τ2, hτ2, hf⟩ := xo_bd hf
        refine call_f_t_qGoesOn (pc := 38) hτ2 rfl (Nat.le_of_ble_eq_true rfl) (Nat.le_of_ble_eq_true rfl) (Nat.le_of_ble_eq_true rfl) dX6_qSums_38 ?_
        refine xr_if_eq (pc := 41) 48 dX6_qSums_41 (by decide) (fun c_ => ?_) (fun c_ => ?_)
        · have hf := xo_pos c_ hf
          refine xV_sub [0, 1] rfl ?_
          exact ok_Jt_qSums_48 hf kc ke0
        · have hf := xo_neg c_ hf
          refine xr_iconst (pc := 44) dX6_qSums_44 xci_1 ?_
          refine xr_goto (pc := 45) 49 dX6_qSums_45 (by decide) ?_
          refine xV_sub [0, 1] rfl ?_
          exact ok_Jt_qSums_49 hf kc ke0
      · have hf := xo_neg c_ hf
        refine xV_sub [0, 1] rfl ?_
        exact ok_Jt_qSums_48 hf kc ke0
    · have hf := xo_neg c_ hf
      refine xV_sub [0, 1] rfl ?_
      exact ke0 _ (Option.some.inj hf).symm
def Bt_qSums_53 (x1 : Int32) (τ : TS) : Option ((TS) ⊕ ((TS))) :=
  if (tI τ 5) = 0 then
  if (tI τ 123) ≤ (tI τ 125) then
  some (.inr τ)
  else
  (f_t_qDrops τ).bind fun τ4 =>
  some (.inl τ4)
  else
  some (.inr τ)
theorem ok_Bt_qSums_53 {D : TD} {m : Nat} {K : xK} {Z : Option Value × TS} {x1 : Int32} {τ : TS} {o_ : ((TS) ⊕ ((TS)))} (hf : Bt_qSums_53 x1 τ = some o_) (kc : ∀ s_ : TS, o_ = .inl s_ → xV (wT D m) K mX6_qSums (xQ (wT D m) K Z) s_ 53 [(0, .ref m), (1, .int x1)] []) (ke0 : ∀ e_ : TS, o_ = .inr e_ → xV (wT D m) K mX6_qSums (xQ (wT D m) K Z) e_ 78 [(0, .ref m), (1, .int x1)] []) : xV (wT D m) K mX6_qSums (xQ (wT D m) K Z) τ 53 [(0, .ref m), (1, .int x1)] [] := by
  unfold Bt_qSums_53 at hf
  refine xr_aload_n (pc := 53) 0 dX6_qSums_53 rfl rfl ?_
  refine xt_getI (pc := 54) 5 (by decide) q1751 rfl rfl rfl dX6_qSums_54 ?_
  refine xr_if_ne (pc := 57) 78 dX6_qSums_57 (by decide) (fun c_ => ?_) (fun c_ => ?_)
  · have hf := xo_pos c_ hf
    refine xr_aload_n (pc := 60) 0 dX6_qSums_60 rfl rfl ?_
    refine xt_getI (pc := 61) 123 (by decide) q1869 rfl rfl rfl dX6_qSums_61 ?_
    refine xr_aload_n (pc := 64) 0 dX6_qSums_64 rfl rfl ?_
    refine xt_getI (pc := 65) 125 (by decide) q1871 rfl rfl rfl dX6_qSums_65 ?_
    refine xr_icmp_le (pc := 68) 78 dX6_qSums_68 (by decide) (fun c_ => ?_) (fun c_ => ?_)
    · have hf := xo_pos c_ hf
      exact ke0 _ (Option.some.inj hf).symm
    · have hf := xo_neg c_ hf
      refine xr_aload_n (pc := 71) 0 dX6_qSums_71 rfl rfl ?_
      obtain ⟨τ4, hτ4, hf⟩ := xo_bind hf
      refine call_f_t_qDrops (pc := 72) hτ4 rfl (Nat.le_of_ble_eq_true rfl) (Nat.le_of_ble_eq_true rfl) (Nat.le_of_ble_eq_true rfl) dX6_qSums_72 ?_
      refine xr_goto (pc := 75) 53 dX6_qSums_75 (by decide) ?_
      exact kc _ (Option.some.inj hf).symm
  · have hf := xo_neg c_ hf
    exact ke0 _ (Option.some.inj hf).symm
def Jt_qSums_78 (x1 : Int32) (τ : TS) : Option TS :=
  some (sI τ 125 x1)
theorem ok_Jt_qSums_78 {D : TD} {m : Nat} {K : xK} {Z : Option Value × TS} {x1 : Int32} {τ : TS} {o_ : TS} (hf : Jt_qSums_78 x1 τ = some o_) (kr : ∀ r_ : TS, o_ = r_ → Z = (none, r_)) : xV (wT D m) K mX6_qSums (xQ (wT D m) K Z) τ 78 [(0, .ref m), (1, .int x1)] [] := by
  unfold Jt_qSums_78 at hf
  refine xr_aload_n (pc := 78) 0 dX6_qSums_78 rfl rfl ?_
  refine xr_iload_n (pc := 79) 1 dX6_qSums_79 rfl rfl ?_
  refine xt_putI (pc := 80) 125 (by decide) q1871 rfl rfl rfl (by decide +kernel) rfl dX6_qSums_80 ?_
  rw [kr _ (Option.some.inj hf).symm]
  exact xr_vret (pc := 83) dX6_qSums_83 rfl
def f_t_qSums (τ : TS) : Option TS :=
  (itr (fun s_ : Int32 × TS => Bt_qSums_15 (tI τ 125) s_.1 s_.2) 4096 (1, sI τ 125 (tI τ 123))).bind fun b3 =>
  (itr (fun s_ : TS => Bt_qSums_53 (tI τ 125) s_) 4096 b3).bind fun b5 =>
  Jt_qSums_78 (tI τ 125) b5
theorem ok_f_t_qSums {D : TD} {m : Nat} {K : xK} {Z : Option Value × TS} {τ : TS} {o_ : TS} (hf : f_t_qSums τ = some o_) (kr : ∀ r_ : TS, o_ = r_ → Z = (none, r_)) : xV (wT D m) K mX6_qSums (xQ (wT D m) K Z) τ 0 [(0, .ref m)] [] := by
  unfold f_t_qSums at hf
  refine xr_aload_n (pc := 0) 0 dX6_qSums_0 rfl rfl ?_
  refine xt_getI (pc := 1) 125 (by decide) q1871 rfl rfl rfl dX6_qSums_1 ?_
  refine xr_istore_n (pc := 4) (loc' := [(1, .int (tI τ 125)), (0, .ref m)]) dX6_qSums_4 rfl (by decide) rfl ?_
  refine xr_aload_n (pc := 5) 1 dX6_qSums_5 rfl rfl ?_
  refine xr_aload_n (pc := 6) 1 dX6_qSums_6 rfl rfl ?_
  refine xt_getI (pc := 7) 123 (by decide) q1869 rfl rfl rfl dX6_qSums_7 ?_
  refine xt_putI (pc := 10) 125 (by decide) q1871 rfl rfl rfl (by decide +kernel) rfl dX6_qSums_10 ?_
  refine xr_iconst (pc := 13) dX6_qSums_13 xci_1 ?_
  refine xr_istore_n (pc := 14) (loc' := [(2, .int 1), (1, .int (tI τ 125)), (0, .ref m)]) dX6_qSums_14 rfl (by decide) rfl ?_
  refine xV_sub [2, 1, 0] rfl ?_
  obtain ⟨b3, hb3, hf⟩ := xo_bind hf
  refine itr_rule (P := fun s_ : Int32 × TS => xV (wT D m) K mX6_qSums (xQ (wT D m) K Z) s_.2 15 [(0, .ref m), (1, .int (tI τ 125)), (2, .int s_.1)] []) (fun s_ o_ hB_ hc_ he_ => ok_Bt_qSums_15 hB_ hc_ (fun e_ h_ => ?_)) 4096 _ hb3
  · have e9_ := he_ _ h_
    rw [e9_]
    obtain ⟨b5, hb5, hf⟩ := xo_bind hf
    refine itr_rule (P := fun s_ : TS => xV (wT D m) K mX6_qSums (xQ (wT D m) K Z) s_ 53 [(0, .ref m), (1, .int (tI τ 125))] []) (fun s_ o_ hB_ hc_ he_ => ok_Bt_qSums_53 hB_ hc_ (fun e_ h_ => ?_)) 4096 _ hb5
    · have e9_ := he_ _ h_
      rw [e9_]
      exact ok_Jt_qSums_78 hf kr
theorem met_f_t_qSums (l : Launch) {D : TD} {m : Nat} {τ : TS} {o_ : TS} (hf : f_t_qSums τ = some o_) : xMet (wT D m) l yX6_qSums (ws_ yX6_qSums cX6_qSums 3 none) 6 360 0 0 [.ref m] τ (none, o_) :=
  xMet_of (by decide) (Nat.le_of_ble_eq_true rfl) KT_moved (fun _ _ => trivial) (fun K _ _ _ => ok_f_t_qSums hf (fun _ h => by rw [h]))
theorem hd_f_t_qSums : yX6_qSums.cls = RX6 ∧ yX6_qSums.cls ≠ "java/lang/invoke/MethodHandle" ∧ yX6_qSums.cls ≠ "java/lang/invoke/VarHandle" ∧ (parseMethodDescriptor yX6_qSums.desc).map (fun d => d.parameters.length) = some 0 := by decide +kernel
theorem call_f_t_qSums {D : TD} {m : Nat} {K : xK} {M : xM} {Q : State → Prop} {τ : TS} {pc : Nat} {loc : List (Nat × Value)} {st : List Value} {τ1 : TS} (hf : f_t_qSums τ = some τ1) (ho : M.2.2.1 = RX6) (hfr : 7 ≤ M.2.2.2.1) (hlo : 382 ≤ M.2.2.2.2.1) (hcat : (st.map fun v => v.category).sum ≤ 8) (d : decode M.1 pc = .ok (.invokevirtual 401, 3)) (k : xV (wT D m) K M Q τ1 (pc + 3) loc st) : xV (wT D m) K M Q τ pc loc (.ref m :: st) :=
  xr_callV (As := []) (rest := st) (met_f_t_qSums K.2.1 hf) (lw_V q2258 q2260 qs89 q186 q2261) hd_f_t_qSums ho hfr hlo rfl (fun H hR hK => t_recv H hR hK) rfl hcat d k
abbrev mX6_qFact : xM := (cX6_qFact, 2, RX6, 7, 420, none, "qFact")
def Jt_qFact_63 (x1 : Int32) (τ : TS) : Option TS :=
  (f_t_qSums (sI τ 2 ((tI τ 2) + 1))).bind fun τ4 =>
  if x1 = 60 then
  (f_t_qCode 7 τ4).bind fun τ5 =>
  some (τ5)
  else
  if x1 = 62 then
  (f_t_qCode 8 τ4).bind fun τ6 =>
  some (τ6)
  else
  (f_t_qCode 9 τ4).bind fun τ7 =>
  some (τ7)
theorem ok_Jt_qFact_63 {D : TD} {m : Nat} {K : xK} {Z : Option Value × TS} {x1 : Int32} {τ : TS} {o_ : TS} (hf : Jt_qFact_63 x1 τ = some o_) (kr : ∀ r_ : TS, o_ = r_ → Z = (none, r_)) : xV (wT D m) K mX6_qFact (xQ (wT D m) K Z) τ 63 [(0, .ref m), (1, .int x1)] [] := by
  unfold Jt_qFact_63 at hf
  refine xr_aload_n (pc := 63) 0 dX6_qFact_63 rfl rfl ?_
  refine xr_dup (pc := 64) dX6_qFact_64 rfl ?_
  refine xt_getI (pc := 65) 2 (by decide) q1748 rfl rfl rfl dX6_qFact_65 ?_
  refine xr_iconst (pc := 68) dX6_qFact_68 xci_1 ?_
  refine xr_iadd (pc := 69) dX6_qFact_69 ?_
  refine xt_putI (pc := 70) 2 (by decide) q1748 rfl rfl rfl (by decide +kernel) rfl dX6_qFact_70 ?_
  refine xr_aload_n (pc := 73) 0 dX6_qFact_73 rfl rfl ?_
  obtain ⟨τ4, hτ4, hf⟩ := xo_bind hf
  refine call_f_t_qSums (pc := 74) hτ4 rfl (Nat.le_of_ble_eq_true rfl) (Nat.le_of_ble_eq_true rfl) (Nat.le_of_ble_eq_true rfl) dX6_qFact_74 ?_
  refine xr_aload_n (pc := 77) 0 dX6_qFact_77 rfl rfl ?_
  refine xr_iload_n (pc := 78) 1 dX6_qFact_78 rfl rfl ?_
  refine xr_bipush (pc := 79) dX6_qFact_79 xcb_60 ?_
  refine xr_icmp_ne (pc := 81) 89 dX6_qFact_81 (by decide) (fun c_ => ?_) (fun c_ => ?_)
  · have hf := xo_pos c_ hf
    refine xr_bipush (pc := 84) dX6_qFact_84 xcb_7 ?_
    refine xr_goto (pc := 86) 102 dX6_qFact_86 (by decide) ?_
    obtain ⟨τ5, hτ5, hf⟩ := xo_bind hf
    refine call_f_t_qCode (pc := 102) hτ5 rfl (Nat.le_of_ble_eq_true rfl) (Nat.le_of_ble_eq_true rfl) (Nat.le_of_ble_eq_true rfl) dX6_qFact_102 ?_
    rw [kr _ (Option.some.inj hf).symm]
    exact xr_vret (pc := 105) dX6_qFact_105 rfl
  · have hf := xo_neg c_ hf
    refine xr_iload_n (pc := 89) 1 dX6_qFact_89 rfl rfl ?_
    refine xr_bipush (pc := 90) dX6_qFact_90 xcb_62 ?_
    refine xr_icmp_ne (pc := 92) 100 dX6_qFact_92 (by decide) (fun c_ => ?_) (fun c_ => ?_)
    · have hf := xo_pos c_ hf
      refine xr_bipush (pc := 95) dX6_qFact_95 xcb_8 ?_
      refine xr_goto (pc := 97) 102 dX6_qFact_97 (by decide) ?_
      obtain ⟨τ6, hτ6, hf⟩ := xo_bind hf
      refine call_f_t_qCode (pc := 102) hτ6 rfl (Nat.le_of_ble_eq_true rfl) (Nat.le_of_ble_eq_true rfl) (Nat.le_of_ble_eq_true rfl) dX6_qFact_102 ?_
      rw [kr _ (Option.some.inj hf).symm]
      exact xr_vret (pc := 105) dX6_qFact_105 rfl
    · have hf := xo_neg c_ hf
      refine xr_bipush (pc := 100) dX6_qFact_100 xcb_9 ?_
      obtain ⟨τ7, hτ7, hf⟩ := xo_bind hf
      refine call_f_t_qCode (pc := 102) hτ7 rfl (Nat.le_of_ble_eq_true rfl) (Nat.le_of_ble_eq_true rfl) (Nat.le_of_ble_eq_true rfl) dX6_qFact_102 ?_
      rw [kr _ (Option.some.inj hf).symm]
      exact xr_vret (pc := 105) dX6_qFact_105 rfl
def f_t_qFact (τ : TS) : Option TS :=
  xbd (f_t_takes 97 τ) fun r1 τ1 =>
  if r1 = 0 then
  (f_t_qSums τ1).bind fun τ2 =>
  if (tI τ2 5) = 0 then
  xbd (f_t_look τ2) fun r3 τ3 =>
  if r3 = 60 then
  Jt_qFact_63 r3 τ3
  else
  if r3 = 62 then
  Jt_qFact_63 r3 τ3
  else
  if r3 = 61 then
  Jt_qFact_63 r3 τ3
  else
  (f_t_fail 1 (tI τ3 2) τ3).bind fun τ8 =>
  some (τ8)
  else
  some (τ2)
  else
  (f_t_qCode 13 τ1).bind fun τ9 =>
  some (τ9)
theorem ok_f_t_qFact {D : TD} {m : Nat} {K : xK} {Z : Option Value × TS} {τ : TS} {o_ : TS} (hf : f_t_qFact τ = some o_) (kr : ∀ r_ : TS, o_ = r_ → Z = (none, r_)) : xV (wT D m) K mX6_qFact (xQ (wT D m) K Z) τ 0 [(0, .ref m)] [] := by
  unfold f_t_qFact at hf
  refine xr_aload_n (pc := 0) 0 dX6_qFact_0 rfl rfl ?_
  refine xr_aload_n (pc := 1) 0 dX6_qFact_1 rfl rfl ?_
  refine xt_getA (pc := 2) 97 (by decide) q1843 rfl rfl rfl dX6_qFact_2 ?_
  obtain ⟨r1, τ1, hτ1, hf⟩ := xo_bd hf
  refine call_f_t_takes (pc := 5) hτ1 rfl (Nat.le_of_ble_eq_true rfl) (Nat.le_of_ble_eq_true rfl) (Nat.le_of_ble_eq_true rfl) dX6_qFact_5 ?_
  refine xr_if_eq (pc := 8) 18 dX6_qFact_8 (by decide) (fun c_ => ?_) (fun c_ => ?_)
  · have hf := xo_pos c_ hf
    refine xr_aload_n (pc := 18) 0 dX6_qFact_18 rfl rfl ?_
    obtain ⟨τ2, hτ2, hf⟩ := xo_bind hf
    refine call_f_t_qSums (pc := 19) hτ2 rfl (Nat.le_of_ble_eq_true rfl) (Nat.le_of_ble_eq_true rfl) (Nat.le_of_ble_eq_true rfl) dX6_qFact_19 ?_
    refine xr_aload_n (pc := 22) 0 dX6_qFact_22 rfl rfl ?_
    refine xt_getI (pc := 23) 5 (by decide) q1751 rfl rfl rfl dX6_qFact_23 ?_
    refine xr_if_eq (pc := 26) 30 dX6_qFact_26 (by decide) (fun c_ => ?_) (fun c_ => ?_)
    · have hf := xo_pos c_ hf
      refine xr_aload_n (pc := 30) 0 dX6_qFact_30 rfl rfl ?_
      obtain ⟨r3, τ3, hτ3, hf⟩ := xo_bd hf
      refine call_f_t_look (pc := 31) hτ3 rfl (Nat.le_of_ble_eq_true rfl) (Nat.le_of_ble_eq_true rfl) (Nat.le_of_ble_eq_true rfl) dX6_qFact_31 ?_
      refine xr_istore_n (pc := 34) (loc' := [(1, .int r3), (0, .ref m)]) dX6_qFact_34 rfl (by decide) rfl ?_
      refine xr_iload_n (pc := 35) 0 dX6_qFact_35 rfl rfl ?_
      refine xr_bipush (pc := 36) dX6_qFact_36 xcb_60 ?_
      refine xr_icmp_eq (pc := 38) 63 dX6_qFact_38 (by decide) (fun c_ => ?_) (fun c_ => ?_)
      · have hf := xo_pos c_ hf
        refine xV_sub [1, 0] rfl ?_
        exact ok_Jt_qFact_63 hf kr
      · have hf := xo_neg c_ hf
        refine xr_iload_n (pc := 41) 0 dX6_qFact_41 rfl rfl ?_
        refine xr_bipush (pc := 42) dX6_qFact_42 xcb_62 ?_
        refine xr_icmp_eq (pc := 44) 63 dX6_qFact_44 (by decide) (fun c_ => ?_) (fun c_ => ?_)
        · have hf := xo_pos c_ hf
          refine xV_sub [1, 0] rfl ?_
          exact ok_Jt_qFact_63 hf kr
        · have hf := xo_neg c_ hf
          refine xr_iload_n (pc := 47) 0 dX6_qFact_47 rfl rfl ?_
          refine xr_bipush (pc := 48) dX6_qFact_48 xcb_61 ?_
          refine xr_icmp_eq (pc := 50) 63 dX6_qFact_50 (by decide) (fun c_ => ?_) (fun c_ => ?_)
          · have hf := xo_pos c_ hf
            refine xV_sub [1, 0] rfl ?_
            exact ok_Jt_qFact_63 hf kr
          · have hf := xo_neg c_ hf
            refine xr_aload_n (pc := 53) 1 dX6_qFact_53 rfl rfl ?_
            refine xr_iconst (pc := 54) dX6_qFact_54 xci_1 ?_
            refine xr_aload_n (pc := 55) 1 dX6_qFact_55 rfl rfl ?_
            refine xt_getI (pc := 56) 2 (by decide) q1748 rfl rfl rfl dX6_qFact_56 ?_
            obtain ⟨τ8, hτ8, hf⟩ := xo_bind hf
            refine call_f_t_fail (pc := 59) hτ8 rfl (Nat.le_of_ble_eq_true rfl) (Nat.le_of_ble_eq_true rfl) (Nat.le_of_ble_eq_true rfl) dX6_qFact_59 ?_
            rw [kr _ (Option.some.inj hf).symm]
            exact xr_vret (pc := 62) dX6_qFact_62 rfl
    · have hf := xo_neg c_ hf
      rw [kr _ (Option.some.inj hf).symm]
      exact xr_vret (pc := 29) dX6_qFact_29 rfl
  · have hf := xo_neg c_ hf
    refine xr_aload_n (pc := 11) 0 dX6_qFact_11 rfl rfl ?_
    refine xr_bipush (pc := 12) dX6_qFact_12 xcb_13 ?_
    obtain ⟨τ9, hτ9, hf⟩ := xo_bind hf
    refine call_f_t_qCode (pc := 14) hτ9 rfl (Nat.le_of_ble_eq_true rfl) (Nat.le_of_ble_eq_true rfl) (Nat.le_of_ble_eq_true rfl) dX6_qFact_14 ?_
    rw [kr _ (Option.some.inj hf).symm]
    exact xr_vret (pc := 17) dX6_qFact_17 rfl
theorem met_f_t_qFact (l : Launch) {D : TD} {m : Nat} {τ : TS} {o_ : TS} (hf : f_t_qFact τ = some o_) : xMet (wT D m) l yX6_qFact (ws_ yX6_qFact cX6_qFact 2 none) 7 420 0 0 [.ref m] τ (none, o_) :=
  xMet_of (by decide) (Nat.le_of_ble_eq_true rfl) KT_moved (fun _ _ => trivial) (fun K _ _ _ => ok_f_t_qFact hf (fun _ h => by rw [h]))
theorem hd_f_t_qFact : yX6_qFact.cls = RX6 ∧ yX6_qFact.cls ≠ "java/lang/invoke/MethodHandle" ∧ yX6_qFact.cls ≠ "java/lang/invoke/VarHandle" ∧ (parseMethodDescriptor yX6_qFact.desc).map (fun d => d.parameters.length) = some 0 := by decide +kernel
theorem call_f_t_qFact {D : TD} {m : Nat} {K : xK} {M : xM} {Q : State → Prop} {τ : TS} {pc : Nat} {loc : List (Nat × Value)} {st : List Value} {τ1 : TS} (hf : f_t_qFact τ = some τ1) (ho : M.2.2.1 = RX6) (hfr : 8 ≤ M.2.2.2.1) (hlo : 441 ≤ M.2.2.2.2.1) (hcat : (st.map fun v => v.category).sum ≤ 8) (d : decode M.1 pc = .ok (.invokevirtual 743, 3)) (k : xV (wT D m) K M Q τ1 (pc + 3) loc st) : xV (wT D m) K M Q τ pc loc (.ref m :: st) :=
  xr_callV (As := []) (rest := st) (met_f_t_qFact K.2.1 hf) (lw_V q2250 q2252 qs87 q186 q2253) hd_f_t_qFact ho hfr hlo rfl (fun H hR hK => t_recv H hR hK) rfl hcat d k
abbrev mX6_qDropsNots : xM := (cX6_qDropsNots, 1, RX6, 2, 120, none, "qDropsNots")
def Bt_qDropsNots_0 (τ : TS) : Option ((TS) ⊕ ((TS))) :=
  if (tI τ 5) = 0 then
  xbd (f_t_qIsOn 12 τ) fun r1 τ1 =>
  if r1 = 0 then
  some (.inr τ1)
  else
  (f_t_qDrops (sI τ1 124 ((tI τ1 124) - 1))).bind fun τ2 =>
  some (.inl τ2)
  else
  some (.inr τ)
theorem ok_Bt_qDropsNots_0 {D : TD} {m : Nat} {K : xK} {Z : Option Value × TS} {τ : TS} {o_ : ((TS) ⊕ ((TS)))} (hf : Bt_qDropsNots_0 τ = some o_) (kc : ∀ s_ : TS, o_ = .inl s_ → xV (wT D m) K mX6_qDropsNots (xQ (wT D m) K Z) s_ 0 [(0, .ref m)] []) (ke0 : ∀ e_ : TS, o_ = .inr e_ → xV (wT D m) K mX6_qDropsNots (xQ (wT D m) K Z) e_ 33 [] []) : xV (wT D m) K mX6_qDropsNots (xQ (wT D m) K Z) τ 0 [(0, .ref m)] [] := by
  unfold Bt_qDropsNots_0 at hf
  refine xr_aload_n (pc := 0) 0 dX6_qDropsNots_0 rfl rfl ?_
  refine xt_getI (pc := 1) 5 (by decide) q1751 rfl rfl rfl dX6_qDropsNots_1 ?_
  refine xr_if_ne (pc := 4) 33 dX6_qDropsNots_4 (by decide) (fun c_ => ?_) (fun c_ => ?_)
  · have hf := xo_pos c_ hf
    refine xr_aload_n (pc := 7) 0 dX6_qDropsNots_7 rfl rfl ?_
    refine xr_bipush (pc := 8) dX6_qDropsNots_8 xcb_12 ?_
    obtain ⟨r1, τ1, hτ1, hf⟩ := xo_bd hf
    refine call_f_t_qIsOn (pc := 10) hτ1 rfl (Nat.le_of_ble_eq_true rfl) (Nat.le_of_ble_eq_true rfl) (Nat.le_of_ble_eq_true rfl) dX6_qDropsNots_10 ?_
    refine xr_if_eq (pc := 13) 33 dX6_qDropsNots_13 (by decide) (fun c_ => ?_) (fun c_ => ?_)
    · have hf := xo_pos c_ hf
      refine xV_sub [] rfl ?_
      exact ke0 _ (Option.some.inj hf).symm
    · have hf := xo_neg c_ hf
      refine xr_aload_n (pc := 16) 0 dX6_qDropsNots_16 rfl rfl ?_
      refine xr_dup (pc := 17) dX6_qDropsNots_17 rfl ?_
      refine xt_getI (pc := 18) 124 (by decide) q1870 rfl rfl rfl dX6_qDropsNots_18 ?_
      refine xr_iconst (pc := 21) dX6_qDropsNots_21 xci_1 ?_
      refine xr_isub (pc := 22) dX6_qDropsNots_22 ?_
      refine xt_putI (pc := 23) 124 (by decide) q1870 rfl rfl rfl (by decide +kernel) rfl dX6_qDropsNots_23 ?_
      refine xr_aload_n (pc := 26) 0 dX6_qDropsNots_26 rfl rfl ?_
      obtain ⟨τ2, hτ2, hf⟩ := xo_bind hf
      refine call_f_t_qDrops (pc := 27) hτ2 rfl (Nat.le_of_ble_eq_true rfl) (Nat.le_of_ble_eq_true rfl) (Nat.le_of_ble_eq_true rfl) dX6_qDropsNots_27 ?_
      refine xr_goto (pc := 30) 0 dX6_qDropsNots_30 (by decide) ?_
      exact kc _ (Option.some.inj hf).symm
  · have hf := xo_neg c_ hf
    refine xV_sub [] rfl ?_
    exact ke0 _ (Option.some.inj hf).symm
def f_t_qDropsNots (τ : TS) : Option TS :=
  (itr (fun s_ : TS => Bt_qDropsNots_0 s_) 4096 τ).bind fun b3 =>
  some (b3)
theorem ok_f_t_qDropsNots {D : TD} {m : Nat} {K : xK} {Z : Option Value × TS} {τ : TS} {o_ : TS} (hf : f_t_qDropsNots τ = some o_) (kr : ∀ r_ : TS, o_ = r_ → Z = (none, r_)) : xV (wT D m) K mX6_qDropsNots (xQ (wT D m) K Z) τ 0 [(0, .ref m)] [] := by
  unfold f_t_qDropsNots at hf
  obtain ⟨b3, hb3, hf⟩ := xo_bind hf
  refine itr_rule (P := fun s_ : TS => xV (wT D m) K mX6_qDropsNots (xQ (wT D m) K Z) s_ 0 [(0, .ref m)] []) (fun s_ o_ hB_ hc_ he_ => ok_Bt_qDropsNots_0 hB_ hc_ (fun e_ h_ => ?_)) 4096 _ hb3
  · have e9_ := he_ _ h_
    rw [e9_]
    rw [kr _ (Option.some.inj hf).symm]
    exact xr_vret (pc := 33) dX6_qDropsNots_33 rfl
theorem met_f_t_qDropsNots (l : Launch) {D : TD} {m : Nat} {τ : TS} {o_ : TS} (hf : f_t_qDropsNots τ = some o_) : xMet (wT D m) l yX6_qDropsNots (ws_ yX6_qDropsNots cX6_qDropsNots 1 none) 2 120 0 0 [.ref m] τ (none, o_) :=
  xMet_of (by decide) (Nat.le_of_ble_eq_true rfl) KT_moved (fun _ _ => trivial) (fun K _ _ _ => ok_f_t_qDropsNots hf (fun _ h => by rw [h]))
theorem hd_f_t_qDropsNots : yX6_qDropsNots.cls = RX6 ∧ yX6_qDropsNots.cls ≠ "java/lang/invoke/MethodHandle" ∧ yX6_qDropsNots.cls ≠ "java/lang/invoke/VarHandle" ∧ (parseMethodDescriptor yX6_qDropsNots.desc).map (fun d => d.parameters.length) = some 0 := by decide +kernel
theorem call_f_t_qDropsNots {D : TD} {m : Nat} {K : xK} {M : xM} {Q : State → Prop} {τ : TS} {pc : Nat} {loc : List (Nat × Value)} {st : List Value} {τ1 : TS} (hf : f_t_qDropsNots τ = some τ1) (ho : M.2.2.1 = RX6) (hfr : 3 ≤ M.2.2.2.1) (hlo : 140 ≤ M.2.2.2.2.1) (hcat : (st.map fun v => v.category).sum ≤ 8) (d : decode M.1 pc = .ok (.invokevirtual 746, 3)) (k : xV (wT D m) K M Q τ1 (pc + 3) loc st) : xV (wT D m) K M Q τ pc loc (.ref m :: st) :=
  xr_callV (As := []) (rest := st) (met_f_t_qDropsNots K.2.1 hf) (lw_V q2309 q2311 qs101 q186 q2312) hd_f_t_qDropsNots ho hfr hlo rfl (fun H hR hK => t_recv H hR hK) rfl hcat d k
abbrev mX6_qHasSquare : xM := (cX6_qHasSquare, 2, RX6, 0, 0, (some .boolean), "qHasSquare")
def Bt_qHasSquare_2 (x1 : Int32) (τ : TS) : Option ((Int32 × TS) ⊕ ((TS) ⊕ ((Int32 × TS)))) :=
  if (tI τ 123) ≤ x1 then
  some (.inr (.inl τ))
  else
  if xin x1 1700 = true then
  if (tA τ 122 x1.toNatClampNeg) = 25 then
  some (.inr (.inr (1, τ)))
  else
  some (.inl (x1 + 1, τ))
  else none
theorem ok_Bt_qHasSquare_2 {D : TD} {m : Nat} {K : xK} {Z : Option Value × TS} {x1 : Int32} {τ : TS} {o_ : ((Int32 × TS) ⊕ ((TS) ⊕ ((Int32 × TS))))} (hf : Bt_qHasSquare_2 x1 τ = some o_) (kc : ∀ s_ : Int32 × TS, o_ = .inl s_ → xV (wT D m) K mX6_qHasSquare (xQ (wT D m) K Z) s_.2 2 [(0, .ref m), (1, .int s_.1)] []) (ke0 : ∀ e_ : TS, o_ = .inr (.inl e_) → xV (wT D m) K mX6_qHasSquare (xQ (wT D m) K Z) e_ 29 [] []) (kr : ∀ r_ : (Int32 × TS), o_ = .inr (.inr r_) → Z = (some (.int r_.1), r_.2)) : xV (wT D m) K mX6_qHasSquare (xQ (wT D m) K Z) τ 2 [(0, .ref m), (1, .int x1)] [] := by
  unfold Bt_qHasSquare_2 at hf
  refine xr_iload_n (pc := 2) 1 dX6_qHasSquare_2 rfl rfl ?_
  refine xr_aload_n (pc := 3) 0 dX6_qHasSquare_3 rfl rfl ?_
  refine xt_getI (pc := 4) 123 (by decide) q1869 rfl rfl rfl dX6_qHasSquare_4 ?_
  refine xr_icmp_ge (pc := 7) 29 dX6_qHasSquare_7 (by decide) (fun c_ => ?_) (fun c_ => ?_)
  · have hf := xo_pos c_ hf
    refine xV_sub [] rfl ?_
    exact ke0 _ (Option.some.inj hf).symm
  · have hf := xo_neg c_ hf
    refine xr_aload_n (pc := 10) 0 dX6_qHasSquare_10 rfl rfl ?_
    refine xt_getA (pc := 11) 122 (by decide) q1868 rfl rfl rfl dX6_qHasSquare_11 ?_
    refine xr_iload_n (pc := 14) 1 dX6_qHasSquare_14 rfl rfl ?_
    obtain ⟨hi_, hf⟩ := xo_if hf
    refine xt_iald (pc := 15) 122 rfl rfl hi_ dX6_qHasSquare_15 ?_
    refine xr_bipush (pc := 16) dX6_qHasSquare_16 xcb_25 ?_
    refine xr_icmp_ne (pc := 18) 23 dX6_qHasSquare_18 (by decide) (fun c_ => ?_) (fun c_ => ?_)
    · have hf := xo_pos c_ hf
      refine xr_iconst (pc := 21) dX6_qHasSquare_21 xci_1 ?_
      rw [kr _ (Option.some.inj hf).symm]
      exact xr_zret (pc := 22) dX6_qHasSquare_22 rfl xz_1
    · have hf := xo_neg c_ hf
      refine xr_iinc (pc := 23) (loc' := [(1, .int (x1 + 1)), (0, .ref m)]) 1 dX6_qHasSquare_23 rfl xci_1 (by decide) rfl ?_
      refine xr_goto (pc := 26) 2 dX6_qHasSquare_26 (by decide) ?_
      refine xV_sub [1, 0] rfl ?_
      exact kc _ (Option.some.inj hf).symm
def f_t_qHasSquare (τ : TS) : Option (Int32 × TS) :=
  (itr (fun s_ : Int32 × TS => Bt_qHasSquare_2 s_.1 s_.2) 4096 (0, τ)).bind fun b1 =>
  (Sum.elim (fun e2 => some ((0, e2))) (fun r_ => some r_)) b1
theorem ok_f_t_qHasSquare {D : TD} {m : Nat} {K : xK} {Z : Option Value × TS} {τ : TS} {o_ : (Int32 × TS)} (hf : f_t_qHasSquare τ = some o_) (kr : ∀ r_ : (Int32 × TS), o_ = r_ → Z = (some (.int r_.1), r_.2)) : xV (wT D m) K mX6_qHasSquare (xQ (wT D m) K Z) τ 0 [(0, .ref m)] [] := by
  unfold f_t_qHasSquare at hf
  refine xr_iconst (pc := 0) dX6_qHasSquare_0 xci_0 ?_
  refine xr_istore_n (pc := 1) (loc' := [(1, .int 0), (0, .ref m)]) dX6_qHasSquare_1 rfl (by decide) rfl ?_
  refine xV_sub [1, 0] rfl ?_
  obtain ⟨b1, hb1, hf⟩ := xo_bind hf
  refine itr_rule (P := fun s_ : Int32 × TS => xV (wT D m) K mX6_qHasSquare (xQ (wT D m) K Z) s_.2 2 [(0, .ref m), (1, .int s_.1)] []) (fun s_ o_ hB_ hc_ he_ => ok_Bt_qHasSquare_2 hB_ hc_ (fun e2 h_ => ?_) (fun r_ h_ => ?_)) 4096 _ hb1
  · have e9_ := he_ _ h_
    subst e9_
    have hf := xo_inl hf
    refine xr_iconst (pc := 29) dX6_qHasSquare_29 xci_0 ?_
    rw [kr _ (Option.some.inj hf).symm]
    exact xr_zret (pc := 30) dX6_qHasSquare_30 rfl xz_0
  · have e9_ := he_ _ h_
    subst e9_
    have hf := xo_inr hf
    exact kr _ (Option.some.inj hf).symm
theorem met_f_t_qHasSquare (l : Launch) {D : TD} {m : Nat} {τ : TS} {o_ : (Int32 × TS)} (hf : f_t_qHasSquare τ = some o_) : xMet (wT D m) l yX6_qHasSquare (ws_ yX6_qHasSquare cX6_qHasSquare 2 (some .boolean)) 0 0 0 0 [.ref m] τ (some (.int o_.1), o_.2) :=
  xMet_of (by decide) (Nat.le_of_ble_eq_true rfl) KT_moved (fun _ _ => trivial) (fun K _ _ _ => ok_f_t_qHasSquare hf (fun _ h => by rw [h]))
theorem hd_f_t_qHasSquare : yX6_qHasSquare.cls = RX6 ∧ yX6_qHasSquare.cls ≠ "java/lang/invoke/MethodHandle" ∧ yX6_qHasSquare.cls ≠ "java/lang/invoke/VarHandle" ∧ (parseMethodDescriptor yX6_qHasSquare.desc).map (fun d => d.parameters.length) = some 0 := by decide +kernel
theorem call_f_t_qHasSquare {D : TD} {m : Nat} {K : xK} {M : xM} {Q : State → Prop} {τ : TS} {pc : Nat} {loc : List (Nat × Value)} {st : List Value} {r : Int32} {τ1 : TS} (hf : f_t_qHasSquare τ = some (r, τ1)) (ho : M.2.2.1 = RX6) (hfr : 1 ≤ M.2.2.2.1) (hlo : 21 ≤ M.2.2.2.2.1) (hcat : (st.map fun v => v.category).sum ≤ 8) (d : decode M.1 pc = .ok (.invokevirtual 752, 3)) (k : xV (wT D m) K M Q τ1 (pc + 3) loc (.int r :: st)) : xV (wT D m) K M Q τ pc loc (.ref m :: st) :=
  xr_callV (As := []) (rest := st) (met_f_t_qHasSquare K.2.1 hf) (lw_V q2317 q2319 qs103 q186 q2320) hd_f_t_qHasSquare ho hfr hlo rfl (fun H hR hK => t_recv H hR hK) rfl hcat d k
abbrev mX6_qGoesOnTest : xM := (cX6_qGoesOnTest, 1, RX6, 3, 180, (some .boolean), "qGoesOnTest")
def Bt_qGoesOnTest_33 (τ : TS) : Option ((TS) ⊕ ((TS))) :=
  xbd (f_t_qIsOn 25 τ) fun r3 τ3 =>
  if r3 = 0 then
  (f_t_qDrops τ3).bind fun τ4 =>
  some (.inl τ4)
  else
  some (.inr τ3)
theorem ok_Bt_qGoesOnTest_33 {D : TD} {m : Nat} {K : xK} {Z : Option Value × TS} {τ : TS} {o_ : ((TS) ⊕ ((TS)))} (hf : Bt_qGoesOnTest_33 τ = some o_) (kc : ∀ s_ : TS, o_ = .inl s_ → xV (wT D m) K mX6_qGoesOnTest (xQ (wT D m) K Z) s_ 33 [(0, .ref m)] []) (ke0 : ∀ e_ : TS, o_ = .inr e_ → xV (wT D m) K mX6_qGoesOnTest (xQ (wT D m) K Z) e_ 49 [(0, .ref m)] []) : xV (wT D m) K mX6_qGoesOnTest (xQ (wT D m) K Z) τ 33 [(0, .ref m)] [] := by
  unfold Bt_qGoesOnTest_33 at hf
  refine xr_aload_n (pc := 33) 0 dX6_qGoesOnTest_33 rfl rfl ?_
  refine xr_bipush (pc := 34) dX6_qGoesOnTest_34 xcb_25 ?_
  obtain ⟨r3, τ3, hτ3, hf⟩ := xo_bd hf
  refine call_f_t_qIsOn (pc := 36) hτ3 rfl (Nat.le_of_ble_eq_true rfl) (Nat.le_of_ble_eq_true rfl) (Nat.le_of_ble_eq_true rfl) dX6_qGoesOnTest_36 ?_
  refine xr_if_ne (pc := 39) 49 dX6_qGoesOnTest_39 (by decide) (fun c_ => ?_) (fun c_ => ?_)
  · have hf := xo_pos c_ hf
    refine xr_aload_n (pc := 42) 0 dX6_qGoesOnTest_42 rfl rfl ?_
    obtain ⟨τ4, hτ4, hf⟩ := xo_bind hf
    refine call_f_t_qDrops (pc := 43) hτ4 rfl (Nat.le_of_ble_eq_true rfl) (Nat.le_of_ble_eq_true rfl) (Nat.le_of_ble_eq_true rfl) dX6_qGoesOnTest_43 ?_
    refine xr_goto (pc := 46) 33 dX6_qGoesOnTest_46 (by decide) ?_
    exact kc _ (Option.some.inj hf).symm
  · have hf := xo_neg c_ hf
    exact ke0 _ (Option.some.inj hf).symm
def Bt_qGoesOnTest_0 (τ : TS) : Option ((TS) ⊕ ((TS))) :=
  if (tI τ 5) = 0 then
  xbd (f_t_look τ) fun r1 τ1 =>
  if r1 = 93 then
  xbd (f_t_qHasSquare τ1) fun r2 τ2 =>
  if r2 = 0 then
  some (.inr τ2)
  else
  (itr (fun s_ : TS => Bt_qGoesOnTest_33 s_) 4096 (sI τ2 2 ((tI τ2 2) + 1))).bind fun b5 =>
  (f_t_qDropsNots (sI (sI b5 123 ((tI b5 123) - 1)) 124 ((tI (sI b5 123 ((tI b5 123) - 1)) 124) - 1))).bind fun τ6 =>
  some (.inl τ6)
  else
  some (.inr τ1)
  else
  some (.inr τ)
theorem ok_Bt_qGoesOnTest_0 {D : TD} {m : Nat} {K : xK} {Z : Option Value × TS} {τ : TS} {o_ : ((TS) ⊕ ((TS)))} (hf : Bt_qGoesOnTest_0 τ = some o_) (kc : ∀ s_ : TS, o_ = .inl s_ → xV (wT D m) K mX6_qGoesOnTest (xQ (wT D m) K Z) s_ 0 [(0, .ref m)] []) (ke0 : ∀ e_ : TS, o_ = .inr e_ → xV (wT D m) K mX6_qGoesOnTest (xQ (wT D m) K Z) e_ 76 [(0, .ref m)] []) : xV (wT D m) K mX6_qGoesOnTest (xQ (wT D m) K Z) τ 0 [(0, .ref m)] [] := by
  unfold Bt_qGoesOnTest_0 at hf
  refine xr_aload_n (pc := 0) 0 dX6_qGoesOnTest_0 rfl rfl ?_
  refine xt_getI (pc := 1) 5 (by decide) q1751 rfl rfl rfl dX6_qGoesOnTest_1 ?_
  refine xr_if_ne (pc := 4) 76 dX6_qGoesOnTest_4 (by decide) (fun c_ => ?_) (fun c_ => ?_)
  · have hf := xo_pos c_ hf
    refine xr_aload_n (pc := 7) 0 dX6_qGoesOnTest_7 rfl rfl ?_
    obtain ⟨r1, τ1, hτ1, hf⟩ := xo_bd hf
    refine call_f_t_look (pc := 8) hτ1 rfl (Nat.le_of_ble_eq_true rfl) (Nat.le_of_ble_eq_true rfl) (Nat.le_of_ble_eq_true rfl) dX6_qGoesOnTest_8 ?_
    refine xr_bipush (pc := 11) dX6_qGoesOnTest_11 xcb_93 ?_
    refine xr_icmp_ne (pc := 13) 76 dX6_qGoesOnTest_13 (by decide) (fun c_ => ?_) (fun c_ => ?_)
    · have hf := xo_pos c_ hf
      refine xr_aload_n (pc := 16) 0 dX6_qGoesOnTest_16 rfl rfl ?_
      obtain ⟨r2, τ2, hτ2, hf⟩ := xo_bd hf
      refine call_f_t_qHasSquare (pc := 17) hτ2 rfl (Nat.le_of_ble_eq_true rfl) (Nat.le_of_ble_eq_true rfl) (Nat.le_of_ble_eq_true rfl) dX6_qGoesOnTest_17 ?_
      refine xr_if_eq (pc := 20) 76 dX6_qGoesOnTest_20 (by decide) (fun c_ => ?_) (fun c_ => ?_)
      · have hf := xo_pos c_ hf
        exact ke0 _ (Option.some.inj hf).symm
      · have hf := xo_neg c_ hf
        refine xr_aload_n (pc := 23) 0 dX6_qGoesOnTest_23 rfl rfl ?_
        refine xr_dup (pc := 24) dX6_qGoesOnTest_24 rfl ?_
        refine xt_getI (pc := 25) 2 (by decide) q1748 rfl rfl rfl dX6_qGoesOnTest_25 ?_
        refine xr_iconst (pc := 28) dX6_qGoesOnTest_28 xci_1 ?_
        refine xr_iadd (pc := 29) dX6_qGoesOnTest_29 ?_
        refine xt_putI (pc := 30) 2 (by decide) q1748 rfl rfl rfl (by decide +kernel) rfl dX6_qGoesOnTest_30 ?_
        obtain ⟨b5, hb5, hf⟩ := xo_bind hf
        refine itr_rule (P := fun s_ : TS => xV (wT D m) K mX6_qGoesOnTest (xQ (wT D m) K Z) s_ 33 [(0, .ref m)] []) (fun s_ o_ hB_ hc_ he_ => ok_Bt_qGoesOnTest_33 hB_ hc_ (fun e_ h_ => ?_)) 4096 _ hb5
        · have e9_ := he_ _ h_
          rw [e9_]
          refine xr_aload_n (pc := 49) 0 dX6_qGoesOnTest_49 rfl rfl ?_
          refine xr_dup (pc := 50) dX6_qGoesOnTest_50 rfl ?_
          refine xt_getI (pc := 51) 123 (by decide) q1869 rfl rfl rfl dX6_qGoesOnTest_51 ?_
          refine xr_iconst (pc := 54) dX6_qGoesOnTest_54 xci_1 ?_
          refine xr_isub (pc := 55) dX6_qGoesOnTest_55 ?_
          refine xt_putI (pc := 56) 123 (by decide) q1869 rfl rfl rfl (by decide +kernel) rfl dX6_qGoesOnTest_56 ?_
          refine xr_aload_n (pc := 59) 0 dX6_qGoesOnTest_59 rfl rfl ?_
          refine xr_dup (pc := 60) dX6_qGoesOnTest_60 rfl ?_
          refine xt_getI (pc := 61) 124 (by decide) q1870 rfl rfl rfl dX6_qGoesOnTest_61 ?_
          refine xr_iconst (pc := 64) dX6_qGoesOnTest_64 xci_1 ?_
          refine xr_isub (pc := 65) dX6_qGoesOnTest_65 ?_
          refine xt_putI (pc := 66) 124 (by decide) q1870 rfl rfl rfl (by decide +kernel) rfl dX6_qGoesOnTest_66 ?_
          refine xr_aload_n (pc := 69) 0 dX6_qGoesOnTest_69 rfl rfl ?_
          obtain ⟨τ6, hτ6, hf⟩ := xo_bind hf
          refine call_f_t_qDropsNots (pc := 70) hτ6 rfl (Nat.le_of_ble_eq_true rfl) (Nat.le_of_ble_eq_true rfl) (Nat.le_of_ble_eq_true rfl) dX6_qGoesOnTest_70 ?_
          refine xr_goto (pc := 73) 0 dX6_qGoesOnTest_73 (by decide) ?_
          exact kc _ (Option.some.inj hf).symm
    · have hf := xo_neg c_ hf
      exact ke0 _ (Option.some.inj hf).symm
  · have hf := xo_neg c_ hf
    exact ke0 _ (Option.some.inj hf).symm
def Jt_qGoesOnTest_155 (τ : TS) : Option ((TS) ⊕ ((TS))) :=
  (f_t_qDrops τ).bind fun τ14 =>
  some (.inl τ14)
theorem ok_Jt_qGoesOnTest_155 {D : TD} {m : Nat} {K : xK} {Z : Option Value × TS} {τ : TS} {o_ : ((TS) ⊕ ((TS)))} (hf : Jt_qGoesOnTest_155 τ = some o_) (kc : ∀ s_ : TS, o_ = .inl s_ → xV (wT D m) K mX6_qGoesOnTest (xQ (wT D m) K Z) s_ 137 [(0, .ref m)] []) (ke0 : ∀ e_ : TS, o_ = .inr e_ → xV (wT D m) K mX6_qGoesOnTest (xQ (wT D m) K Z) e_ 162 [(0, .ref m)] []) : xV (wT D m) K mX6_qGoesOnTest (xQ (wT D m) K Z) τ 155 [(0, .ref m)] [] := by
  unfold Jt_qGoesOnTest_155 at hf
  refine xr_aload_n (pc := 155) 0 dX6_qGoesOnTest_155 rfl rfl ?_
  obtain ⟨τ14, hτ14, hf⟩ := xo_bind hf
  refine call_f_t_qDrops (pc := 156) hτ14 rfl (Nat.le_of_ble_eq_true rfl) (Nat.le_of_ble_eq_true rfl) (Nat.le_of_ble_eq_true rfl) dX6_qGoesOnTest_156 ?_
  refine xr_goto (pc := 159) 137 dX6_qGoesOnTest_159 (by decide) ?_
  exact kc _ (Option.some.inj hf).symm
def Bt_qGoesOnTest_137 (τ : TS) : Option ((TS) ⊕ ((TS))) :=
  xbd (f_t_qIsOn 10 τ) fun r12 τ12 =>
  if r12 = 0 then
  xbd (f_t_qIsOn 11 τ12) fun r13 τ13 =>
  if r13 = 0 then
  some (.inr τ13)
  else
  Jt_qGoesOnTest_155 τ13
  else
  Jt_qGoesOnTest_155 τ12
theorem ok_Bt_qGoesOnTest_137 {D : TD} {m : Nat} {K : xK} {Z : Option Value × TS} {τ : TS} {o_ : ((TS) ⊕ ((TS)))} (hf : Bt_qGoesOnTest_137 τ = some o_) (kc : ∀ s_ : TS, o_ = .inl s_ → xV (wT D m) K mX6_qGoesOnTest (xQ (wT D m) K Z) s_ 137 [(0, .ref m)] []) (ke0 : ∀ e_ : TS, o_ = .inr e_ → xV (wT D m) K mX6_qGoesOnTest (xQ (wT D m) K Z) e_ 162 [(0, .ref m)] []) : xV (wT D m) K mX6_qGoesOnTest (xQ (wT D m) K Z) τ 137 [(0, .ref m)] [] := by
  unfold Bt_qGoesOnTest_137 at hf
  refine xr_aload_n (pc := 137) 0 dX6_qGoesOnTest_137 rfl rfl ?_
  refine xr_bipush (pc := 138) dX6_qGoesOnTest_138 xcb_10 ?_
  obtain ⟨r12, τ12, hτ12, hf⟩ := xo_bd hf
  refine call_f_t_qIsOn (pc := 140) hτ12 rfl (Nat.le_of_ble_eq_true rfl) (Nat.le_of_ble_eq_true rfl) (Nat.le_of_ble_eq_true rfl) dX6_qGoesOnTest_140 ?_
  refine xr_if_ne (pc := 143) 155 dX6_qGoesOnTest_143 (by decide) (fun c_ => ?_) (fun c_ => ?_)
  · have hf := xo_pos c_ hf
    refine xr_aload_n (pc := 146) 0 dX6_qGoesOnTest_146 rfl rfl ?_
    refine xr_bipush (pc := 147) dX6_qGoesOnTest_147 xcb_11 ?_
    obtain ⟨r13, τ13, hτ13, hf⟩ := xo_bd hf
    refine call_f_t_qIsOn (pc := 149) hτ13 rfl (Nat.le_of_ble_eq_true rfl) (Nat.le_of_ble_eq_true rfl) (Nat.le_of_ble_eq_true rfl) dX6_qGoesOnTest_149 ?_
    refine xr_if_eq (pc := 152) 162 dX6_qGoesOnTest_152 (by decide) (fun c_ => ?_) (fun c_ => ?_)
    · have hf := xo_pos c_ hf
      exact ke0 _ (Option.some.inj hf).symm
    · have hf := xo_neg c_ hf
      exact ok_Jt_qGoesOnTest_155 hf kc ke0
  · have hf := xo_neg c_ hf
    exact ok_Jt_qGoesOnTest_155 hf kc ke0
def Bt_qGoesOnTest_87 (τ : TS) : Option ((TS) ⊕ ((TS))) :=
  xbd (f_t_qIsOn 10 τ) fun r16 τ16 =>
  if r16 = 0 then
  some (.inr τ16)
  else
  (f_t_qDrops τ16).bind fun τ17 =>
  some (.inl τ17)
theorem ok_Bt_qGoesOnTest_87 {D : TD} {m : Nat} {K : xK} {Z : Option Value × TS} {τ : TS} {o_ : ((TS) ⊕ ((TS)))} (hf : Bt_qGoesOnTest_87 τ = some o_) (kc : ∀ s_ : TS, o_ = .inl s_ → xV (wT D m) K mX6_qGoesOnTest (xQ (wT D m) K Z) s_ 87 [(0, .ref m)] []) (ke0 : ∀ e_ : TS, o_ = .inr e_ → xV (wT D m) K mX6_qGoesOnTest (xQ (wT D m) K Z) e_ 103 [(0, .ref m)] []) : xV (wT D m) K mX6_qGoesOnTest (xQ (wT D m) K Z) τ 87 [(0, .ref m)] [] := by
  unfold Bt_qGoesOnTest_87 at hf
  refine xr_aload_n (pc := 87) 0 dX6_qGoesOnTest_87 rfl rfl ?_
  refine xr_bipush (pc := 88) dX6_qGoesOnTest_88 xcb_10 ?_
  obtain ⟨r16, τ16, hτ16, hf⟩ := xo_bd hf
  refine call_f_t_qIsOn (pc := 90) hτ16 rfl (Nat.le_of_ble_eq_true rfl) (Nat.le_of_ble_eq_true rfl) (Nat.le_of_ble_eq_true rfl) dX6_qGoesOnTest_90 ?_
  refine xr_if_eq (pc := 93) 103 dX6_qGoesOnTest_93 (by decide) (fun c_ => ?_) (fun c_ => ?_)
  · have hf := xo_pos c_ hf
    exact ke0 _ (Option.some.inj hf).symm
  · have hf := xo_neg c_ hf
    refine xr_aload_n (pc := 96) 0 dX6_qGoesOnTest_96 rfl rfl ?_
    obtain ⟨τ17, hτ17, hf⟩ := xo_bind hf
    refine call_f_t_qDrops (pc := 97) hτ17 rfl (Nat.le_of_ble_eq_true rfl) (Nat.le_of_ble_eq_true rfl) (Nat.le_of_ble_eq_true rfl) dX6_qGoesOnTest_97 ?_
    refine xr_goto (pc := 100) 87 dX6_qGoesOnTest_100 (by decide) ?_
    exact kc _ (Option.some.inj hf).symm
def Jt_qGoesOnTest_76 (τ : TS) : Option (Int32 × TS) :=
  xbd (f_t_takes 95 τ) fun r8 τ8 =>
  if r8 = 0 then
  xbd (f_t_takes 96 τ8) fun r9 τ9 =>
  if r9 = 0 then
  if (tI τ9 5) = 0 then
  xbd (f_t_qHasSquare τ9) fun r10 τ10 =>
  if r10 = 0 then
  some ((0, τ10))
  else
  (f_t_fail 1 (tI τ10 2) τ10).bind fun τ11 =>
  some ((0, τ11))
  else
  some ((0, τ9))
  else
  (itr (fun s_ : TS => Bt_qGoesOnTest_137 s_) 4096 τ9).bind fun b15 =>
  if xin (tI b15 123) 1700 = true then
  some ((1, sI (sA b15 122 (tI b15 123).toNatClampNeg 11) 123 ((tI (sA b15 122 (tI b15 123).toNatClampNeg 11) 123) + 1)))
  else none
  else
  (itr (fun s_ : TS => Bt_qGoesOnTest_87 s_) 4096 τ8).bind fun b18 =>
  if xin (tI b18 123) 1700 = true then
  some ((1, sI (sA b18 122 (tI b18 123).toNatClampNeg 10) 123 ((tI (sA b18 122 (tI b18 123).toNatClampNeg 10) 123) + 1)))
  else none
theorem ok_Jt_qGoesOnTest_76 {D : TD} {m : Nat} {K : xK} {Z : Option Value × TS} {τ : TS} {o_ : (Int32 × TS)} (hf : Jt_qGoesOnTest_76 τ = some o_) (kr : ∀ r_ : (Int32 × TS), o_ = r_ → Z = (some (.int r_.1), r_.2)) : xV (wT D m) K mX6_qGoesOnTest (xQ (wT D m) K Z) τ 76 [(0, .ref m)] [] := by
  unfold Jt_qGoesOnTest_76 at hf
  refine xr_aload_n (pc := 76) 0 dX6_qGoesOnTest_76 rfl rfl ?_
  refine xr_aload_n (pc := 77) 0 dX6_qGoesOnTest_77 rfl rfl ?_
  refine xt_getA (pc := 78) 95 (by decide) q1841 rfl rfl rfl dX6_qGoesOnTest_78 ?_
  obtain ⟨r8, τ8, hτ8, hf⟩ := xo_bd hf
  refine call_f_t_takes (pc := 81) hτ8 rfl (Nat.le_of_ble_eq_true rfl) (Nat.le_of_ble_eq_true rfl) (Nat.le_of_ble_eq_true rfl) dX6_qGoesOnTest_81 ?_
  refine xr_if_eq (pc := 84) 126 dX6_qGoesOnTest_84 (by decide) (fun c_ => ?_) (fun c_ => ?_)
  · have hf := xo_pos c_ hf
    refine xr_aload_n (pc := 126) 0 dX6_qGoesOnTest_126 rfl rfl ?_
    refine xr_aload_n (pc := 127) 0 dX6_qGoesOnTest_127 rfl rfl ?_
    refine xt_getA (pc := 128) 96 (by decide) q1842 rfl rfl rfl dX6_qGoesOnTest_128 ?_
    obtain ⟨r9, τ9, hτ9, hf⟩ := xo_bd hf
    refine call_f_t_takes (pc := 131) hτ9 rfl (Nat.le_of_ble_eq_true rfl) (Nat.le_of_ble_eq_true rfl) (Nat.le_of_ble_eq_true rfl) dX6_qGoesOnTest_131 ?_
    refine xr_if_eq (pc := 134) 185 dX6_qGoesOnTest_134 (by decide) (fun c_ => ?_) (fun c_ => ?_)
    · have hf := xo_pos c_ hf
      refine xr_aload_n (pc := 185) 0 dX6_qGoesOnTest_185 rfl rfl ?_
      refine xt_getI (pc := 186) 5 (by decide) q1751 rfl rfl rfl dX6_qGoesOnTest_186 ?_
      refine xr_if_ne (pc := 189) 208 dX6_qGoesOnTest_189 (by decide) (fun c_ => ?_) (fun c_ => ?_)
      · have hf := xo_pos c_ hf
        refine xr_aload_n (pc := 192) 0 dX6_qGoesOnTest_192 rfl rfl ?_
        obtain ⟨r10, τ10, hτ10, hf⟩ := xo_bd hf
        refine call_f_t_qHasSquare (pc := 193) hτ10 rfl (Nat.le_of_ble_eq_true rfl) (Nat.le_of_ble_eq_true rfl) (Nat.le_of_ble_eq_true rfl) dX6_qGoesOnTest_193 ?_
        refine xr_if_eq (pc := 196) 208 dX6_qGoesOnTest_196 (by decide) (fun c_ => ?_) (fun c_ => ?_)
        · have hf := xo_pos c_ hf
          refine xr_iconst (pc := 208) dX6_qGoesOnTest_208 xci_0 ?_
          rw [kr _ (Option.some.inj hf).symm]
          exact xr_zret (pc := 209) dX6_qGoesOnTest_209 rfl xz_0
        · have hf := xo_neg c_ hf
          refine xr_aload_n (pc := 199) 0 dX6_qGoesOnTest_199 rfl rfl ?_
          refine xr_iconst (pc := 200) dX6_qGoesOnTest_200 xci_1 ?_
          refine xr_aload_n (pc := 201) 0 dX6_qGoesOnTest_201 rfl rfl ?_
          refine xt_getI (pc := 202) 2 (by decide) q1748 rfl rfl rfl dX6_qGoesOnTest_202 ?_
          obtain ⟨τ11, hτ11, hf⟩ := xo_bind hf
          refine call_f_t_fail (pc := 205) hτ11 rfl (Nat.le_of_ble_eq_true rfl) (Nat.le_of_ble_eq_true rfl) (Nat.le_of_ble_eq_true rfl) dX6_qGoesOnTest_205 ?_
          refine xr_iconst (pc := 208) dX6_qGoesOnTest_208 xci_0 ?_
          rw [kr _ (Option.some.inj hf).symm]
          exact xr_zret (pc := 209) dX6_qGoesOnTest_209 rfl xz_0
      · have hf := xo_neg c_ hf
        refine xr_iconst (pc := 208) dX6_qGoesOnTest_208 xci_0 ?_
        rw [kr _ (Option.some.inj hf).symm]
        exact xr_zret (pc := 209) dX6_qGoesOnTest_209 rfl xz_0
    · have hf := xo_neg c_ hf
      obtain ⟨b15, hb15, hf⟩ := xo_bind hf
      refine itr_rule (P := fun s_ : TS => xV (wT D m) K mX6_qGoesOnTest (xQ (wT D m) K Z) s_ 137 [(0, .ref m)] []) (fun s_ o_ hB_ hc_ he_ => ok_Bt_qGoesOnTest_137 hB_ hc_ (fun e_ h_ => ?_)) 4096 _ hb15
      · have e9_ := he_ _ h_
        rw [e9_]
        refine xr_aload_n (pc := 162) 0 dX6_qGoesOnTest_162 rfl rfl ?_
        refine xt_getA (pc := 163) 122 (by decide) q1868 rfl rfl rfl dX6_qGoesOnTest_163 ?_
        refine xr_aload_n (pc := 166) 0 dX6_qGoesOnTest_166 rfl rfl ?_
        refine xt_getI (pc := 167) 123 (by decide) q1869 rfl rfl rfl dX6_qGoesOnTest_167 ?_
        refine xr_bipush (pc := 170) dX6_qGoesOnTest_170 xcb_11 ?_
        obtain ⟨hi_, hf⟩ := xo_if hf
        refine xt_iast (pc := 172) 122 rfl rfl hi_ dX6_qGoesOnTest_172 ?_
        refine xr_aload_n (pc := 173) 0 dX6_qGoesOnTest_173 rfl rfl ?_
        refine xr_dup (pc := 174) dX6_qGoesOnTest_174 rfl ?_
        refine xt_getI (pc := 175) 123 (by decide) q1869 rfl rfl rfl dX6_qGoesOnTest_175 ?_
        refine xr_iconst (pc := 178) dX6_qGoesOnTest_178 xci_1 ?_
        refine xr_iadd (pc := 179) dX6_qGoesOnTest_179 ?_
        refine xt_putI (pc := 180) 123 (by decide) q1869 rfl rfl rfl (by decide +kernel) rfl dX6_qGoesOnTest_180 ?_
        refine xr_iconst (pc := 183) dX6_qGoesOnTest_183 xci_1 ?_
        rw [kr _ (Option.some.inj hf).symm]
        exact xr_zret (pc := 184) dX6_qGoesOnTest_184 rfl xz_1
  · have hf := xo_neg c_ hf
    obtain ⟨b18, hb18, hf⟩ := xo_bind hf
    refine itr_rule (P := fun s_ : TS => xV (wT D m) K mX6_qGoesOnTest (xQ (wT D m) K Z) s_ 87 [(0, .ref m)] []) (fun s_ o_ hB_ hc_ he_ => ok_Bt_qGoesOnTest_87 hB_ hc_ (fun e_ h_ => ?_)) 4096 _ hb18
    · have e9_ := he_ _ h_
      rw [e9_]
      refine xr_aload_n (pc := 103) 0 dX6_qGoesOnTest_103 rfl rfl ?_
      refine xt_getA (pc := 104) 122 (by decide) q1868 rfl rfl rfl dX6_qGoesOnTest_104 ?_
      refine xr_aload_n (pc := 107) 0 dX6_qGoesOnTest_107 rfl rfl ?_
      refine xt_getI (pc := 108) 123 (by decide) q1869 rfl rfl rfl dX6_qGoesOnTest_108 ?_
      refine xr_bipush (pc := 111) dX6_qGoesOnTest_111 xcb_10 ?_
      obtain ⟨hi_, hf⟩ := xo_if hf
      refine xt_iast (pc := 113) 122 rfl rfl hi_ dX6_qGoesOnTest_113 ?_
      refine xr_aload_n (pc := 114) 0 dX6_qGoesOnTest_114 rfl rfl ?_
      refine xr_dup (pc := 115) dX6_qGoesOnTest_115 rfl ?_
      refine xt_getI (pc := 116) 123 (by decide) q1869 rfl rfl rfl dX6_qGoesOnTest_116 ?_
      refine xr_iconst (pc := 119) dX6_qGoesOnTest_119 xci_1 ?_
      refine xr_iadd (pc := 120) dX6_qGoesOnTest_120 ?_
      refine xt_putI (pc := 121) 123 (by decide) q1869 rfl rfl rfl (by decide +kernel) rfl dX6_qGoesOnTest_121 ?_
      refine xr_iconst (pc := 124) dX6_qGoesOnTest_124 xci_1 ?_
      rw [kr _ (Option.some.inj hf).symm]
      exact xr_zret (pc := 125) dX6_qGoesOnTest_125 rfl xz_1
def f_t_qGoesOnTest (τ : TS) : Option (Int32 × TS) :=
  (itr (fun s_ : TS => Bt_qGoesOnTest_0 s_) 4096 τ).bind fun b7 =>
  Jt_qGoesOnTest_76 b7
theorem ok_f_t_qGoesOnTest {D : TD} {m : Nat} {K : xK} {Z : Option Value × TS} {τ : TS} {o_ : (Int32 × TS)} (hf : f_t_qGoesOnTest τ = some o_) (kr : ∀ r_ : (Int32 × TS), o_ = r_ → Z = (some (.int r_.1), r_.2)) : xV (wT D m) K mX6_qGoesOnTest (xQ (wT D m) K Z) τ 0 [(0, .ref m)] [] := by
  unfold f_t_qGoesOnTest at hf
  obtain ⟨b7, hb7, hf⟩ := xo_bind hf
  refine itr_rule (P := fun s_ : TS => xV (wT D m) K mX6_qGoesOnTest (xQ (wT D m) K Z) s_ 0 [(0, .ref m)] []) (fun s_ o_ hB_ hc_ he_ => ok_Bt_qGoesOnTest_0 hB_ hc_ (fun e_ h_ => ?_)) 4096 _ hb7
  · have e9_ := he_ _ h_
    rw [e9_]
    exact ok_Jt_qGoesOnTest_76 hf kr
theorem met_f_t_qGoesOnTest (l : Launch) {D : TD} {m : Nat} {τ : TS} {o_ : (Int32 × TS)} (hf : f_t_qGoesOnTest τ = some o_) : xMet (wT D m) l yX6_qGoesOnTest (ws_ yX6_qGoesOnTest cX6_qGoesOnTest 1 (some .boolean)) 3 180 0 0 [.ref m] τ (some (.int o_.1), o_.2) :=
  xMet_of (by decide) (Nat.le_of_ble_eq_true rfl) KT_moved (fun _ _ => trivial) (fun K _ _ _ => ok_f_t_qGoesOnTest hf (fun _ h => by rw [h]))
theorem hd_f_t_qGoesOnTest : yX6_qGoesOnTest.cls = RX6 ∧ yX6_qGoesOnTest.cls ≠ "java/lang/invoke/MethodHandle" ∧ yX6_qGoesOnTest.cls ≠ "java/lang/invoke/VarHandle" ∧ (parseMethodDescriptor yX6_qGoesOnTest.desc).map (fun d => d.parameters.length) = some 0 := by decide +kernel
theorem call_f_t_qGoesOnTest {D : TD} {m : Nat} {K : xK} {M : xM} {Q : State → Prop} {τ : TS} {pc : Nat} {loc : List (Nat × Value)} {st : List Value} {r : Int32} {τ1 : TS} (hf : f_t_qGoesOnTest τ = some (r, τ1)) (ho : M.2.2.1 = RX6) (hfr : 4 ≤ M.2.2.2.1) (hlo : 200 ≤ M.2.2.2.2.1) (hcat : (st.map fun v => v.category).sum ≤ 8) (d : decode M.1 pc = .ok (.invokevirtual 749, 3)) (k : xV (wT D m) K M Q τ1 (pc + 3) loc (.int r :: st)) : xV (wT D m) K M Q τ pc loc (.ref m :: st) :=
  xr_callV (As := []) (rest := st) (met_f_t_qGoesOnTest K.2.1 hf) (lw_V q2313 q2315 qs102 q186 q2316) hd_f_t_qGoesOnTest ho hfr hlo rfl (fun H hR hK => t_recv H hR hK) rfl hcat d k
