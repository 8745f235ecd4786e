set_option maxRecDepth 100000
abbrev mX6_init : xM := (cX6_init, 1, RX6, 1, 60, none, "<init>")
def Jc_X6_init_2072 (x0 : Nat) (τ : CS) : Option CS :=
  xbd (aArr 101 (1700 : Int32) τ) fun r181 τ181 =>
  if gT τ181.1 x0 = 21 then
  xbd (aArr 100 (191 : Int32) (vR τ181.1 2226 x0 (some r181), τ181.2)) fun r183 τ183 =>
  if gT τ183.1 x0 = 21 then
  some ((vR τ183.1 2230 x0 (some r183), τ183.2))
  else none
  else none
theorem ok_Jc_X6_init_2072 {D : CD} {P : CP} {K : xK} {Z : Option Value × CS} {x0 : Nat} {τ : CS} {o_ : CS} (hf : Jc_X6_init_2072 x0 τ = some o_) (kr : ∀ r_ : CS, o_ = r_ → Z = (none, r_)) : xV (wC D P) K mX6_init (xQ (wC D P) K Z) τ 2072 [(0, .ref x0)] [] := by
  unfold Jc_X6_init_2072 at hf
  refine xr_aload_n (pc := 2072) 0 dX6_init_2072 rfl rfl ?_
  refine xr_sipush (pc := 2073) dX6_init_2073 xcs_1700 ?_
  obtain ⟨r181, τ181, hτ181, hf⟩ := xo_bd hf
  refine yc_aArr (pc := 2076) 101 (by decide) (by decide) rfl (Or.inr rfl) (by decide +kernel) (by decide) q426 hτ181 dX6_init_2076 ?_
  obtain ⟨ht182, hf⟩ := xo_if hf
  refine yc_putFRs (pc := 2078) 21 126 2226 ht182 (by decide) (by decide) (by decide) rfl rfl rfl (ty := (.array .long)) (by decide +kernel) rfl q1872 rfl rfl rfl dX6_init_2078 ?_
  refine xr_aload_n (pc := 2081) 0 dX6_init_2081 rfl rfl ?_
  refine xr_sipush (pc := 2082) dX6_init_2082 xcs_191 ?_
  obtain ⟨r183, τ183, hτ183, hf⟩ := xo_bd hf
  refine yc_aArr (pc := 2085) 100 (by decide) (by decide) rfl (Or.inl rfl) (by decide +kernel) (by decide) q256 hτ183 dX6_init_2085 ?_
  obtain ⟨ht184, hf⟩ := xo_if hf
  refine yc_putFRs (pc := 2087) 21 130 2230 ht184 (by decide) (by decide) (by decide) rfl rfl rfl (ty := (.array .int)) (by decide +kernel) rfl q1876 rfl rfl rfl dX6_init_2087 ?_
  rw [kr _ (Option.some.inj hf).symm]
  exact xr_vret (pc := 2090) dX6_init_2090 rfl
def Jc_X6_init_2005 (x0 : Nat) (τ : CS) : Option CS :=
  xbd (aArr 102 (3 : Int32) τ) fun r173 τ173 =>
  if xin 0 (gN τ173.1 r173) = true then
  if xin 1 (gN τ173.1 r173) = true then
  if xin 2 (gN τ173.1 r173) = true then
  if gT τ173.1 x0 = 21 then
  xbd (aArr 102 (4 : Int32) (vR τ173.1 2218 x0 (some r173), (uA (uA (uA τ173.2 r173 (0 : Int32).toNatClampNeg ((114 : Int32).toUInt32.toUInt16.toUInt32.toInt32)) r173 (1 : Int32).toNatClampNeg ((111 : Int32).toUInt32.toUInt16.toUInt32.toInt32)) r173 (2 : Int32).toNatClampNeg ((119 : Int32).toUInt32.toUInt16.toUInt32.toInt32)))) fun r175 τ175 =>
  if xin 0 (gN τ175.1 r175) = true then
  if xin 1 (gN τ175.1 r175) = true then
  if xin 2 (gN τ175.1 r175) = true then
  if xin 3 (gN τ175.1 r175) = true then
  if gT τ175.1 x0 = 21 then
  xbd (aArr 100 (1700 : Int32) (vR τ175.1 2219 x0 (some r175), (uA (uA (uA (uA τ175.2 r175 (0 : Int32).toNatClampNeg ((116 : Int32).toUInt32.toUInt16.toUInt32.toInt32)) r175 (1 : Int32).toNatClampNeg ((117 : Int32).toUInt32.toUInt16.toUInt32.toInt32)) r175 (2 : Int32).toNatClampNeg ((114 : Int32).toUInt32.toUInt16.toUInt32.toInt32)) r175 (3 : Int32).toNatClampNeg ((110 : Int32).toUInt32.toUInt16.toUInt32.toInt32)))) fun r177 τ177 =>
  if gT τ177.1 x0 = 21 then
  xbd (aArr 100 (1700 : Int32) (vR τ177.1 2220 x0 (some r177), τ177.2)) fun r179 τ179 =>
  if gT τ179.1 x0 = 21 then
  Jc_X6_init_2072 x0 (vR τ179.1 2222 x0 (some r179), τ179.2)
  else none
  else none
  else none
  else none
  else none
  else none
  else none
  else none
  else none
  else none
  else none
theorem ok_Jc_X6_init_2005 {D : CD} {P : CP} {K : xK} {Z : Option Value × CS} {x0 : Nat} {τ : CS} {o_ : CS} (hf : Jc_X6_init_2005 x0 τ = some o_) (kr : ∀ r_ : CS, o_ = r_ → Z = (none, r_)) : xV (wC D P) K mX6_init (xQ (wC D P) K Z) τ 2005 [(0, .ref x0)] [] := by
  unfold Jc_X6_init_2005 at hf
  refine xr_aload_n (pc := 2005) 0 dX6_init_2005 rfl rfl ?_
  refine xr_iconst (pc := 2006) dX6_init_2006 xci_3 ?_
  obtain ⟨r173, τ173, hτ173, hf⟩ := xo_bd hf
  refine yc_aArr (pc := 2007) 102 (by decide) (by decide) rfl (Or.inl rfl) (by decide +kernel) (by decide) q701 hτ173 dX6_init_2007 ?_
  refine xr_dup (pc := 2009) dX6_init_2009 rfl ?_
  refine xr_iconst (pc := 2010) dX6_init_2010 xci_0 ?_
  refine xr_bipush (pc := 2011) dX6_init_2011 xcb_114 ?_
  obtain ⟨hi_, hf⟩ := xo_if hf
  refine yc_cast (pc := 2013) (aArr_T hτ173) hi_ dX6_init_2013 ?_
  refine xr_dup (pc := 2014) dX6_init_2014 rfl ?_
  refine xr_iconst (pc := 2015) dX6_init_2015 xci_1 ?_
  refine xr_bipush (pc := 2016) dX6_init_2016 xcb_111 ?_
  obtain ⟨hi_, hf⟩ := xo_if hf
  refine yc_cast (pc := 2018) (aArr_T hτ173) hi_ dX6_init_2018 ?_
  refine xr_dup (pc := 2019) dX6_init_2019 rfl ?_
  refine xr_iconst (pc := 2020) dX6_init_2020 xci_2 ?_
  refine xr_bipush (pc := 2021) dX6_init_2021 xcb_119 ?_
  obtain ⟨hi_, hf⟩ := xo_if hf
  refine yc_cast (pc := 2023) (aArr_T hτ173) hi_ dX6_init_2023 ?_
  obtain ⟨ht174, hf⟩ := xo_if hf
  refine yc_putFRs (pc := 2024) 21 118 2218 ht174 (by decide) (by decide) (by decide) rfl rfl rfl (ty := (.array .char)) (by decide +kernel) rfl q1864 rfl rfl rfl dX6_init_2024 ?_
  refine xr_aload_n (pc := 2027) 0 dX6_init_2027 rfl rfl ?_
  refine xr_iconst (pc := 2028) dX6_init_2028 xci_4 ?_
  obtain ⟨r175, τ175, hτ175, hf⟩ := xo_bd hf
  refine yc_aArr (pc := 2029) 102 (by decide) (by decide) rfl (Or.inl rfl) (by decide +kernel) (by decide) q701 hτ175 dX6_init_2029 ?_
  refine xr_dup (pc := 2031) dX6_init_2031 rfl ?_
  refine xr_iconst (pc := 2032) dX6_init_2032 xci_0 ?_
  refine xr_bipush (pc := 2033) dX6_init_2033 xcb_116 ?_
  obtain ⟨hi_, hf⟩ := xo_if hf
  refine yc_cast (pc := 2035) (aArr_T hτ175) hi_ dX6_init_2035 ?_
  refine xr_dup (pc := 2036) dX6_init_2036 rfl ?_
  refine xr_iconst (pc := 2037) dX6_init_2037 xci_1 ?_
  refine xr_bipush (pc := 2038) dX6_init_2038 xcb_117 ?_
  obtain ⟨hi_, hf⟩ := xo_if hf
  refine yc_cast (pc := 2040) (aArr_T hτ175) hi_ dX6_init_2040 ?_
  refine xr_dup (pc := 2041) dX6_init_2041 rfl ?_
  refine xr_iconst (pc := 2042) dX6_init_2042 xci_2 ?_
  refine xr_bipush (pc := 2043) dX6_init_2043 xcb_114 ?_
  obtain ⟨hi_, hf⟩ := xo_if hf
  refine yc_cast (pc := 2045) (aArr_T hτ175) hi_ dX6_init_2045 ?_
  refine xr_dup (pc := 2046) dX6_init_2046 rfl ?_
  refine xr_iconst (pc := 2047) dX6_init_2047 xci_3 ?_
  refine xr_bipush (pc := 2048) dX6_init_2048 xcb_110 ?_
  obtain ⟨hi_, hf⟩ := xo_if hf
  refine yc_cast (pc := 2050) (aArr_T hτ175) hi_ dX6_init_2050 ?_
  obtain ⟨ht176, hf⟩ := xo_if hf
  refine yc_putFRs (pc := 2051) 21 119 2219 ht176 (by decide) (by decide) (by decide) rfl rfl rfl (ty := (.array .char)) (by decide +kernel) rfl q1865 rfl rfl rfl dX6_init_2051 ?_
  refine xr_aload_n (pc := 2054) 0 dX6_init_2054 rfl rfl ?_
  refine xr_sipush (pc := 2055) dX6_init_2055 xcs_1700 ?_
  obtain ⟨r177, τ177, hτ177, hf⟩ := xo_bd hf
  refine yc_aArr (pc := 2058) 100 (by decide) (by decide) rfl (Or.inl rfl) (by decide +kernel) (by decide) q256 hτ177 dX6_init_2058 ?_
  obtain ⟨ht178, hf⟩ := xo_if hf
  refine yc_putFRs (pc := 2060) 21 120 2220 ht178 (by decide) (by decide) (by decide) rfl rfl rfl (ty := (.array .int)) (by decide +kernel) rfl q1866 rfl rfl rfl dX6_init_2060 ?_
  refine xr_aload_n (pc := 2063) 0 dX6_init_2063 rfl rfl ?_
  refine xr_sipush (pc := 2064) dX6_init_2064 xcs_1700 ?_
  obtain ⟨r179, τ179, hτ179, hf⟩ := xo_bd hf
  refine yc_aArr (pc := 2067) 100 (by decide) (by decide) rfl (Or.inl rfl) (by decide +kernel) (by decide) q256 hτ179 dX6_init_2067 ?_
  obtain ⟨ht180, hf⟩ := xo_if hf
  refine yc_putFRs (pc := 2069) 21 122 2222 ht180 (by decide) (by decide) (by decide) rfl rfl rfl (ty := (.array .int)) (by decide +kernel) rfl q1868 rfl rfl rfl dX6_init_2069 ?_
  exact ok_Jc_X6_init_2072 hf kr
def Jc_X6_init_1881 (x0 : Nat) (τ : CS) : Option CS :=
  xbd (aArr 102 (3 : Int32) τ) fun r165 τ165 =>
  if xin 0 (gN τ165.1 r165) = true then
  if xin 1 (gN τ165.1 r165) = true then
  if xin 2 (gN τ165.1 r165) = true then
  if gT τ165.1 x0 = 21 then
  xbd (aArr 102 (5 : Int32) (vR τ165.1 2214 x0 (some r165), (uA (uA (uA τ165.2 r165 (0 : Int32).toNatClampNeg ((106 : Int32).toUInt32.toUInt16.toUInt32.toInt32)) r165 (1 : Int32).toNatClampNeg ((111 : Int32).toUInt32.toUInt16.toUInt32.toInt32)) r165 (2 : Int32).toNatClampNeg ((121 : Int32).toUInt32.toUInt16.toUInt32.toInt32)))) fun r167 τ167 =>
  if xin 0 (gN τ167.1 r167) = true then
  if xin 1 (gN τ167.1 r167) = true then
  if xin 2 (gN τ167.1 r167) = true then
  if xin 3 (gN τ167.1 r167) = true then
  if xin 4 (gN τ167.1 r167) = true then
  if gT τ167.1 x0 = 21 then
  xbd (aArr 102 (6 : Int32) (vR τ167.1 2215 x0 (some r167), (uA (uA (uA (uA (uA τ167.2 r167 (0 : Int32).toNatClampNeg ((112 : Int32).toUInt32.toUInt16.toUInt32.toInt32)) r167 (1 : Int32).toNatClampNeg ((117 : Int32).toUInt32.toUInt16.toUInt32.toInt32)) r167 (2 : Int32).toNatClampNeg ((114 : Int32).toUInt32.toUInt16.toUInt32.toInt32)) r167 (3 : Int32).toNatClampNeg ((115 : Int32).toUInt32.toUInt16.toUInt32.toInt32)) r167 (4 : Int32).toNatClampNeg ((101 : Int32).toUInt32.toUInt16.toUInt32.toInt32)))) fun r169 τ169 =>
  if xin 0 (gN τ169.1 r169) = true then
  if xin 1 (gN τ169.1 r169) = true then
  if xin 2 (gN τ169.1 r169) = true then
  if xin 3 (gN τ169.1 r169) = true then
  if xin 4 (gN τ169.1 r169) = true then
  if xin 5 (gN τ169.1 r169) = true then
  if gT τ169.1 x0 = 21 then
  xbd (aArr 102 (5 : Int32) (vR τ169.1 2216 x0 (some r169), (uA (uA (uA (uA (uA (uA τ169.2 r169 (0 : Int32).toNatClampNeg ((111 : Int32).toUInt32.toUInt16.toUInt32.toInt32)) r169 (1 : Int32).toNatClampNeg ((102 : Int32).toUInt32.toUInt16.toUInt32.toInt32)) r169 (2 : Int32).toNatClampNeg ((102 : Int32).toUInt32.toUInt16.toUInt32.toInt32)) r169 (3 : Int32).toNatClampNeg ((101 : Int32).toUInt32.toUInt16.toUInt32.toInt32)) r169 (4 : Int32).toNatClampNeg ((114 : Int32).toUInt32.toUInt16.toUInt32.toInt32)) r169 (5 : Int32).toNatClampNeg ((115 : Int32).toUInt32.toUInt16.toUInt32.toInt32)))) fun r171 τ171 =>
  if xin 0 (gN τ171.1 r171) = true then
  if xin 1 (gN τ171.1 r171) = true then
  if xin 2 (gN τ171.1 r171) = true then
  if xin 3 (gN τ171.1 r171) = true then
  if xin 4 (gN τ171.1 r171) = true then
  if gT τ171.1 x0 = 21 then
  Jc_X6_init_2005 x0 (vR τ171.1 2217 x0 (some r171), (uA (uA (uA (uA (uA τ171.2 r171 (0 : Int32).toNatClampNeg ((98 : Int32).toUInt32.toUInt16.toUInt32.toInt32)) r171 (1 : Int32).toNatClampNeg ((101 : Int32).toUInt32.toUInt16.toUInt32.toInt32)) r171 (2 : Int32).toNatClampNeg ((110 : Int32).toUInt32.toUInt16.toUInt32.toInt32)) r171 (3 : Int32).toNatClampNeg ((100 : Int32).toUInt32.toUInt16.toUInt32.toInt32)) r171 (4 : Int32).toNatClampNeg ((115 : Int32).toUInt32.toUInt16.toUInt32.toInt32)))
  else none
  else none
  else none
  else none
  else none
  else none
  else none
  else none
  else none
  else none
  else none
  else none
  else none
  else none
  else none
  else none
  else none
  else none
  else none
  else none
  else none
  else none
  else none
theorem ok_Jc_X6_init_1881 {D : CD} {P : CP} {K : xK} {Z : Option Value × CS} {x0 : Nat} {τ : CS} {o_ : CS} (hf : Jc_X6_init_1881 x0 τ = some o_) (kr : ∀ r_ : CS, o_ = r_ → Z = (none, r_)) : xV (wC D P) K mX6_init (xQ (wC D P) K Z) τ 1881 [(0, .ref x0)] [] := by
  unfold Jc_X6_init_1881 at hf
  refine xr_aload_n (pc := 1881) 0 dX6_init_1881 rfl rfl ?_
  refine xr_iconst (pc := 1882) dX6_init_1882 xci_3 ?_
  obtain ⟨r165, τ165, hτ165, hf⟩ := xo_bd hf
  refine yc_aArr (pc := 1883) 102 (by decide) (by decide) rfl (Or.inl rfl) (by decide +kernel) (by decide) q701 hτ165 dX6_init_1883 ?_
  refine xr_dup (pc := 1885) dX6_init_1885 rfl ?_
  refine xr_iconst (pc := 1886) dX6_init_1886 xci_0 ?_
  refine xr_bipush (pc := 1887) dX6_init_1887 xcb_106 ?_
  obtain ⟨hi_, hf⟩ := xo_if hf
  refine yc_cast (pc := 1889) (aArr_T hτ165) hi_ dX6_init_1889 ?_
  refine xr_dup (pc := 1890) dX6_init_1890 rfl ?_
  refine xr_iconst (pc := 1891) dX6_init_1891 xci_1 ?_
  refine xr_bipush (pc := 1892) dX6_init_1892 xcb_111 ?_
  obtain ⟨hi_, hf⟩ := xo_if hf
  refine yc_cast (pc := 1894) (aArr_T hτ165) hi_ dX6_init_1894 ?_
  refine xr_dup (pc := 1895) dX6_init_1895 rfl ?_
  refine xr_iconst (pc := 1896) dX6_init_1896 xci_2 ?_
  refine xr_bipush (pc := 1897) dX6_init_1897 xcb_121 ?_
  obtain ⟨hi_, hf⟩ := xo_if hf
  refine yc_cast (pc := 1899) (aArr_T hτ165) hi_ dX6_init_1899 ?_
  obtain ⟨ht166, hf⟩ := xo_if hf
  refine yc_putFRs (pc := 1900) 21 114 2214 ht166 (by decide) (by decide) (by decide) rfl rfl rfl (ty := (.array .char)) (by decide +kernel) rfl q1860 rfl rfl rfl dX6_init_1900 ?_
  refine xr_aload_n (pc := 1903) 0 dX6_init_1903 rfl rfl ?_
  refine xr_iconst (pc := 1904) dX6_init_1904 xci_5 ?_
  obtain ⟨r167, τ167, hτ167, hf⟩ := xo_bd hf
  refine yc_aArr (pc := 1905) 102 (by decide) (by decide) rfl (Or.inl rfl) (by decide +kernel) (by decide) q701 hτ167 dX6_init_1905 ?_
  refine xr_dup (pc := 1907) dX6_init_1907 rfl ?_
  refine xr_iconst (pc := 1908) dX6_init_1908 xci_0 ?_
  refine xr_bipush (pc := 1909) dX6_init_1909 xcb_112 ?_
  obtain ⟨hi_, hf⟩ := xo_if hf
  refine yc_cast (pc := 1911) (aArr_T hτ167) hi_ dX6_init_1911 ?_
  refine xr_dup (pc := 1912) dX6_init_1912 rfl ?_
  refine xr_iconst (pc := 1913) dX6_init_1913 xci_1 ?_
  refine xr_bipush (pc := 1914) dX6_init_1914 xcb_117 ?_
  obtain ⟨hi_, hf⟩ := xo_if hf
  refine yc_cast (pc := 1916) (aArr_T hτ167) hi_ dX6_init_1916 ?_
  refine xr_dup (pc := 1917) dX6_init_1917 rfl ?_
  refine xr_iconst (pc := 1918) dX6_init_1918 xci_2 ?_
  refine xr_bipush (pc := 1919) dX6_init_1919 xcb_114 ?_
  obtain ⟨hi_, hf⟩ := xo_if hf
  refine yc_cast (pc := 1921) (aArr_T hτ167) hi_ dX6_init_1921 ?_
  refine xr_dup (pc := 1922) dX6_init_1922 rfl ?_
  refine xr_iconst (pc := 1923) dX6_init_1923 xci_3 ?_
  refine xr_bipush (pc := 1924) dX6_init_1924 xcb_115 ?_
  obtain ⟨hi_, hf⟩ := xo_if hf
  refine yc_cast (pc := 1926) (aArr_T hτ167) hi_ dX6_init_1926 ?_
  refine xr_dup (pc := 1927) dX6_init_1927 rfl ?_
  refine xr_iconst (pc := 1928) dX6_init_1928 xci_4 ?_
  refine xr_bipush (pc := 1929) dX6_init_1929 xcb_101 ?_
  obtain ⟨hi_, hf⟩ := xo_if hf
  refine yc_cast (pc := 1931) (aArr_T hτ167) hi_ dX6_init_1931 ?_
  obtain ⟨ht168, hf⟩ := xo_if hf
  refine yc_putFRs (pc := 1932) 21 115 2215 ht168 (by decide) (by decide) (by decide) rfl rfl rfl (ty := (.array .char)) (by decide +kernel) rfl q1861 rfl rfl rfl dX6_init_1932 ?_
  refine xr_aload_n (pc := 1935) 0 dX6_init_1935 rfl rfl ?_
  refine xr_bipush (pc := 1936) dX6_init_1936 xcb_6 ?_
  obtain ⟨r169, τ169, hτ169, hf⟩ := xo_bd hf
  refine yc_aArr (pc := 1938) 102 (by decide) (by decide) rfl (Or.inl rfl) (by decide +kernel) (by decide) q701 hτ169 dX6_init_1938 ?_
  refine xr_dup (pc := 1940) dX6_init_1940 rfl ?_
  refine xr_iconst (pc := 1941) dX6_init_1941 xci_0 ?_
  refine xr_bipush (pc := 1942) dX6_init_1942 xcb_111 ?_
  obtain ⟨hi_, hf⟩ := xo_if hf
  refine yc_cast (pc := 1944) (aArr_T hτ169) hi_ dX6_init_1944 ?_
  refine xr_dup (pc := 1945) dX6_init_1945 rfl ?_
  refine xr_iconst (pc := 1946) dX6_init_1946 xci_1 ?_
  refine xr_bipush (pc := 1947) dX6_init_1947 xcb_102 ?_
  obtain ⟨hi_, hf⟩ := xo_if hf
  refine yc_cast (pc := 1949) (aArr_T hτ169) hi_ dX6_init_1949 ?_
  refine xr_dup (pc := 1950) dX6_init_1950 rfl ?_
  refine xr_iconst (pc := 1951) dX6_init_1951 xci_2 ?_
  refine xr_bipush (pc := 1952) dX6_init_1952 xcb_102 ?_
  obtain ⟨hi_, hf⟩ := xo_if hf
  refine yc_cast (pc := 1954) (aArr_T hτ169) hi_ dX6_init_1954 ?_
  refine xr_dup (pc := 1955) dX6_init_1955 rfl ?_
  refine xr_iconst (pc := 1956) dX6_init_1956 xci_3 ?_
  refine xr_bipush (pc := 1957) dX6_init_1957 xcb_101 ?_
  obtain ⟨hi_, hf⟩ := xo_if hf
  refine yc_cast (pc := 1959) (aArr_T hτ169) hi_ dX6_init_1959 ?_
  refine xr_dup (pc := 1960) dX6_init_1960 rfl ?_
  refine xr_iconst (pc := 1961) dX6_init_1961 xci_4 ?_
  refine xr_bipush (pc := 1962) dX6_init_1962 xcb_114 ?_
  obtain ⟨hi_, hf⟩ := xo_if hf
  refine yc_cast (pc := 1964) (aArr_T hτ169) hi_ dX6_init_1964 ?_
  refine xr_dup (pc := 1965) dX6_init_1965 rfl ?_
  refine xr_iconst (pc := 1966) dX6_init_1966 xci_5 ?_
  refine xr_bipush (pc := 1967) dX6_init_1967 xcb_115 ?_
  obtain ⟨hi_, hf⟩ := xo_if hf
  refine yc_cast (pc := 1969) (aArr_T hτ169) hi_ dX6_init_1969 ?_
  obtain ⟨ht170, hf⟩ := xo_if hf
  refine yc_putFRs (pc := 1970) 21 116 2216 ht170 (by decide) (by decide) (by decide) rfl rfl rfl (ty := (.array .char)) (by decide +kernel) rfl q1862 rfl rfl rfl dX6_init_1970 ?_
  refine xr_aload_n (pc := 1973) 0 dX6_init_1973 rfl rfl ?_
  refine xr_iconst (pc := 1974) dX6_init_1974 xci_5 ?_
  obtain ⟨r171, τ171, hτ171, hf⟩ := xo_bd hf
  refine yc_aArr (pc := 1975) 102 (by decide) (by decide) rfl (Or.inl rfl) (by decide +kernel) (by decide) q701 hτ171 dX6_init_1975 ?_
  refine xr_dup (pc := 1977) dX6_init_1977 rfl ?_
  refine xr_iconst (pc := 1978) dX6_init_1978 xci_0 ?_
  refine xr_bipush (pc := 1979) dX6_init_1979 xcb_98 ?_
  obtain ⟨hi_, hf⟩ := xo_if hf
  refine yc_cast (pc := 1981) (aArr_T hτ171) hi_ dX6_init_1981 ?_
  refine xr_dup (pc := 1982) dX6_init_1982 rfl ?_
  refine xr_iconst (pc := 1983) dX6_init_1983 xci_1 ?_
  refine xr_bipush (pc := 1984) dX6_init_1984 xcb_101 ?_
  obtain ⟨hi_, hf⟩ := xo_if hf
  refine yc_cast (pc := 1986) (aArr_T hτ171) hi_ dX6_init_1986 ?_
  refine xr_dup (pc := 1987) dX6_init_1987 rfl ?_
  refine xr_iconst (pc := 1988) dX6_init_1988 xci_2 ?_
  refine xr_bipush (pc := 1989) dX6_init_1989 xcb_110 ?_
  obtain ⟨hi_, hf⟩ := xo_if hf
  refine yc_cast (pc := 1991) (aArr_T hτ171) hi_ dX6_init_1991 ?_
  refine xr_dup (pc := 1992) dX6_init_1992 rfl ?_
  refine xr_iconst (pc := 1993) dX6_init_1993 xci_3 ?_
  refine xr_bipush (pc := 1994) dX6_init_1994 xcb_100 ?_
  obtain ⟨hi_, hf⟩ := xo_if hf
  refine yc_cast (pc := 1996) (aArr_T hτ171) hi_ dX6_init_1996 ?_
  refine xr_dup (pc := 1997) dX6_init_1997 rfl ?_
  refine xr_iconst (pc := 1998) dX6_init_1998 xci_4 ?_
  refine xr_bipush (pc := 1999) dX6_init_1999 xcb_115 ?_
  obtain ⟨hi_, hf⟩ := xo_if hf
  refine yc_cast (pc := 2001) (aArr_T hτ171) hi_ dX6_init_2001 ?_
  obtain ⟨ht172, hf⟩ := xo_if hf
  refine yc_putFRs (pc := 2002) 21 117 2217 ht172 (by decide) (by decide) (by decide) rfl rfl rfl (ty := (.array .char)) (by decide +kernel) rfl q1863 rfl rfl rfl dX6_init_2002 ?_
  exact ok_Jc_X6_init_2005 hf kr
def Jc_X6_init_1772 (x0 : Nat) (τ : CS) : Option CS :=
  xbd (aArr 102 (6 : Int32) τ) fun r157 τ157 =>
  if xin 0 (gN τ157.1 r157) = true then
  if xin 1 (gN τ157.1 r157) = true then
  if xin 2 (gN τ157.1 r157) = true then
  if xin 3 (gN τ157.1 r157) = true then
  if xin 4 (gN τ157.1 r157) = true then
  if xin 5 (gN τ157.1 r157) = true then
  if gT τ157.1 x0 = 21 then
  xbd (aArr 102 (4 : Int32) (vR τ157.1 2210 x0 (some r157), (uA (uA (uA (uA (uA (uA τ157.2 r157 (0 : Int32).toNatClampNeg ((110 : Int32).toUInt32.toUInt16.toUInt32.toInt32)) r157 (1 : Int32).toNatClampNeg ((117 : Int32).toUInt32.toUInt16.toUInt32.toInt32)) r157 (2 : Int32).toNatClampNeg ((109 : Int32).toUInt32.toUInt16.toUInt32.toInt32)) r157 (3 : Int32).toNatClampNeg ((98 : Int32).toUInt32.toUInt16.toUInt32.toInt32)) r157 (4 : Int32).toNatClampNeg ((101 : Int32).toUInt32.toUInt16.toUInt32.toInt32)) r157 (5 : Int32).toNatClampNeg ((114 : Int32).toUInt32.toUInt16.toUInt32.toInt32)))) fun r159 τ159 =>
  if xin 0 (gN τ159.1 r159) = true then
  if xin 1 (gN τ159.1 r159) = true then
  if xin 2 (gN τ159.1 r159) = true then
  if xin 3 (gN τ159.1 r159) = true then
  if gT τ159.1 x0 = 21 then
  xbd (aArr 102 (2 : Int32) (vR τ159.1 2211 x0 (some r159), (uA (uA (uA (uA τ159.2 r159 (0 : Int32).toNatClampNeg ((102 : Int32).toUInt32.toUInt16.toUInt32.toInt32)) r159 (1 : Int32).toNatClampNeg ((114 : Int32).toUInt32.toUInt16.toUInt32.toInt32)) r159 (2 : Int32).toNatClampNeg ((111 : Int32).toUInt32.toUInt16.toUInt32.toInt32)) r159 (3 : Int32).toNatClampNeg ((109 : Int32).toUInt32.toUInt16.toUInt32.toInt32)))) fun r161 τ161 =>
  if xin 0 (gN τ161.1 r161) = true then
  if xin 1 (gN τ161.1 r161) = true then
  if gT τ161.1 x0 = 21 then
  xbd (aArr 102 (4 : Int32) (vR τ161.1 2212 x0 (some r161), (uA (uA τ161.2 r161 (0 : Int32).toNatClampNeg ((116 : Int32).toUInt32.toUInt16.toUInt32.toInt32)) r161 (1 : Int32).toNatClampNeg ((111 : Int32).toUInt32.toUInt16.toUInt32.toInt32)))) fun r163 τ163 =>
  if xin 0 (gN τ163.1 r163) = true then
  if xin 1 (gN τ163.1 r163) = true then
  if xin 2 (gN τ163.1 r163) = true then
  if xin 3 (gN τ163.1 r163) = true then
  if gT τ163.1 x0 = 21 then
  Jc_X6_init_1881 x0 (vR τ163.1 2213 x0 (some r163), (uA (uA (uA (uA τ163.2 r163 (0 : Int32).toNatClampNeg ((112 : Int32).toUInt32.toUInt16.toUInt32.toInt32)) r163 (1 : Int32).toNatClampNeg ((97 : Int32).toUInt32.toUInt16.toUInt32.toInt32)) r163 (2 : Int32).toNatClampNeg ((121 : Int32).toUInt32.toUInt16.toUInt32.toInt32)) r163 (3 : Int32).toNatClampNeg ((115 : Int32).toUInt32.toUInt16.toUInt32.toInt32)))
  else none
  else none
  else none
  else none
  else none
  else none
  else none
  else none
  else none
  else none
  else none
  else none
  else none
  else none
  else none
  else none
  else none
  else none
  else none
  else none
theorem ok_Jc_X6_init_1772 {D : CD} {P : CP} {K : xK} {Z : Option Value × CS} {x0 : Nat} {τ : CS} {o_ : CS} (hf : Jc_X6_init_1772 x0 τ = some o_) (kr : ∀ r_ : CS, o_ = r_ → Z = (none, r_)) : xV (wC D P) K mX6_init (xQ (wC D P) K Z) τ 1772 [(0, .ref x0)] [] := by
  unfold Jc_X6_init_1772 at hf
  refine xr_aload_n (pc := 1772) 0 dX6_init_1772 rfl rfl ?_
  refine xr_bipush (pc := 1773) dX6_init_1773 xcb_6 ?_
  obtain ⟨r157, τ157, hτ157, hf⟩ := xo_bd hf
  refine yc_aArr (pc := 1775) 102 (by decide) (by decide) rfl (Or.inl rfl) (by decide +kernel) (by decide) q701 hτ157 dX6_init_1775 ?_
  refine xr_dup (pc := 1777) dX6_init_1777 rfl ?_
  refine xr_iconst (pc := 1778) dX6_init_1778 xci_0 ?_
  refine xr_bipush (pc := 1779) dX6_init_1779 xcb_110 ?_
  obtain ⟨hi_, hf⟩ := xo_if hf
  refine yc_cast (pc := 1781) (aArr_T hτ157) hi_ dX6_init_1781 ?_
  refine xr_dup (pc := 1782) dX6_init_1782 rfl ?_
  refine xr_iconst (pc := 1783) dX6_init_1783 xci_1 ?_
  refine xr_bipush (pc := 1784) dX6_init_1784 xcb_117 ?_
  obtain ⟨hi_, hf⟩ := xo_if hf
  refine yc_cast (pc := 1786) (aArr_T hτ157) hi_ dX6_init_1786 ?_
  refine xr_dup (pc := 1787) dX6_init_1787 rfl ?_
  refine xr_iconst (pc := 1788) dX6_init_1788 xci_2 ?_
  refine xr_bipush (pc := 1789) dX6_init_1789 xcb_109 ?_
  obtain ⟨hi_, hf⟩ := xo_if hf
  refine yc_cast (pc := 1791) (aArr_T hτ157) hi_ dX6_init_1791 ?_
  refine xr_dup (pc := 1792) dX6_init_1792 rfl ?_
  refine xr_iconst (pc := 1793) dX6_init_1793 xci_3 ?_
  refine xr_bipush (pc := 1794) dX6_init_1794 xcb_98 ?_
  obtain ⟨hi_, hf⟩ := xo_if hf
  refine yc_cast (pc := 1796) (aArr_T hτ157) hi_ dX6_init_1796 ?_
  refine xr_dup (pc := 1797) dX6_init_1797 rfl ?_
  refine xr_iconst (pc := 1798) dX6_init_1798 xci_4 ?_
  refine xr_bipush (pc := 1799) dX6_init_1799 xcb_101 ?_
  obtain ⟨hi_, hf⟩ := xo_if hf
  refine yc_cast (pc := 1801) (aArr_T hτ157) hi_ dX6_init_1801 ?_
  refine xr_dup (pc := 1802) dX6_init_1802 rfl ?_
  refine xr_iconst (pc := 1803) dX6_init_1803 xci_5 ?_
  refine xr_bipush (pc := 1804) dX6_init_1804 xcb_114 ?_
  obtain ⟨hi_, hf⟩ := xo_if hf
  refine yc_cast (pc := 1806) (aArr_T hτ157) hi_ dX6_init_1806 ?_
  obtain ⟨ht158, hf⟩ := xo_if hf
  refine yc_putFRs (pc := 1807) 21 110 2210 ht158 (by decide) (by decide) (by decide) rfl rfl rfl (ty := (.array .char)) (by decide +kernel) rfl q1856 rfl rfl rfl dX6_init_1807 ?_
  refine xr_aload_n (pc := 1810) 0 dX6_init_1810 rfl rfl ?_
  refine xr_iconst (pc := 1811) dX6_init_1811 xci_4 ?_
  obtain ⟨r159, τ159, hτ159, hf⟩ := xo_bd hf
  refine yc_aArr (pc := 1812) 102 (by decide) (by decide) rfl (Or.inl rfl) (by decide +kernel) (by decide) q701 hτ159 dX6_init_1812 ?_
  refine xr_dup (pc := 1814) dX6_init_1814 rfl ?_
  refine xr_iconst (pc := 1815) dX6_init_1815 xci_0 ?_
  refine xr_bipush (pc := 1816) dX6_init_1816 xcb_102 ?_
  obtain ⟨hi_, hf⟩ := xo_if hf
  refine yc_cast (pc := 1818) (aArr_T hτ159) hi_ dX6_init_1818 ?_
  refine xr_dup (pc := 1819) dX6_init_1819 rfl ?_
  refine xr_iconst (pc := 1820) dX6_init_1820 xci_1 ?_
  refine xr_bipush (pc := 1821) dX6_init_1821 xcb_114 ?_
  obtain ⟨hi_, hf⟩ := xo_if hf
  refine yc_cast (pc := 1823) (aArr_T hτ159) hi_ dX6_init_1823 ?_
  refine xr_dup (pc := 1824) dX6_init_1824 rfl ?_
  refine xr_iconst (pc := 1825) dX6_init_1825 xci_2 ?_
  refine xr_bipush (pc := 1826) dX6_init_1826 xcb_111 ?_
  obtain ⟨hi_, hf⟩ := xo_if hf
  refine yc_cast (pc := 1828) (aArr_T hτ159) hi_ dX6_init_1828 ?_
  refine xr_dup (pc := 1829) dX6_init_1829 rfl ?_
  refine xr_iconst (pc := 1830) dX6_init_1830 xci_3 ?_
  refine xr_bipush (pc := 1831) dX6_init_1831 xcb_109 ?_
  obtain ⟨hi_, hf⟩ := xo_if hf
  refine yc_cast (pc := 1833) (aArr_T hτ159) hi_ dX6_init_1833 ?_
  obtain ⟨ht160, hf⟩ := xo_if hf
  refine yc_putFRs (pc := 1834) 21 111 2211 ht160 (by decide) (by decide) (by decide) rfl rfl rfl (ty := (.array .char)) (by decide +kernel) rfl q1857 rfl rfl rfl dX6_init_1834 ?_
  refine xr_aload_n (pc := 1837) 0 dX6_init_1837 rfl rfl ?_
  refine xr_iconst (pc := 1838) dX6_init_1838 xci_2 ?_
  obtain ⟨r161, τ161, hτ161, hf⟩ := xo_bd hf
  refine yc_aArr (pc := 1839) 102 (by decide) (by decide) rfl (Or.inl rfl) (by decide +kernel) (by decide) q701 hτ161 dX6_init_1839 ?_
  refine xr_dup (pc := 1841) dX6_init_1841 rfl ?_
  refine xr_iconst (pc := 1842) dX6_init_1842 xci_0 ?_
  refine xr_bipush (pc := 1843) dX6_init_1843 xcb_116 ?_
  obtain ⟨hi_, hf⟩ := xo_if hf
  refine yc_cast (pc := 1845) (aArr_T hτ161) hi_ dX6_init_1845 ?_
  refine xr_dup (pc := 1846) dX6_init_1846 rfl ?_
  refine xr_iconst (pc := 1847) dX6_init_1847 xci_1 ?_
  refine xr_bipush (pc := 1848) dX6_init_1848 xcb_111 ?_
  obtain ⟨hi_, hf⟩ := xo_if hf
  refine yc_cast (pc := 1850) (aArr_T hτ161) hi_ dX6_init_1850 ?_
  obtain ⟨ht162, hf⟩ := xo_if hf
  refine yc_putFRs (pc := 1851) 21 112 2212 ht162 (by decide) (by decide) (by decide) rfl rfl rfl (ty := (.array .char)) (by decide +kernel) rfl q1858 rfl rfl rfl dX6_init_1851 ?_
  refine xr_aload_n (pc := 1854) 0 dX6_init_1854 rfl rfl ?_
  refine xr_iconst (pc := 1855) dX6_init_1855 xci_4 ?_
  obtain ⟨r163, τ163, hτ163, hf⟩ := xo_bd hf
  refine yc_aArr (pc := 1856) 102 (by decide) (by decide) rfl (Or.inl rfl) (by decide +kernel) (by decide) q701 hτ163 dX6_init_1856 ?_
  refine xr_dup (pc := 1858) dX6_init_1858 rfl ?_
  refine xr_iconst (pc := 1859) dX6_init_1859 xci_0 ?_
  refine xr_bipush (pc := 1860) dX6_init_1860 xcb_112 ?_
  obtain ⟨hi_, hf⟩ := xo_if hf
  refine yc_cast (pc := 1862) (aArr_T hτ163) hi_ dX6_init_1862 ?_
  refine xr_dup (pc := 1863) dX6_init_1863 rfl ?_
  refine xr_iconst (pc := 1864) dX6_init_1864 xci_1 ?_
  refine xr_bipush (pc := 1865) dX6_init_1865 xcb_97 ?_
  obtain ⟨hi_, hf⟩ := xo_if hf
  refine yc_cast (pc := 1867) (aArr_T hτ163) hi_ dX6_init_1867 ?_
  refine xr_dup (pc := 1868) dX6_init_1868 rfl ?_
  refine xr_iconst (pc := 1869) dX6_init_1869 xci_2 ?_
  refine xr_bipush (pc := 1870) dX6_init_1870 xcb_121 ?_
  obtain ⟨hi_, hf⟩ := xo_if hf
  refine yc_cast (pc := 1872) (aArr_T hτ163) hi_ dX6_init_1872 ?_
  refine xr_dup (pc := 1873) dX6_init_1873 rfl ?_
  refine xr_iconst (pc := 1874) dX6_init_1874 xci_3 ?_
  refine xr_bipush (pc := 1875) dX6_init_1875 xcb_115 ?_
  obtain ⟨hi_, hf⟩ := xo_if hf
  refine yc_cast (pc := 1877) (aArr_T hτ163) hi_ dX6_init_1877 ?_
  obtain ⟨ht164, hf⟩ := xo_if hf
  refine yc_putFRs (pc := 1878) 21 113 2213 ht164 (by decide) (by decide) (by decide) rfl rfl rfl (ty := (.array .char)) (by decide +kernel) rfl q1859 rfl rfl rfl dX6_init_1878 ?_
  exact ok_Jc_X6_init_1881 hf kr
def Jc_X6_init_1647 (x0 : Nat) (τ : CS) : Option CS :=
  xbd (aArr 102 (3 : Int32) τ) fun r149 τ149 =>
  if xin 0 (gN τ149.1 r149) = true then
  if xin 1 (gN τ149.1 r149) = true then
  if xin 2 (gN τ149.1 r149) = true then
  if gT τ149.1 x0 = 21 then
  xbd (aArr 102 (4 : Int32) (vR τ149.1 2206 x0 (some r149), (uA (uA (uA τ149.2 r149 (0 : Int32).toNatClampNeg ((112 : Int32).toUInt32.toUInt16.toUInt32.toInt32)) r149 (1 : Int32).toNatClampNeg ((97 : Int32).toUInt32.toUInt16.toUInt32.toInt32)) r149 (2 : Int32).toNatClampNeg ((121 : Int32).toUInt32.toUInt16.toUInt32.toInt32)))) fun r151 τ151 =>
  if xin 0 (gN τ151.1 r151) = true then
  if xin 1 (gN τ151.1 r151) = true then
  if xin 2 (gN τ151.1 r151) = true then
  if xin 3 (gN τ151.1 r151) = true then
  if gT τ151.1 x0 = 21 then
  xbd (aArr 102 (6 : Int32) (vR τ151.1 2207 x0 (some r151), (uA (uA (uA (uA τ151.2 r151 (0 : Int32).toNatClampNeg ((101 : Int32).toUInt32.toUInt16.toUInt32.toInt32)) r151 (1 : Int32).toNatClampNeg ((118 : Int32).toUInt32.toUInt16.toUInt32.toInt32)) r151 (2 : Int32).toNatClampNeg ((101 : Int32).toUInt32.toUInt16.toUInt32.toInt32)) r151 (3 : Int32).toNatClampNeg ((114 : Int32).toUInt32.toUInt16.toUInt32.toInt32)))) fun r153 τ153 =>
  if xin 0 (gN τ153.1 r153) = true then
  if xin 1 (gN τ153.1 r153) = true then
  if xin 2 (gN τ153.1 r153) = true then
  if xin 3 (gN τ153.1 r153) = true then
  if xin 4 (gN τ153.1 r153) = true then
  if xin 5 (gN τ153.1 r153) = true then
  if gT τ153.1 x0 = 21 then
  xbd (aArr 102 (6 : Int32) (vR τ153.1 2208 x0 (some r153), (uA (uA (uA (uA (uA (uA τ153.2 r153 (0 : Int32).toNatClampNeg ((98 : Int32).toUInt32.toUInt16.toUInt32.toInt32)) r153 (1 : Int32).toNatClampNeg ((101 : Int32).toUInt32.toUInt16.toUInt32.toInt32)) r153 (2 : Int32).toNatClampNeg ((102 : Int32).toUInt32.toUInt16.toUInt32.toInt32)) r153 (3 : Int32).toNatClampNeg ((111 : Int32).toUInt32.toUInt16.toUInt32.toInt32)) r153 (4 : Int32).toNatClampNeg ((114 : Int32).toUInt32.toUInt16.toUInt32.toInt32)) r153 (5 : Int32).toNatClampNeg ((101 : Int32).toUInt32.toUInt16.toUInt32.toInt32)))) fun r155 τ155 =>
  if xin 0 (gN τ155.1 r155) = true then
  if xin 1 (gN τ155.1 r155) = true then
  if xin 2 (gN τ155.1 r155) = true then
  if xin 3 (gN τ155.1 r155) = true then
  if xin 4 (gN τ155.1 r155) = true then
  if xin 5 (gN τ155.1 r155) = true then
  if gT τ155.1 x0 = 21 then
  Jc_X6_init_1772 x0 (vR τ155.1 2209 x0 (some r155), (uA (uA (uA (uA (uA (uA τ155.2 r155 (0 : Int32).toNatClampNeg ((98 : Int32).toUInt32.toUInt16.toUInt32.toInt32)) r155 (1 : Int32).toNatClampNeg ((101 : Int32).toUInt32.toUInt16.toUInt32.toInt32)) r155 (2 : Int32).toNatClampNeg ((104 : Int32).toUInt32.toUInt16.toUInt32.toInt32)) r155 (3 : Int32).toNatClampNeg ((105 : Int32).toUInt32.toUInt16.toUInt32.toInt32)) r155 (4 : Int32).toNatClampNeg ((110 : Int32).toUInt32.toUInt16.toUInt32.toInt32)) r155 (5 : Int32).toNatClampNeg ((100 : Int32).toUInt32.toUInt16.toUInt32.toInt32)))
  else none
  else none
  else none
  else none
  else none
  else none
  else none
  else none
  else none
  else none
  else none
  else none
  else none
  else none
  else none
  else none
  else none
  else none
  else none
  else none
  else none
  else none
  else none
theorem ok_Jc_X6_init_1647 {D : CD} {P : CP} {K : xK} {Z : Option Value × CS} {x0 : Nat} {τ : CS} {o_ : CS} (hf : Jc_X6_init_1647 x0 τ = some o_) (kr : ∀ r_ : CS, o_ = r_ → Z = (none, r_)) : xV (wC D P) K mX6_init (xQ (wC D P) K Z) τ 1647 [(0, .ref x0)] [] := by
  unfold Jc_X6_init_1647 at hf
  refine xr_aload_n (pc := 1647) 0 dX6_init_1647 rfl rfl ?_
  refine xr_iconst (pc := 1648) dX6_init_1648 xci_3 ?_
  obtain ⟨r149, τ149, hτ149, hf⟩ := xo_bd hf
  refine yc_aArr (pc := 1649) 102 (by decide) (by decide) rfl (Or.inl rfl) (by decide +kernel) (by decide) q701 hτ149 dX6_init_1649 ?_
  refine xr_dup (pc := 1651) dX6_init_1651 rfl ?_
  refine xr_iconst (pc := 1652) dX6_init_1652 xci_0 ?_
  refine xr_bipush (pc := 1653) dX6_init_1653 xcb_112 ?_
  obtain ⟨hi_, hf⟩ := xo_if hf
  refine yc_cast (pc := 1655) (aArr_T hτ149) hi_ dX6_init_1655 ?_
  refine xr_dup (pc := 1656) dX6_init_1656 rfl ?_
  refine xr_iconst (pc := 1657) dX6_init_1657 xci_1 ?_
  refine xr_bipush (pc := 1658) dX6_init_1658 xcb_97 ?_
  obtain ⟨hi_, hf⟩ := xo_if hf
  refine yc_cast (pc := 1660) (aArr_T hτ149) hi_ dX6_init_1660 ?_
  refine xr_dup (pc := 1661) dX6_init_1661 rfl ?_
  refine xr_iconst (pc := 1662) dX6_init_1662 xci_2 ?_
  refine xr_bipush (pc := 1663) dX6_init_1663 xcb_121 ?_
  obtain ⟨hi_, hf⟩ := xo_if hf
  refine yc_cast (pc := 1665) (aArr_T hτ149) hi_ dX6_init_1665 ?_
  obtain ⟨ht150, hf⟩ := xo_if hf
  refine yc_putFRs (pc := 1666) 21 106 2206 ht150 (by decide) (by decide) (by decide) rfl rfl rfl (ty := (.array .char)) (by decide +kernel) rfl q1852 rfl rfl rfl dX6_init_1666 ?_
  refine xr_aload_n (pc := 1669) 0 dX6_init_1669 rfl rfl ?_
  refine xr_iconst (pc := 1670) dX6_init_1670 xci_4 ?_
  obtain ⟨r151, τ151, hτ151, hf⟩ := xo_bd hf
  refine yc_aArr (pc := 1671) 102 (by decide) (by decide) rfl (Or.inl rfl) (by decide +kernel) (by decide) q701 hτ151 dX6_init_1671 ?_
  refine xr_dup (pc := 1673) dX6_init_1673 rfl ?_
  refine xr_iconst (pc := 1674) dX6_init_1674 xci_0 ?_
  refine xr_bipush (pc := 1675) dX6_init_1675 xcb_101 ?_
  obtain ⟨hi_, hf⟩ := xo_if hf
  refine yc_cast (pc := 1677) (aArr_T hτ151) hi_ dX6_init_1677 ?_
  refine xr_dup (pc := 1678) dX6_init_1678 rfl ?_
  refine xr_iconst (pc := 1679) dX6_init_1679 xci_1 ?_
  refine xr_bipush (pc := 1680) dX6_init_1680 xcb_118 ?_
  obtain ⟨hi_, hf⟩ := xo_if hf
  refine yc_cast (pc := 1682) (aArr_T hτ151) hi_ dX6_init_1682 ?_
  refine xr_dup (pc := 1683) dX6_init_1683 rfl ?_
  refine xr_iconst (pc := 1684) dX6_init_1684 xci_2 ?_
  refine xr_bipush (pc := 1685) dX6_init_1685 xcb_101 ?_
  obtain ⟨hi_, hf⟩ := xo_if hf
  refine yc_cast (pc := 1687) (aArr_T hτ151) hi_ dX6_init_1687 ?_
  refine xr_dup (pc := 1688) dX6_init_1688 rfl ?_
  refine xr_iconst (pc := 1689) dX6_init_1689 xci_3 ?_
  refine xr_bipush (pc := 1690) dX6_init_1690 xcb_114 ?_
  obtain ⟨hi_, hf⟩ := xo_if hf
  refine yc_cast (pc := 1692) (aArr_T hτ151) hi_ dX6_init_1692 ?_
  obtain ⟨ht152, hf⟩ := xo_if hf
  refine yc_putFRs (pc := 1693) 21 107 2207 ht152 (by decide) (by decide) (by decide) rfl rfl rfl (ty := (.array .char)) (by decide +kernel) rfl q1853 rfl rfl rfl dX6_init_1693 ?_
  refine xr_aload_n (pc := 1696) 0 dX6_init_1696 rfl rfl ?_
  refine xr_bipush (pc := 1697) dX6_init_1697 xcb_6 ?_
  obtain ⟨r153, τ153, hτ153, hf⟩ := xo_bd hf
  refine yc_aArr (pc := 1699) 102 (by decide) (by decide) rfl (Or.inl rfl) (by decide +kernel) (by decide) q701 hτ153 dX6_init_1699 ?_
  refine xr_dup (pc := 1701) dX6_init_1701 rfl ?_
  refine xr_iconst (pc := 1702) dX6_init_1702 xci_0 ?_
  refine xr_bipush (pc := 1703) dX6_init_1703 xcb_98 ?_
  obtain ⟨hi_, hf⟩ := xo_if hf
  refine yc_cast (pc := 1705) (aArr_T hτ153) hi_ dX6_init_1705 ?_
  refine xr_dup (pc := 1706) dX6_init_1706 rfl ?_
  refine xr_iconst (pc := 1707) dX6_init_1707 xci_1 ?_
  refine xr_bipush (pc := 1708) dX6_init_1708 xcb_101 ?_
  obtain ⟨hi_, hf⟩ := xo_if hf
  refine yc_cast (pc := 1710) (aArr_T hτ153) hi_ dX6_init_1710 ?_
  refine xr_dup (pc := 1711) dX6_init_1711 rfl ?_
  refine xr_iconst (pc := 1712) dX6_init_1712 xci_2 ?_
  refine xr_bipush (pc := 1713) dX6_init_1713 xcb_102 ?_
  obtain ⟨hi_, hf⟩ := xo_if hf
  refine yc_cast (pc := 1715) (aArr_T hτ153) hi_ dX6_init_1715 ?_
  refine xr_dup (pc := 1716) dX6_init_1716 rfl ?_
  refine xr_iconst (pc := 1717) dX6_init_1717 xci_3 ?_
  refine xr_bipush (pc := 1718) dX6_init_1718 xcb_111 ?_
  obtain ⟨hi_, hf⟩ := xo_if hf
  refine yc_cast (pc := 1720) (aArr_T hτ153) hi_ dX6_init_1720 ?_
  refine xr_dup (pc := 1721) dX6_init_1721 rfl ?_
  refine xr_iconst (pc := 1722) dX6_init_1722 xci_4 ?_
  refine xr_bipush (pc := 1723) dX6_init_1723 xcb_114 ?_
  obtain ⟨hi_, hf⟩ := xo_if hf
  refine yc_cast (pc := 1725) (aArr_T hτ153) hi_ dX6_init_1725 ?_
  refine xr_dup (pc := 1726) dX6_init_1726 rfl ?_
  refine xr_iconst (pc := 1727) dX6_init_1727 xci_5 ?_
  refine xr_bipush (pc := 1728) dX6_init_1728 xcb_101 ?_
  obtain ⟨hi_, hf⟩ := xo_if hf
  refine yc_cast (pc := 1730) (aArr_T hτ153) hi_ dX6_init_1730 ?_
  obtain ⟨ht154, hf⟩ := xo_if hf
  refine yc_putFRs (pc := 1731) 21 108 2208 ht154 (by decide) (by decide) (by decide) rfl rfl rfl (ty := (.array .char)) (by decide +kernel) rfl q1854 rfl rfl rfl dX6_init_1731 ?_
  refine xr_aload_n (pc := 1734) 0 dX6_init_1734 rfl rfl ?_
  refine xr_bipush (pc := 1735) dX6_init_1735 xcb_6 ?_
  obtain ⟨r155, τ155, hτ155, hf⟩ := xo_bd hf
  refine yc_aArr (pc := 1737) 102 (by decide) (by decide) rfl (Or.inl rfl) (by decide +kernel) (by decide) q701 hτ155 dX6_init_1737 ?_
  refine xr_dup (pc := 1739) dX6_init_1739 rfl ?_
  refine xr_iconst (pc := 1740) dX6_init_1740 xci_0 ?_
  refine xr_bipush (pc := 1741) dX6_init_1741 xcb_98 ?_
  obtain ⟨hi_, hf⟩ := xo_if hf
  refine yc_cast (pc := 1743) (aArr_T hτ155) hi_ dX6_init_1743 ?_
  refine xr_dup (pc := 1744) dX6_init_1744 rfl ?_
  refine xr_iconst (pc := 1745) dX6_init_1745 xci_1 ?_
  refine xr_bipush (pc := 1746) dX6_init_1746 xcb_101 ?_
  obtain ⟨hi_, hf⟩ := xo_if hf
  refine yc_cast (pc := 1748) (aArr_T hτ155) hi_ dX6_init_1748 ?_
  refine xr_dup (pc := 1749) dX6_init_1749 rfl ?_
  refine xr_iconst (pc := 1750) dX6_init_1750 xci_2 ?_
  refine xr_bipush (pc := 1751) dX6_init_1751 xcb_104 ?_
  obtain ⟨hi_, hf⟩ := xo_if hf
  refine yc_cast (pc := 1753) (aArr_T hτ155) hi_ dX6_init_1753 ?_
  refine xr_dup (pc := 1754) dX6_init_1754 rfl ?_
  refine xr_iconst (pc := 1755) dX6_init_1755 xci_3 ?_
  refine xr_bipush (pc := 1756) dX6_init_1756 xcb_105 ?_
  obtain ⟨hi_, hf⟩ := xo_if hf
  refine yc_cast (pc := 1758) (aArr_T hτ155) hi_ dX6_init_1758 ?_
  refine xr_dup (pc := 1759) dX6_init_1759 rfl ?_
  refine xr_iconst (pc := 1760) dX6_init_1760 xci_4 ?_
  refine xr_bipush (pc := 1761) dX6_init_1761 xcb_110 ?_
  obtain ⟨hi_, hf⟩ := xo_if hf
  refine yc_cast (pc := 1763) (aArr_T hτ155) hi_ dX6_init_1763 ?_
  refine xr_dup (pc := 1764) dX6_init_1764 rfl ?_
  refine xr_iconst (pc := 1765) dX6_init_1765 xci_5 ?_
  refine xr_bipush (pc := 1766) dX6_init_1766 xcb_100 ?_
  obtain ⟨hi_, hf⟩ := xo_if hf
  refine yc_cast (pc := 1768) (aArr_T hτ155) hi_ dX6_init_1768 ?_
  obtain ⟨ht156, hf⟩ := xo_if hf
  refine yc_putFRs (pc := 1769) 21 109 2209 ht156 (by decide) (by decide) (by decide) rfl rfl rfl (ty := (.array .char)) (by decide +kernel) rfl q1855 rfl rfl rfl dX6_init_1769 ?_
  exact ok_Jc_X6_init_1772 hf kr
def Jc_X6_init_1523 (x0 : Nat) (τ : CS) : Option CS :=
  xbd (aArr 102 (4 : Int32) τ) fun r141 τ141 =>
  if xin 0 (gN τ141.1 r141) = true then
  if xin 1 (gN τ141.1 r141) = true then
  if xin 2 (gN τ141.1 r141) = true then
  if xin 3 (gN τ141.1 r141) = true then
  if gT τ141.1 x0 = 21 then
  xbd (aArr 102 (6 : Int32) (vR τ141.1 2202 x0 (some r141), (uA (uA (uA (uA τ141.2 r141 (0 : Int32).toNatClampNeg ((116 : Int32).toUInt32.toUInt16.toUInt32.toInt32)) r141 (1 : Int32).toNatClampNeg ((117 : Int32).toUInt32.toUInt16.toUInt32.toInt32)) r141 (2 : Int32).toNatClampNeg ((114 : Int32).toUInt32.toUInt16.toUInt32.toInt32)) r141 (3 : Int32).toNatClampNeg ((110 : Int32).toUInt32.toUInt16.toUInt32.toInt32)))) fun r143 τ143 =>
  if xin 0 (gN τ143.1 r143) = true then
  if xin 1 (gN τ143.1 r143) = true then
  if xin 2 (gN τ143.1 r143) = true then
  if xin 3 (gN τ143.1 r143) = true then
  if xin 4 (gN τ143.1 r143) = true then
  if xin 5 (gN τ143.1 r143) = true then
  if gT τ143.1 x0 = 21 then
  xbd (aArr 102 (4 : Int32) (vR τ143.1 2203 x0 (some r143), (uA (uA (uA (uA (uA (uA τ143.2 r143 (0 : Int32).toNatClampNeg ((115 : Int32).toUInt32.toUInt16.toUInt32.toInt32)) r143 (1 : Int32).toNatClampNeg ((101 : Int32).toUInt32.toUInt16.toUInt32.toInt32)) r143 (2 : Int32).toNatClampNeg ((97 : Int32).toUInt32.toUInt16.toUInt32.toInt32)) r143 (3 : Int32).toNatClampNeg ((115 : Int32).toUInt32.toUInt16.toUInt32.toInt32)) r143 (4 : Int32).toNatClampNeg ((111 : Int32).toUInt32.toUInt16.toUInt32.toInt32)) r143 (5 : Int32).toNatClampNeg ((110 : Int32).toUInt32.toUInt16.toUInt32.toInt32)))) fun r145 τ145 =>
  if xin 0 (gN τ145.1 r145) = true then
  if xin 1 (gN τ145.1 r145) = true then
  if xin 2 (gN τ145.1 r145) = true then
  if xin 3 (gN τ145.1 r145) = true then
  if gT τ145.1 x0 = 21 then
  xbd (aArr 102 (5 : Int32) (vR τ145.1 2204 x0 (some r145), (uA (uA (uA (uA τ145.2 r145 (0 : Int32).toNatClampNeg ((115 : Int32).toUInt32.toUInt16.toUInt32.toInt32)) r145 (1 : Int32).toNatClampNeg ((111 : Int32).toUInt32.toUInt16.toUInt32.toInt32)) r145 (2 : Int32).toNatClampNeg ((105 : Int32).toUInt32.toUInt16.toUInt32.toInt32)) r145 (3 : Int32).toNatClampNeg ((108 : Int32).toUInt32.toUInt16.toUInt32.toInt32)))) fun r147 τ147 =>
  if xin 0 (gN τ147.1 r147) = true then
  if xin 1 (gN τ147.1 r147) = true then
  if xin 2 (gN τ147.1 r147) = true then
  if xin 3 (gN τ147.1 r147) = true then
  if xin 4 (gN τ147.1 r147) = true then
  if gT τ147.1 x0 = 21 then
  Jc_X6_init_1647 x0 (vR τ147.1 2205 x0 (some r147), (uA (uA (uA (uA (uA τ147.2 r147 (0 : Int32).toNatClampNeg ((114 : Int32).toUInt32.toUInt16.toUInt32.toInt32)) r147 (1 : Int32).toNatClampNeg ((111 : Int32).toUInt32.toUInt16.toUInt32.toInt32)) r147 (2 : Int32).toNatClampNeg ((111 : Int32).toUInt32.toUInt16.toUInt32.toInt32)) r147 (3 : Int32).toNatClampNeg ((116 : Int32).toUInt32.toUInt16.toUInt32.toInt32)) r147 (4 : Int32).toNatClampNeg ((115 : Int32).toUInt32.toUInt16.toUInt32.toInt32)))
  else none
  else none
  else none
  else none
  else none
  else none
  else none
  else none
  else none
  else none
  else none
  else none
  else none
  else none
  else none
  else none
  else none
  else none
  else none
  else none
  else none
  else none
  else none
theorem ok_Jc_X6_init_1523 {D : CD} {P : CP} {K : xK} {Z : Option Value × CS} {x0 : Nat} {τ : CS} {o_ : CS} (hf : Jc_X6_init_1523 x0 τ = some o_) (kr : ∀ r_ : CS, o_ = r_ → Z = (none, r_)) : xV (wC D P) K mX6_init (xQ (wC D P) K Z) τ 1523 [(0, .ref x0)] [] := by
  unfold Jc_X6_init_1523 at hf
  refine xr_aload_n (pc := 1523) 0 dX6_init_1523 rfl rfl ?_
  refine xr_iconst (pc := 1524) dX6_init_1524 xci_4 ?_
  obtain ⟨r141, τ141, hτ141, hf⟩ := xo_bd hf
  refine yc_aArr (pc := 1525) 102 (by decide) (by decide) rfl (Or.inl rfl) (by decide +kernel) (by decide) q701 hτ141 dX6_init_1525 ?_
  refine xr_dup (pc := 1527) dX6_init_1527 rfl ?_
  refine xr_iconst (pc := 1528) dX6_init_1528 xci_0 ?_
  refine xr_bipush (pc := 1529) dX6_init_1529 xcb_116 ?_
  obtain ⟨hi_, hf⟩ := xo_if hf
  refine yc_cast (pc := 1531) (aArr_T hτ141) hi_ dX6_init_1531 ?_
  refine xr_dup (pc := 1532) dX6_init_1532 rfl ?_
  refine xr_iconst (pc := 1533) dX6_init_1533 xci_1 ?_
  refine xr_bipush (pc := 1534) dX6_init_1534 xcb_117 ?_
  obtain ⟨hi_, hf⟩ := xo_if hf
  refine yc_cast (pc := 1536) (aArr_T hτ141) hi_ dX6_init_1536 ?_
  refine xr_dup (pc := 1537) dX6_init_1537 rfl ?_
  refine xr_iconst (pc := 1538) dX6_init_1538 xci_2 ?_
  refine xr_bipush (pc := 1539) dX6_init_1539 xcb_114 ?_
  obtain ⟨hi_, hf⟩ := xo_if hf
  refine yc_cast (pc := 1541) (aArr_T hτ141) hi_ dX6_init_1541 ?_
  refine xr_dup (pc := 1542) dX6_init_1542 rfl ?_
  refine xr_iconst (pc := 1543) dX6_init_1543 xci_3 ?_
  refine xr_bipush (pc := 1544) dX6_init_1544 xcb_110 ?_
  obtain ⟨hi_, hf⟩ := xo_if hf
  refine yc_cast (pc := 1546) (aArr_T hτ141) hi_ dX6_init_1546 ?_
  obtain ⟨ht142, hf⟩ := xo_if hf
  refine yc_putFRs (pc := 1547) 21 102 2202 ht142 (by decide) (by decide) (by decide) rfl rfl rfl (ty := (.array .char)) (by decide +kernel) rfl q1848 rfl rfl rfl dX6_init_1547 ?_
  refine xr_aload_n (pc := 1550) 0 dX6_init_1550 rfl rfl ?_
  refine xr_bipush (pc := 1551) dX6_init_1551 xcb_6 ?_
  obtain ⟨r143, τ143, hτ143, hf⟩ := xo_bd hf
  refine yc_aArr (pc := 1553) 102 (by decide) (by decide) rfl (Or.inl rfl) (by decide +kernel) (by decide) q701 hτ143 dX6_init_1553 ?_
  refine xr_dup (pc := 1555) dX6_init_1555 rfl ?_
  refine xr_iconst (pc := 1556) dX6_init_1556 xci_0 ?_
  refine xr_bipush (pc := 1557) dX6_init_1557 xcb_115 ?_
  obtain ⟨hi_, hf⟩ := xo_if hf
  refine yc_cast (pc := 1559) (aArr_T hτ143) hi_ dX6_init_1559 ?_
  refine xr_dup (pc := 1560) dX6_init_1560 rfl ?_
  refine xr_iconst (pc := 1561) dX6_init_1561 xci_1 ?_
  refine xr_bipush (pc := 1562) dX6_init_1562 xcb_101 ?_
  obtain ⟨hi_, hf⟩ := xo_if hf
  refine yc_cast (pc := 1564) (aArr_T hτ143) hi_ dX6_init_1564 ?_
  refine xr_dup (pc := 1565) dX6_init_1565 rfl ?_
  refine xr_iconst (pc := 1566) dX6_init_1566 xci_2 ?_
  refine xr_bipush (pc := 1567) dX6_init_1567 xcb_97 ?_
  obtain ⟨hi_, hf⟩ := xo_if hf
  refine yc_cast (pc := 1569) (aArr_T hτ143) hi_ dX6_init_1569 ?_
  refine xr_dup (pc := 1570) dX6_init_1570 rfl ?_
  refine xr_iconst (pc := 1571) dX6_init_1571 xci_3 ?_
  refine xr_bipush (pc := 1572) dX6_init_1572 xcb_115 ?_
  obtain ⟨hi_, hf⟩ := xo_if hf
  refine yc_cast (pc := 1574) (aArr_T hτ143) hi_ dX6_init_1574 ?_
  refine xr_dup (pc := 1575) dX6_init_1575 rfl ?_
  refine xr_iconst (pc := 1576) dX6_init_1576 xci_4 ?_
  refine xr_bipush (pc := 1577) dX6_init_1577 xcb_111 ?_
  obtain ⟨hi_, hf⟩ := xo_if hf
  refine yc_cast (pc := 1579) (aArr_T hτ143) hi_ dX6_init_1579 ?_
  refine xr_dup (pc := 1580) dX6_init_1580 rfl ?_
  refine xr_iconst (pc := 1581) dX6_init_1581 xci_5 ?_
  refine xr_bipush (pc := 1582) dX6_init_1582 xcb_110 ?_
  obtain ⟨hi_, hf⟩ := xo_if hf
  refine yc_cast (pc := 1584) (aArr_T hτ143) hi_ dX6_init_1584 ?_
  obtain ⟨ht144, hf⟩ := xo_if hf
  refine yc_putFRs (pc := 1585) 21 103 2203 ht144 (by decide) (by decide) (by decide) rfl rfl rfl (ty := (.array .char)) (by decide +kernel) rfl q1849 rfl rfl rfl dX6_init_1585 ?_
  refine xr_aload_n (pc := 1588) 0 dX6_init_1588 rfl rfl ?_
  refine xr_iconst (pc := 1589) dX6_init_1589 xci_4 ?_
  obtain ⟨r145, τ145, hτ145, hf⟩ := xo_bd hf
  refine yc_aArr (pc := 1590) 102 (by decide) (by decide) rfl (Or.inl rfl) (by decide +kernel) (by decide) q701 hτ145 dX6_init_1590 ?_
  refine xr_dup (pc := 1592) dX6_init_1592 rfl ?_
  refine xr_iconst (pc := 1593) dX6_init_1593 xci_0 ?_
  refine xr_bipush (pc := 1594) dX6_init_1594 xcb_115 ?_
  obtain ⟨hi_, hf⟩ := xo_if hf
  refine yc_cast (pc := 1596) (aArr_T hτ145) hi_ dX6_init_1596 ?_
  refine xr_dup (pc := 1597) dX6_init_1597 rfl ?_
  refine xr_iconst (pc := 1598) dX6_init_1598 xci_1 ?_
  refine xr_bipush (pc := 1599) dX6_init_1599 xcb_111 ?_
  obtain ⟨hi_, hf⟩ := xo_if hf
  refine yc_cast (pc := 1601) (aArr_T hτ145) hi_ dX6_init_1601 ?_
  refine xr_dup (pc := 1602) dX6_init_1602 rfl ?_
  refine xr_iconst (pc := 1603) dX6_init_1603 xci_2 ?_
  refine xr_bipush (pc := 1604) dX6_init_1604 xcb_105 ?_
  obtain ⟨hi_, hf⟩ := xo_if hf
  refine yc_cast (pc := 1606) (aArr_T hτ145) hi_ dX6_init_1606 ?_
  refine xr_dup (pc := 1607) dX6_init_1607 rfl ?_
  refine xr_iconst (pc := 1608) dX6_init_1608 xci_3 ?_
  refine xr_bipush (pc := 1609) dX6_init_1609 xcb_108 ?_
  obtain ⟨hi_, hf⟩ := xo_if hf
  refine yc_cast (pc := 1611) (aArr_T hτ145) hi_ dX6_init_1611 ?_
  obtain ⟨ht146, hf⟩ := xo_if hf
  refine yc_putFRs (pc := 1612) 21 104 2204 ht146 (by decide) (by decide) (by decide) rfl rfl rfl (ty := (.array .char)) (by decide +kernel) rfl q1850 rfl rfl rfl dX6_init_1612 ?_
  refine xr_aload_n (pc := 1615) 0 dX6_init_1615 rfl rfl ?_
  refine xr_iconst (pc := 1616) dX6_init_1616 xci_5 ?_
  obtain ⟨r147, τ147, hτ147, hf⟩ := xo_bd hf
  refine yc_aArr (pc := 1617) 102 (by decide) (by decide) rfl (Or.inl rfl) (by decide +kernel) (by decide) q701 hτ147 dX6_init_1617 ?_
  refine xr_dup (pc := 1619) dX6_init_1619 rfl ?_
  refine xr_iconst (pc := 1620) dX6_init_1620 xci_0 ?_
  refine xr_bipush (pc := 1621) dX6_init_1621 xcb_114 ?_
  obtain ⟨hi_, hf⟩ := xo_if hf
  refine yc_cast (pc := 1623) (aArr_T hτ147) hi_ dX6_init_1623 ?_
  refine xr_dup (pc := 1624) dX6_init_1624 rfl ?_
  refine xr_iconst (pc := 1625) dX6_init_1625 xci_1 ?_
  refine xr_bipush (pc := 1626) dX6_init_1626 xcb_111 ?_
  obtain ⟨hi_, hf⟩ := xo_if hf
  refine yc_cast (pc := 1628) (aArr_T hτ147) hi_ dX6_init_1628 ?_
  refine xr_dup (pc := 1629) dX6_init_1629 rfl ?_
  refine xr_iconst (pc := 1630) dX6_init_1630 xci_2 ?_
  refine xr_bipush (pc := 1631) dX6_init_1631 xcb_111 ?_
  obtain ⟨hi_, hf⟩ := xo_if hf
  refine yc_cast (pc := 1633) (aArr_T hτ147) hi_ dX6_init_1633 ?_
  refine xr_dup (pc := 1634) dX6_init_1634 rfl ?_
  refine xr_iconst (pc := 1635) dX6_init_1635 xci_3 ?_
  refine xr_bipush (pc := 1636) dX6_init_1636 xcb_116 ?_
  obtain ⟨hi_, hf⟩ := xo_if hf
  refine yc_cast (pc := 1638) (aArr_T hτ147) hi_ dX6_init_1638 ?_
  refine xr_dup (pc := 1639) dX6_init_1639 rfl ?_
  refine xr_iconst (pc := 1640) dX6_init_1640 xci_4 ?_
  refine xr_bipush (pc := 1641) dX6_init_1641 xcb_115 ?_
  obtain ⟨hi_, hf⟩ := xo_if hf
  refine yc_cast (pc := 1643) (aArr_T hτ147) hi_ dX6_init_1643 ?_
  obtain ⟨ht148, hf⟩ := xo_if hf
  refine yc_putFRs (pc := 1644) 21 105 2205 ht148 (by decide) (by decide) (by decide) rfl rfl rfl (ty := (.array .char)) (by decide +kernel) rfl q1851 rfl rfl rfl dX6_init_1644 ?_
  exact ok_Jc_X6_init_1647 hf kr
def Jc_X6_init_1419 (x0 : Nat) (τ : CS) : Option CS :=
  xbd (aArr 102 (3 : Int32) τ) fun r133 τ133 =>
  if xin 0 (gN τ133.1 r133) = true then
  if xin 1 (gN τ133.1 r133) = true then
  if xin 2 (gN τ133.1 r133) = true then
  if gT τ133.1 x0 = 21 then
  xbd (aArr 102 (3 : Int32) (vR τ133.1 2198 x0 (some r133), (uA (uA (uA τ133.2 r133 (0 : Int32).toNatClampNeg ((109 : Int32).toUInt32.toUInt16.toUInt32.toInt32)) r133 (1 : Int32).toNatClampNeg ((105 : Int32).toUInt32.toUInt16.toUInt32.toInt32)) r133 (2 : Int32).toNatClampNeg ((110 : Int32).toUInt32.toUInt16.toUInt32.toInt32)))) fun r135 τ135 =>
  if xin 0 (gN τ135.1 r135) = true then
  if xin 1 (gN τ135.1 r135) = true then
  if xin 2 (gN τ135.1 r135) = true then
  if gT τ135.1 x0 = 21 then
  xbd (aArr 102 (6 : Int32) (vR τ135.1 2199 x0 (some r135), (uA (uA (uA τ135.2 r135 (0 : Int32).toNatClampNeg ((109 : Int32).toUInt32.toUInt16.toUInt32.toInt32)) r135 (1 : Int32).toNatClampNeg ((97 : Int32).toUInt32.toUInt16.toUInt32.toInt32)) r135 (2 : Int32).toNatClampNeg ((120 : Int32).toUInt32.toUInt16.toUInt32.toInt32)))) fun r137 τ137 =>
  if xin 0 (gN τ137.1 r137) = true then
  if xin 1 (gN τ137.1 r137) = true then
  if xin 2 (gN τ137.1 r137) = true then
  if xin 3 (gN τ137.1 r137) = true then
  if xin 4 (gN τ137.1 r137) = true then
  if xin 5 (gN τ137.1 r137) = true then
  if gT τ137.1 x0 = 21 then
  xbd (aArr 102 (3 : Int32) (vR τ137.1 2200 x0 (some r137), (uA (uA (uA (uA (uA (uA τ137.2 r137 (0 : Int32).toNatClampNeg ((99 : Int32).toUInt32.toUInt16.toUInt32.toInt32)) r137 (1 : Int32).toNatClampNeg ((111 : Int32).toUInt32.toUInt16.toUInt32.toInt32)) r137 (2 : Int32).toNatClampNeg ((108 : Int32).toUInt32.toUInt16.toUInt32.toInt32)) r137 (3 : Int32).toNatClampNeg ((117 : Int32).toUInt32.toUInt16.toUInt32.toInt32)) r137 (4 : Int32).toNatClampNeg ((109 : Int32).toUInt32.toUInt16.toUInt32.toInt32)) r137 (5 : Int32).toNatClampNeg ((110 : Int32).toUInt32.toUInt16.toUInt32.toInt32)))) fun r139 τ139 =>
  if xin 0 (gN τ139.1 r139) = true then
  if xin 1 (gN τ139.1 r139) = true then
  if xin 2 (gN τ139.1 r139) = true then
  if gT τ139.1 x0 = 21 then
  Jc_X6_init_1523 x0 (vR τ139.1 2201 x0 (some r139), (uA (uA (uA τ139.2 r139 (0 : Int32).toNatClampNeg ((114 : Int32).toUInt32.toUInt16.toUInt32.toInt32)) r139 (1 : Int32).toNatClampNeg ((111 : Int32).toUInt32.toUInt16.toUInt32.toInt32)) r139 (2 : Int32).toNatClampNeg ((119 : Int32).toUInt32.toUInt16.toUInt32.toInt32)))
  else none
  else none
  else none
  else none
  else none
  else none
  else none
  else none
  else none
  else none
  else none
  else none
  else none
  else none
  else none
  else none
  else none
  else none
  else none
theorem ok_Jc_X6_init_1419 {D : CD} {P : CP} {K : xK} {Z : Option Value × CS} {x0 : Nat} {τ : CS} {o_ : CS} (hf : Jc_X6_init_1419 x0 τ = some o_) (kr : ∀ r_ : CS, o_ = r_ → Z = (none, r_)) : xV (wC D P) K mX6_init (xQ (wC D P) K Z) τ 1419 [(0, .ref x0)] [] := by
  unfold Jc_X6_init_1419 at hf
  refine xr_aload_n (pc := 1419) 0 dX6_init_1419 rfl rfl ?_
  refine xr_iconst (pc := 1420) dX6_init_1420 xci_3 ?_
  obtain ⟨r133, τ133, hτ133, hf⟩ := xo_bd hf
  refine yc_aArr (pc := 1421) 102 (by decide) (by decide) rfl (Or.inl rfl) (by decide +kernel) (by decide) q701 hτ133 dX6_init_1421 ?_
  refine xr_dup (pc := 1423) dX6_init_1423 rfl ?_
  refine xr_iconst (pc := 1424) dX6_init_1424 xci_0 ?_
  refine xr_bipush (pc := 1425) dX6_init_1425 xcb_109 ?_
  obtain ⟨hi_, hf⟩ := xo_if hf
  refine yc_cast (pc := 1427) (aArr_T hτ133) hi_ dX6_init_1427 ?_
  refine xr_dup (pc := 1428) dX6_init_1428 rfl ?_
  refine xr_iconst (pc := 1429) dX6_init_1429 xci_1 ?_
  refine xr_bipush (pc := 1430) dX6_init_1430 xcb_105 ?_
  obtain ⟨hi_, hf⟩ := xo_if hf
  refine yc_cast (pc := 1432) (aArr_T hτ133) hi_ dX6_init_1432 ?_
  refine xr_dup (pc := 1433) dX6_init_1433 rfl ?_
  refine xr_iconst (pc := 1434) dX6_init_1434 xci_2 ?_
  refine xr_bipush (pc := 1435) dX6_init_1435 xcb_110 ?_
  obtain ⟨hi_, hf⟩ := xo_if hf
  refine yc_cast (pc := 1437) (aArr_T hτ133) hi_ dX6_init_1437 ?_
  obtain ⟨ht134, hf⟩ := xo_if hf
  refine yc_putFRs (pc := 1438) 21 98 2198 ht134 (by decide) (by decide) (by decide) rfl rfl rfl (ty := (.array .char)) (by decide +kernel) rfl q1844 rfl rfl rfl dX6_init_1438 ?_
  refine xr_aload_n (pc := 1441) 0 dX6_init_1441 rfl rfl ?_
  refine xr_iconst (pc := 1442) dX6_init_1442 xci_3 ?_
  obtain ⟨r135, τ135, hτ135, hf⟩ := xo_bd hf
  refine yc_aArr (pc := 1443) 102 (by decide) (by decide) rfl (Or.inl rfl) (by decide +kernel) (by decide) q701 hτ135 dX6_init_1443 ?_
  refine xr_dup (pc := 1445) dX6_init_1445 rfl ?_
  refine xr_iconst (pc := 1446) dX6_init_1446 xci_0 ?_
  refine xr_bipush (pc := 1447) dX6_init_1447 xcb_109 ?_
  obtain ⟨hi_, hf⟩ := xo_if hf
  refine yc_cast (pc := 1449) (aArr_T hτ135) hi_ dX6_init_1449 ?_
  refine xr_dup (pc := 1450) dX6_init_1450 rfl ?_
  refine xr_iconst (pc := 1451) dX6_init_1451 xci_1 ?_
  refine xr_bipush (pc := 1452) dX6_init_1452 xcb_97 ?_
  obtain ⟨hi_, hf⟩ := xo_if hf
  refine yc_cast (pc := 1454) (aArr_T hτ135) hi_ dX6_init_1454 ?_
  refine xr_dup (pc := 1455) dX6_init_1455 rfl ?_
  refine xr_iconst (pc := 1456) dX6_init_1456 xci_2 ?_
  refine xr_bipush (pc := 1457) dX6_init_1457 xcb_120 ?_
  obtain ⟨hi_, hf⟩ := xo_if hf
  refine yc_cast (pc := 1459) (aArr_T hτ135) hi_ dX6_init_1459 ?_
  obtain ⟨ht136, hf⟩ := xo_if hf
  refine yc_putFRs (pc := 1460) 21 99 2199 ht136 (by decide) (by decide) (by decide) rfl rfl rfl (ty := (.array .char)) (by decide +kernel) rfl q1845 rfl rfl rfl dX6_init_1460 ?_
  refine xr_aload_n (pc := 1463) 0 dX6_init_1463 rfl rfl ?_
  refine xr_bipush (pc := 1464) dX6_init_1464 xcb_6 ?_
  obtain ⟨r137, τ137, hτ137, hf⟩ := xo_bd hf
  refine yc_aArr (pc := 1466) 102 (by decide) (by decide) rfl (Or.inl rfl) (by decide +kernel) (by decide) q701 hτ137 dX6_init_1466 ?_
  refine xr_dup (pc := 1468) dX6_init_1468 rfl ?_
  refine xr_iconst (pc := 1469) dX6_init_1469 xci_0 ?_
  refine xr_bipush (pc := 1470) dX6_init_1470 xcb_99 ?_
  obtain ⟨hi_, hf⟩ := xo_if hf
  refine yc_cast (pc := 1472) (aArr_T hτ137) hi_ dX6_init_1472 ?_
  refine xr_dup (pc := 1473) dX6_init_1473 rfl ?_
  refine xr_iconst (pc := 1474) dX6_init_1474 xci_1 ?_
  refine xr_bipush (pc := 1475) dX6_init_1475 xcb_111 ?_
  obtain ⟨hi_, hf⟩ := xo_if hf
  refine yc_cast (pc := 1477) (aArr_T hτ137) hi_ dX6_init_1477 ?_
  refine xr_dup (pc := 1478) dX6_init_1478 rfl ?_
  refine xr_iconst (pc := 1479) dX6_init_1479 xci_2 ?_
  refine xr_bipush (pc := 1480) dX6_init_1480 xcb_108 ?_
  obtain ⟨hi_, hf⟩ := xo_if hf
  refine yc_cast (pc := 1482) (aArr_T hτ137) hi_ dX6_init_1482 ?_
  refine xr_dup (pc := 1483) dX6_init_1483 rfl ?_
  refine xr_iconst (pc := 1484) dX6_init_1484 xci_3 ?_
  refine xr_bipush (pc := 1485) dX6_init_1485 xcb_117 ?_
  obtain ⟨hi_, hf⟩ := xo_if hf
  refine yc_cast (pc := 1487) (aArr_T hτ137) hi_ dX6_init_1487 ?_
  refine xr_dup (pc := 1488) dX6_init_1488 rfl ?_
  refine xr_iconst (pc := 1489) dX6_init_1489 xci_4 ?_
  refine xr_bipush (pc := 1490) dX6_init_1490 xcb_109 ?_
  obtain ⟨hi_, hf⟩ := xo_if hf
  refine yc_cast (pc := 1492) (aArr_T hτ137) hi_ dX6_init_1492 ?_
  refine xr_dup (pc := 1493) dX6_init_1493 rfl ?_
  refine xr_iconst (pc := 1494) dX6_init_1494 xci_5 ?_
  refine xr_bipush (pc := 1495) dX6_init_1495 xcb_110 ?_
  obtain ⟨hi_, hf⟩ := xo_if hf
  refine yc_cast (pc := 1497) (aArr_T hτ137) hi_ dX6_init_1497 ?_
  obtain ⟨ht138, hf⟩ := xo_if hf
  refine yc_putFRs (pc := 1498) 21 100 2200 ht138 (by decide) (by decide) (by decide) rfl rfl rfl (ty := (.array .char)) (by decide +kernel) rfl q1846 rfl rfl rfl dX6_init_1498 ?_
  refine xr_aload_n (pc := 1501) 0 dX6_init_1501 rfl rfl ?_
  refine xr_iconst (pc := 1502) dX6_init_1502 xci_3 ?_
  obtain ⟨r139, τ139, hτ139, hf⟩ := xo_bd hf
  refine yc_aArr (pc := 1503) 102 (by decide) (by decide) rfl (Or.inl rfl) (by decide +kernel) (by decide) q701 hτ139 dX6_init_1503 ?_
  refine xr_dup (pc := 1505) dX6_init_1505 rfl ?_
  refine xr_iconst (pc := 1506) dX6_init_1506 xci_0 ?_
  refine xr_bipush (pc := 1507) dX6_init_1507 xcb_114 ?_
  obtain ⟨hi_, hf⟩ := xo_if hf
  refine yc_cast (pc := 1509) (aArr_T hτ139) hi_ dX6_init_1509 ?_
  refine xr_dup (pc := 1510) dX6_init_1510 rfl ?_
  refine xr_iconst (pc := 1511) dX6_init_1511 xci_1 ?_
  refine xr_bipush (pc := 1512) dX6_init_1512 xcb_111 ?_
  obtain ⟨hi_, hf⟩ := xo_if hf
  refine yc_cast (pc := 1514) (aArr_T hτ139) hi_ dX6_init_1514 ?_
  refine xr_dup (pc := 1515) dX6_init_1515 rfl ?_
  refine xr_iconst (pc := 1516) dX6_init_1516 xci_2 ?_
  refine xr_bipush (pc := 1517) dX6_init_1517 xcb_119 ?_
  obtain ⟨hi_, hf⟩ := xo_if hf
  refine yc_cast (pc := 1519) (aArr_T hτ139) hi_ dX6_init_1519 ?_
  obtain ⟨ht140, hf⟩ := xo_if hf
  refine yc_putFRs (pc := 1520) 21 101 2201 ht140 (by decide) (by decide) (by decide) rfl rfl rfl (ty := (.array .char)) (by decide +kernel) rfl q1847 rfl rfl rfl dX6_init_1520 ?_
  exact ok_Jc_X6_init_1523 hf kr
def Jc_X6_init_1336 (x0 : Nat) (τ : CS) : Option CS :=
  xbd (aArr 102 (3 : Int32) τ) fun r125 τ125 =>
  if xin 0 (gN τ125.1 r125) = true then
  if xin 1 (gN τ125.1 r125) = true then
  if xin 2 (gN τ125.1 r125) = true then
  if gT τ125.1 x0 = 21 then
  xbd (aArr 102 (3 : Int32) (vR τ125.1 2194 x0 (some r125), (uA (uA (uA τ125.2 r125 (0 : Int32).toNatClampNeg ((110 : Int32).toUInt32.toUInt16.toUInt32.toInt32)) r125 (1 : Int32).toNatClampNeg ((111 : Int32).toUInt32.toUInt16.toUInt32.toInt32)) r125 (2 : Int32).toNatClampNeg ((116 : Int32).toUInt32.toUInt16.toUInt32.toInt32)))) fun r127 τ127 =>
  if xin 0 (gN τ127.1 r127) = true then
  if xin 1 (gN τ127.1 r127) = true then
  if xin 2 (gN τ127.1 r127) = true then
  if gT τ127.1 x0 = 21 then
  xbd (aArr 102 (2 : Int32) (vR τ127.1 2195 x0 (some r127), (uA (uA (uA τ127.2 r127 (0 : Int32).toNatClampNeg ((97 : Int32).toUInt32.toUInt16.toUInt32.toInt32)) r127 (1 : Int32).toNatClampNeg ((110 : Int32).toUInt32.toUInt16.toUInt32.toInt32)) r127 (2 : Int32).toNatClampNeg ((100 : Int32).toUInt32.toUInt16.toUInt32.toInt32)))) fun r129 τ129 =>
  if xin 0 (gN τ129.1 r129) = true then
  if xin 1 (gN τ129.1 r129) = true then
  if gT τ129.1 x0 = 21 then
  xbd (aArr 102 (3 : Int32) (vR τ129.1 2196 x0 (some r129), (uA (uA τ129.2 r129 (0 : Int32).toNatClampNeg ((111 : Int32).toUInt32.toUInt16.toUInt32.toInt32)) r129 (1 : Int32).toNatClampNeg ((114 : Int32).toUInt32.toUInt16.toUInt32.toInt32)))) fun r131 τ131 =>
  if xin 0 (gN τ131.1 r131) = true then
  if xin 1 (gN τ131.1 r131) = true then
  if xin 2 (gN τ131.1 r131) = true then
  if gT τ131.1 x0 = 21 then
  Jc_X6_init_1419 x0 (vR τ131.1 2197 x0 (some r131), (uA (uA (uA τ131.2 r131 (0 : Int32).toNatClampNeg ((97 : Int32).toUInt32.toUInt16.toUInt32.toInt32)) r131 (1 : Int32).toNatClampNeg ((108 : Int32).toUInt32.toUInt16.toUInt32.toInt32)) r131 (2 : Int32).toNatClampNeg ((108 : Int32).toUInt32.toUInt16.toUInt32.toInt32)))
  else none
  else none
  else none
  else none
  else none
  else none
  else none
  else none
  else none
  else none
  else none
  else none
  else none
  else none
  else none
theorem ok_Jc_X6_init_1336 {D : CD} {P : CP} {K : xK} {Z : Option Value × CS} {x0 : Nat} {τ : CS} {o_ : CS} (hf : Jc_X6_init_1336 x0 τ = some o_) (kr : ∀ r_ : CS, o_ = r_ → Z = (none, r_)) : xV (wC D P) K mX6_init (xQ (wC D P) K Z) τ 1336 [(0, .ref x0)] [] := by
  unfold Jc_X6_init_1336 at hf
  refine xr_aload_n (pc := 1336) 0 dX6_init_1336 rfl rfl ?_
  refine xr_iconst (pc := 1337) dX6_init_1337 xci_3 ?_
  obtain ⟨r125, τ125, hτ125, hf⟩ := xo_bd hf
  refine yc_aArr (pc := 1338) 102 (by decide) (by decide) rfl (Or.inl rfl) (by decide +kernel) (by decide) q701 hτ125 dX6_init_1338 ?_
  refine xr_dup (pc := 1340) dX6_init_1340 rfl ?_
  refine xr_iconst (pc := 1341) dX6_init_1341 xci_0 ?_
  refine xr_bipush (pc := 1342) dX6_init_1342 xcb_110 ?_
  obtain ⟨hi_, hf⟩ := xo_if hf
  refine yc_cast (pc := 1344) (aArr_T hτ125) hi_ dX6_init_1344 ?_
  refine xr_dup (pc := 1345) dX6_init_1345 rfl ?_
  refine xr_iconst (pc := 1346) dX6_init_1346 xci_1 ?_
  refine xr_bipush (pc := 1347) dX6_init_1347 xcb_111 ?_
  obtain ⟨hi_, hf⟩ := xo_if hf
  refine yc_cast (pc := 1349) (aArr_T hτ125) hi_ dX6_init_1349 ?_
  refine xr_dup (pc := 1350) dX6_init_1350 rfl ?_
  refine xr_iconst (pc := 1351) dX6_init_1351 xci_2 ?_
  refine xr_bipush (pc := 1352) dX6_init_1352 xcb_116 ?_
  obtain ⟨hi_, hf⟩ := xo_if hf
  refine yc_cast (pc := 1354) (aArr_T hτ125) hi_ dX6_init_1354 ?_
  obtain ⟨ht126, hf⟩ := xo_if hf
  refine yc_putFRs (pc := 1355) 21 94 2194 ht126 (by decide) (by decide) (by decide) rfl rfl rfl (ty := (.array .char)) (by decide +kernel) rfl q1840 rfl rfl rfl dX6_init_1355 ?_
  refine xr_aload_n (pc := 1358) 0 dX6_init_1358 rfl rfl ?_
  refine xr_iconst (pc := 1359) dX6_init_1359 xci_3 ?_
  obtain ⟨r127, τ127, hτ127, hf⟩ := xo_bd hf
  refine yc_aArr (pc := 1360) 102 (by decide) (by decide) rfl (Or.inl rfl) (by decide +kernel) (by decide) q701 hτ127 dX6_init_1360 ?_
  refine xr_dup (pc := 1362) dX6_init_1362 rfl ?_
  refine xr_iconst (pc := 1363) dX6_init_1363 xci_0 ?_
  refine xr_bipush (pc := 1364) dX6_init_1364 xcb_97 ?_
  obtain ⟨hi_, hf⟩ := xo_if hf
  refine yc_cast (pc := 1366) (aArr_T hτ127) hi_ dX6_init_1366 ?_
  refine xr_dup (pc := 1367) dX6_init_1367 rfl ?_
  refine xr_iconst (pc := 1368) dX6_init_1368 xci_1 ?_
  refine xr_bipush (pc := 1369) dX6_init_1369 xcb_110 ?_
  obtain ⟨hi_, hf⟩ := xo_if hf
  refine yc_cast (pc := 1371) (aArr_T hτ127) hi_ dX6_init_1371 ?_
  refine xr_dup (pc := 1372) dX6_init_1372 rfl ?_
  refine xr_iconst (pc := 1373) dX6_init_1373 xci_2 ?_
  refine xr_bipush (pc := 1374) dX6_init_1374 xcb_100 ?_
  obtain ⟨hi_, hf⟩ := xo_if hf
  refine yc_cast (pc := 1376) (aArr_T hτ127) hi_ dX6_init_1376 ?_
  obtain ⟨ht128, hf⟩ := xo_if hf
  refine yc_putFRs (pc := 1377) 21 95 2195 ht128 (by decide) (by decide) (by decide) rfl rfl rfl (ty := (.array .char)) (by decide +kernel) rfl q1841 rfl rfl rfl dX6_init_1377 ?_
  refine xr_aload_n (pc := 1380) 0 dX6_init_1380 rfl rfl ?_
  refine xr_iconst (pc := 1381) dX6_init_1381 xci_2 ?_
  obtain ⟨r129, τ129, hτ129, hf⟩ := xo_bd hf
  refine yc_aArr (pc := 1382) 102 (by decide) (by decide) rfl (Or.inl rfl) (by decide +kernel) (by decide) q701 hτ129 dX6_init_1382 ?_
  refine xr_dup (pc := 1384) dX6_init_1384 rfl ?_
  refine xr_iconst (pc := 1385) dX6_init_1385 xci_0 ?_
  refine xr_bipush (pc := 1386) dX6_init_1386 xcb_111 ?_
  obtain ⟨hi_, hf⟩ := xo_if hf
  refine yc_cast (pc := 1388) (aArr_T hτ129) hi_ dX6_init_1388 ?_
  refine xr_dup (pc := 1389) dX6_init_1389 rfl ?_
  refine xr_iconst (pc := 1390) dX6_init_1390 xci_1 ?_
  refine xr_bipush (pc := 1391) dX6_init_1391 xcb_114 ?_
  obtain ⟨hi_, hf⟩ := xo_if hf
  refine yc_cast (pc := 1393) (aArr_T hτ129) hi_ dX6_init_1393 ?_
  obtain ⟨ht130, hf⟩ := xo_if hf
  refine yc_putFRs (pc := 1394) 21 96 2196 ht130 (by decide) (by decide) (by decide) rfl rfl rfl (ty := (.array .char)) (by decide +kernel) rfl q1842 rfl rfl rfl dX6_init_1394 ?_
  refine xr_aload_n (pc := 1397) 0 dX6_init_1397 rfl rfl ?_
  refine xr_iconst (pc := 1398) dX6_init_1398 xci_3 ?_
  obtain ⟨r131, τ131, hτ131, hf⟩ := xo_bd hf
  refine yc_aArr (pc := 1399) 102 (by decide) (by decide) rfl (Or.inl rfl) (by decide +kernel) (by decide) q701 hτ131 dX6_init_1399 ?_
  refine xr_dup (pc := 1401) dX6_init_1401 rfl ?_
  refine xr_iconst (pc := 1402) dX6_init_1402 xci_0 ?_
  refine xr_bipush (pc := 1403) dX6_init_1403 xcb_97 ?_
  obtain ⟨hi_, hf⟩ := xo_if hf
  refine yc_cast (pc := 1405) (aArr_T hτ131) hi_ dX6_init_1405 ?_
  refine xr_dup (pc := 1406) dX6_init_1406 rfl ?_
  refine xr_iconst (pc := 1407) dX6_init_1407 xci_1 ?_
  refine xr_bipush (pc := 1408) dX6_init_1408 xcb_108 ?_
  obtain ⟨hi_, hf⟩ := xo_if hf
  refine yc_cast (pc := 1410) (aArr_T hτ131) hi_ dX6_init_1410 ?_
  refine xr_dup (pc := 1411) dX6_init_1411 rfl ?_
  refine xr_iconst (pc := 1412) dX6_init_1412 xci_2 ?_
  refine xr_bipush (pc := 1413) dX6_init_1413 xcb_108 ?_
  obtain ⟨hi_, hf⟩ := xo_if hf
  refine yc_cast (pc := 1415) (aArr_T hτ131) hi_ dX6_init_1415 ?_
  obtain ⟨ht132, hf⟩ := xo_if hf
  refine yc_putFRs (pc := 1416) 21 97 2197 ht132 (by decide) (by decide) (by decide) rfl rfl rfl (ty := (.array .char)) (by decide +kernel) rfl q1843 rfl rfl rfl dX6_init_1416 ?_
  exact ok_Jc_X6_init_1419 hf kr
def Jc_X6_init_1213 (x0 : Nat) (τ : CS) : Option CS :=
  xbd (aArr 102 (5 : Int32) τ) fun r117 τ117 =>
  if xin 0 (gN τ117.1 r117) = true then
  if xin 1 (gN τ117.1 r117) = true then
  if xin 2 (gN τ117.1 r117) = true then
  if xin 3 (gN τ117.1 r117) = true then
  if xin 4 (gN τ117.1 r117) = true then
  if gT τ117.1 x0 = 21 then
  xbd (aArr 102 (5 : Int32) (vR τ117.1 2190 x0 (some r117), (uA (uA (uA (uA (uA τ117.2 r117 (0 : Int32).toNatClampNeg ((111 : Int32).toUInt32.toUInt16.toUInt32.toInt32)) r117 (1 : Int32).toNatClampNeg ((102 : Int32).toUInt32.toUInt16.toUInt32.toInt32)) r117 (2 : Int32).toNatClampNeg ((116 : Int32).toUInt32.toUInt16.toUInt32.toInt32)) r117 (3 : Int32).toNatClampNeg ((101 : Int32).toUInt32.toUInt16.toUInt32.toInt32)) r117 (4 : Int32).toNatClampNeg ((110 : Int32).toUInt32.toUInt16.toUInt32.toInt32)))) fun r119 τ119 =>
  if xin 0 (gN τ119.1 r119) = true then
  if xin 1 (gN τ119.1 r119) = true then
  if xin 2 (gN τ119.1 r119) = true then
  if xin 3 (gN τ119.1 r119) = true then
  if xin 4 (gN τ119.1 r119) = true then
  if gT τ119.1 x0 = 21 then
  xbd (aArr 102 (4 : Int32) (vR τ119.1 2191 x0 (some r119), (uA (uA (uA (uA (uA τ119.2 r119 (0 : Int32).toNatClampNeg ((116 : Int32).toUInt32.toUInt16.toUInt32.toInt32)) r119 (1 : Int32).toNatClampNeg ((111 : Int32).toUInt32.toUInt16.toUInt32.toInt32)) r119 (2 : Int32).toNatClampNeg ((116 : Int32).toUInt32.toUInt16.toUInt32.toInt32)) r119 (3 : Int32).toNatClampNeg ((97 : Int32).toUInt32.toUInt16.toUInt32.toInt32)) r119 (4 : Int32).toNatClampNeg ((108 : Int32).toUInt32.toUInt16.toUInt32.toInt32)))) fun r121 τ121 =>
  if xin 0 (gN τ121.1 r121) = true then
  if xin 1 (gN τ121.1 r121) = true then
  if xin 2 (gN τ121.1 r121) = true then
  if xin 3 (gN τ121.1 r121) = true then
  if gT τ121.1 x0 = 21 then
  xbd (aArr 102 (5 : Int32) (vR τ121.1 2192 x0 (some r121), (uA (uA (uA (uA τ121.2 r121 (0 : Int32).toNatClampNeg ((109 : Int32).toUInt32.toUInt16.toUInt32.toInt32)) r121 (1 : Int32).toNatClampNeg ((111 : Int32).toUInt32.toUInt16.toUInt32.toInt32)) r121 (2 : Int32).toNatClampNeg ((115 : Int32).toUInt32.toUInt16.toUInt32.toInt32)) r121 (3 : Int32).toNatClampNeg ((116 : Int32).toUInt32.toUInt16.toUInt32.toInt32)))) fun r123 τ123 =>
  if xin 0 (gN τ123.1 r123) = true then
  if xin 1 (gN τ123.1 r123) = true then
  if xin 2 (gN τ123.1 r123) = true then
  if xin 3 (gN τ123.1 r123) = true then
  if xin 4 (gN τ123.1 r123) = true then
  if gT τ123.1 x0 = 21 then
  Jc_X6_init_1336 x0 (vR τ123.1 2193 x0 (some r123), (uA (uA (uA (uA (uA τ123.2 r123 (0 : Int32).toNatClampNeg ((108 : Int32).toUInt32.toUInt16.toUInt32.toInt32)) r123 (1 : Int32).toNatClampNeg ((101 : Int32).toUInt32.toUInt16.toUInt32.toInt32)) r123 (2 : Int32).toNatClampNeg ((97 : Int32).toUInt32.toUInt16.toUInt32.toInt32)) r123 (3 : Int32).toNatClampNeg ((115 : Int32).toUInt32.toUInt16.toUInt32.toInt32)) r123 (4 : Int32).toNatClampNeg ((116 : Int32).toUInt32.toUInt16.toUInt32.toInt32)))
  else none
  else none
  else none
  else none
  else none
  else none
  else none
  else none
  else none
  else none
  else none
  else none
  else none
  else none
  else none
  else none
  else none
  else none
  else none
  else none
  else none
  else none
  else none
theorem ok_Jc_X6_init_1213 {D : CD} {P : CP} {K : xK} {Z : Option Value × CS} {x0 : Nat} {τ : CS} {o_ : CS} (hf : Jc_X6_init_1213 x0 τ = some o_) (kr : ∀ r_ : CS, o_ = r_ → Z = (none, r_)) : xV (wC D P) K mX6_init (xQ (wC D P) K Z) τ 1213 [(0, .ref x0)] [] := by
  unfold Jc_X6_init_1213 at hf
  refine xr_aload_n (pc := 1213) 0 dX6_init_1213 rfl rfl ?_
  refine xr_iconst (pc := 1214) dX6_init_1214 xci_5 ?_
  obtain ⟨r117, τ117, hτ117, hf⟩ := xo_bd hf
  refine yc_aArr (pc := 1215) 102 (by decide) (by decide) rfl (Or.inl rfl) (by decide +kernel) (by decide) q701 hτ117 dX6_init_1215 ?_
  refine xr_dup (pc := 1217) dX6_init_1217 rfl ?_
  refine xr_iconst (pc := 1218) dX6_init_1218 xci_0 ?_
  refine xr_bipush (pc := 1219) dX6_init_1219 xcb_111 ?_
  obtain ⟨hi_, hf⟩ := xo_if hf
  refine yc_cast (pc := 1221) (aArr_T hτ117) hi_ dX6_init_1221 ?_
  refine xr_dup (pc := 1222) dX6_init_1222 rfl ?_
  refine xr_iconst (pc := 1223) dX6_init_1223 xci_1 ?_
  refine xr_bipush (pc := 1224) dX6_init_1224 xcb_102 ?_
  obtain ⟨hi_, hf⟩ := xo_if hf
  refine yc_cast (pc := 1226) (aArr_T hτ117) hi_ dX6_init_1226 ?_
  refine xr_dup (pc := 1227) dX6_init_1227 rfl ?_
  refine xr_iconst (pc := 1228) dX6_init_1228 xci_2 ?_
  refine xr_bipush (pc := 1229) dX6_init_1229 xcb_116 ?_
  obtain ⟨hi_, hf⟩ := xo_if hf
  refine yc_cast (pc := 1231) (aArr_T hτ117) hi_ dX6_init_1231 ?_
  refine xr_dup (pc := 1232) dX6_init_1232 rfl ?_
  refine xr_iconst (pc := 1233) dX6_init_1233 xci_3 ?_
  refine xr_bipush (pc := 1234) dX6_init_1234 xcb_101 ?_
  obtain ⟨hi_, hf⟩ := xo_if hf
  refine yc_cast (pc := 1236) (aArr_T hτ117) hi_ dX6_init_1236 ?_
  refine xr_dup (pc := 1237) dX6_init_1237 rfl ?_
  refine xr_iconst (pc := 1238) dX6_init_1238 xci_4 ?_
  refine xr_bipush (pc := 1239) dX6_init_1239 xcb_110 ?_
  obtain ⟨hi_, hf⟩ := xo_if hf
  refine yc_cast (pc := 1241) (aArr_T hτ117) hi_ dX6_init_1241 ?_
  obtain ⟨ht118, hf⟩ := xo_if hf
  refine yc_putFRs (pc := 1242) 21 90 2190 ht118 (by decide) (by decide) (by decide) rfl rfl rfl (ty := (.array .char)) (by decide +kernel) rfl q1836 rfl rfl rfl dX6_init_1242 ?_
  refine xr_aload_n (pc := 1245) 0 dX6_init_1245 rfl rfl ?_
  refine xr_iconst (pc := 1246) dX6_init_1246 xci_5 ?_
  obtain ⟨r119, τ119, hτ119, hf⟩ := xo_bd hf
  refine yc_aArr (pc := 1247) 102 (by decide) (by decide) rfl (Or.inl rfl) (by decide +kernel) (by decide) q701 hτ119 dX6_init_1247 ?_
  refine xr_dup (pc := 1249) dX6_init_1249 rfl ?_
  refine xr_iconst (pc := 1250) dX6_init_1250 xci_0 ?_
  refine xr_bipush (pc := 1251) dX6_init_1251 xcb_116 ?_
  obtain ⟨hi_, hf⟩ := xo_if hf
  refine yc_cast (pc := 1253) (aArr_T hτ119) hi_ dX6_init_1253 ?_
  refine xr_dup (pc := 1254) dX6_init_1254 rfl ?_
  refine xr_iconst (pc := 1255) dX6_init_1255 xci_1 ?_
  refine xr_bipush (pc := 1256) dX6_init_1256 xcb_111 ?_
  obtain ⟨hi_, hf⟩ := xo_if hf
  refine yc_cast (pc := 1258) (aArr_T hτ119) hi_ dX6_init_1258 ?_
  refine xr_dup (pc := 1259) dX6_init_1259 rfl ?_
  refine xr_iconst (pc := 1260) dX6_init_1260 xci_2 ?_
  refine xr_bipush (pc := 1261) dX6_init_1261 xcb_116 ?_
  obtain ⟨hi_, hf⟩ := xo_if hf
  refine yc_cast (pc := 1263) (aArr_T hτ119) hi_ dX6_init_1263 ?_
  refine xr_dup (pc := 1264) dX6_init_1264 rfl ?_
  refine xr_iconst (pc := 1265) dX6_init_1265 xci_3 ?_
  refine xr_bipush (pc := 1266) dX6_init_1266 xcb_97 ?_
  obtain ⟨hi_, hf⟩ := xo_if hf
  refine yc_cast (pc := 1268) (aArr_T hτ119) hi_ dX6_init_1268 ?_
  refine xr_dup (pc := 1269) dX6_init_1269 rfl ?_
  refine xr_iconst (pc := 1270) dX6_init_1270 xci_4 ?_
  refine xr_bipush (pc := 1271) dX6_init_1271 xcb_108 ?_
  obtain ⟨hi_, hf⟩ := xo_if hf
  refine yc_cast (pc := 1273) (aArr_T hτ119) hi_ dX6_init_1273 ?_
  obtain ⟨ht120, hf⟩ := xo_if hf
  refine yc_putFRs (pc := 1274) 21 91 2191 ht120 (by decide) (by decide) (by decide) rfl rfl rfl (ty := (.array .char)) (by decide +kernel) rfl q1837 rfl rfl rfl dX6_init_1274 ?_
  refine xr_aload_n (pc := 1277) 0 dX6_init_1277 rfl rfl ?_
  refine xr_iconst (pc := 1278) dX6_init_1278 xci_4 ?_
  obtain ⟨r121, τ121, hτ121, hf⟩ := xo_bd hf
  refine yc_aArr (pc := 1279) 102 (by decide) (by decide) rfl (Or.inl rfl) (by decide +kernel) (by decide) q701 hτ121 dX6_init_1279 ?_
  refine xr_dup (pc := 1281) dX6_init_1281 rfl ?_
  refine xr_iconst (pc := 1282) dX6_init_1282 xci_0 ?_
  refine xr_bipush (pc := 1283) dX6_init_1283 xcb_109 ?_
  obtain ⟨hi_, hf⟩ := xo_if hf
  refine yc_cast (pc := 1285) (aArr_T hτ121) hi_ dX6_init_1285 ?_
  refine xr_dup (pc := 1286) dX6_init_1286 rfl ?_
  refine xr_iconst (pc := 1287) dX6_init_1287 xci_1 ?_
  refine xr_bipush (pc := 1288) dX6_init_1288 xcb_111 ?_
  obtain ⟨hi_, hf⟩ := xo_if hf
  refine yc_cast (pc := 1290) (aArr_T hτ121) hi_ dX6_init_1290 ?_
  refine xr_dup (pc := 1291) dX6_init_1291 rfl ?_
  refine xr_iconst (pc := 1292) dX6_init_1292 xci_2 ?_
  refine xr_bipush (pc := 1293) dX6_init_1293 xcb_115 ?_
  obtain ⟨hi_, hf⟩ := xo_if hf
  refine yc_cast (pc := 1295) (aArr_T hτ121) hi_ dX6_init_1295 ?_
  refine xr_dup (pc := 1296) dX6_init_1296 rfl ?_
  refine xr_iconst (pc := 1297) dX6_init_1297 xci_3 ?_
  refine xr_bipush (pc := 1298) dX6_init_1298 xcb_116 ?_
  obtain ⟨hi_, hf⟩ := xo_if hf
  refine yc_cast (pc := 1300) (aArr_T hτ121) hi_ dX6_init_1300 ?_
  obtain ⟨ht122, hf⟩ := xo_if hf
  refine yc_putFRs (pc := 1301) 21 92 2192 ht122 (by decide) (by decide) (by decide) rfl rfl rfl (ty := (.array .char)) (by decide +kernel) rfl q1838 rfl rfl rfl dX6_init_1301 ?_
  refine xr_aload_n (pc := 1304) 0 dX6_init_1304 rfl rfl ?_
  refine xr_iconst (pc := 1305) dX6_init_1305 xci_5 ?_
  obtain ⟨r123, τ123, hτ123, hf⟩ := xo_bd hf
  refine yc_aArr (pc := 1306) 102 (by decide) (by decide) rfl (Or.inl rfl) (by decide +kernel) (by decide) q701 hτ123 dX6_init_1306 ?_
  refine xr_dup (pc := 1308) dX6_init_1308 rfl ?_
  refine xr_iconst (pc := 1309) dX6_init_1309 xci_0 ?_
  refine xr_bipush (pc := 1310) dX6_init_1310 xcb_108 ?_
  obtain ⟨hi_, hf⟩ := xo_if hf
  refine yc_cast (pc := 1312) (aArr_T hτ123) hi_ dX6_init_1312 ?_
  refine xr_dup (pc := 1313) dX6_init_1313 rfl ?_
  refine xr_iconst (pc := 1314) dX6_init_1314 xci_1 ?_
  refine xr_bipush (pc := 1315) dX6_init_1315 xcb_101 ?_
  obtain ⟨hi_, hf⟩ := xo_if hf
  refine yc_cast (pc := 1317) (aArr_T hτ123) hi_ dX6_init_1317 ?_
  refine xr_dup (pc := 1318) dX6_init_1318 rfl ?_
  refine xr_iconst (pc := 1319) dX6_init_1319 xci_2 ?_
  refine xr_bipush (pc := 1320) dX6_init_1320 xcb_97 ?_
  obtain ⟨hi_, hf⟩ := xo_if hf
  refine yc_cast (pc := 1322) (aArr_T hτ123) hi_ dX6_init_1322 ?_
  refine xr_dup (pc := 1323) dX6_init_1323 rfl ?_
  refine xr_iconst (pc := 1324) dX6_init_1324 xci_3 ?_
  refine xr_bipush (pc := 1325) dX6_init_1325 xcb_115 ?_
  obtain ⟨hi_, hf⟩ := xo_if hf
  refine yc_cast (pc := 1327) (aArr_T hτ123) hi_ dX6_init_1327 ?_
  refine xr_dup (pc := 1328) dX6_init_1328 rfl ?_
  refine xr_iconst (pc := 1329) dX6_init_1329 xci_4 ?_
  refine xr_bipush (pc := 1330) dX6_init_1330 xcb_116 ?_
  obtain ⟨hi_, hf⟩ := xo_if hf
  refine yc_cast (pc := 1332) (aArr_T hτ123) hi_ dX6_init_1332 ?_
  obtain ⟨ht124, hf⟩ := xo_if hf
  refine yc_putFRs (pc := 1333) 21 93 2193 ht124 (by decide) (by decide) (by decide) rfl rfl rfl (ty := (.array .char)) (by decide +kernel) rfl q1839 rfl rfl rfl dX6_init_1333 ?_
  exact ok_Jc_X6_init_1336 hf kr
def Jc_X6_init_1140 (x0 : Nat) (τ : CS) : Option CS :=
  xbd (aArr 100 (6060 : Int32) τ) fun r111 τ111 =>
  if gT τ111.1 x0 = 21 then
  xbd (aArr 102 (5 : Int32) ((vR τ111.1 2184 x0 (some r111)), uL τ111.2 2187 x0 1)) fun r113 τ113 =>
  if xin 0 (gN τ113.1 r113) = true then
  if xin 1 (gN τ113.1 r113) = true then
  if xin 2 (gN τ113.1 r113) = true then
  if xin 3 (gN τ113.1 r113) = true then
  if xin 4 (gN τ113.1 r113) = true then
  if gT τ113.1 x0 = 21 then
  xbd (aArr 102 (4 : Int32) (vR τ113.1 2188 x0 (some r113), (uA (uA (uA (uA (uA τ113.2 r113 (0 : Int32).toNatClampNeg ((102 : Int32).toUInt32.toUInt16.toUInt32.toInt32)) r113 (1 : Int32).toNatClampNeg ((105 : Int32).toUInt32.toUInt16.toUInt32.toInt32)) r113 (2 : Int32).toNatClampNeg ((114 : Int32).toUInt32.toUInt16.toUInt32.toInt32)) r113 (3 : Int32).toNatClampNeg ((115 : Int32).toUInt32.toUInt16.toUInt32.toInt32)) r113 (4 : Int32).toNatClampNeg ((116 : Int32).toUInt32.toUInt16.toUInt32.toInt32)))) fun r115 τ115 =>
  if xin 0 (gN τ115.1 r115) = true then
  if xin 1 (gN τ115.1 r115) = true then
  if xin 2 (gN τ115.1 r115) = true then
  if xin 3 (gN τ115.1 r115) = true then
  if gT τ115.1 x0 = 21 then
  Jc_X6_init_1213 x0 (vR τ115.1 2189 x0 (some r115), (uA (uA (uA (uA τ115.2 r115 (0 : Int32).toNatClampNeg ((108 : Int32).toUInt32.toUInt16.toUInt32.toInt32)) r115 (1 : Int32).toNatClampNeg ((97 : Int32).toUInt32.toUInt16.toUInt32.toInt32)) r115 (2 : Int32).toNatClampNeg ((115 : Int32).toUInt32.toUInt16.toUInt32.toInt32)) r115 (3 : Int32).toNatClampNeg ((116 : Int32).toUInt32.toUInt16.toUInt32.toInt32)))
  else none
  else none
  else none
  else none
  else none
  else none
  else none
  else none
  else none
  else none
  else none
  else none
theorem ok_Jc_X6_init_1140 {D : CD} {P : CP} {K : xK} {Z : Option Value × CS} {x0 : Nat} {τ : CS} {o_ : CS} (hf : Jc_X6_init_1140 x0 τ = some o_) (kr : ∀ r_ : CS, o_ = r_ → Z = (none, r_)) : xV (wC D P) K mX6_init (xQ (wC D P) K Z) τ 1140 [(0, .ref x0)] [] := by
  unfold Jc_X6_init_1140 at hf
  refine xr_aload_n (pc := 1140) 0 dX6_init_1140 rfl rfl ?_
  refine xr_sipush (pc := 1141) dX6_init_1141 xcs_6060 ?_
  obtain ⟨r111, τ111, hτ111, hf⟩ := xo_bd hf
  refine yc_aArr (pc := 1144) 100 (by decide) (by decide) rfl (Or.inl rfl) (by decide +kernel) (by decide) q256 hτ111 dX6_init_1144 ?_
  obtain ⟨ht112, hf⟩ := xo_if hf
  refine yc_putFRs (pc := 1146) 21 84 2184 ht112 (by decide) (by decide) (by decide) rfl rfl rfl (ty := (.array .int)) (by decide +kernel) rfl q1830 rfl rfl rfl dX6_init_1146 ?_
  refine xr_aload_n (pc := 1149) 0 dX6_init_1149 rfl rfl ?_
  refine xr_lconst (pc := 1150) dX6_init_1150 (by decide : _ = (1 : Int64)) ?_
  refine yc_putL (pc := 1151) 21 87 2187 ht112 (by decide) (by decide) (by decide) rfl rfl rfl (by decide +kernel) q1833 (ys_eq rfl) rfl dX6_init_1151 ?_
  refine xr_aload_n (pc := 1154) 0 dX6_init_1154 rfl rfl ?_
  refine xr_iconst (pc := 1155) dX6_init_1155 xci_5 ?_
  obtain ⟨r113, τ113, hτ113, hf⟩ := xo_bd hf
  refine yc_aArr (pc := 1156) 102 (by decide) (by decide) rfl (Or.inl rfl) (by decide +kernel) (by decide) q701 hτ113 dX6_init_1156 ?_
  refine xr_dup (pc := 1158) dX6_init_1158 rfl ?_
  refine xr_iconst (pc := 1159) dX6_init_1159 xci_0 ?_
  refine xr_bipush (pc := 1160) dX6_init_1160 xcb_102 ?_
  obtain ⟨hi_, hf⟩ := xo_if hf
  refine yc_cast (pc := 1162) (aArr_T hτ113) hi_ dX6_init_1162 ?_
  refine xr_dup (pc := 1163) dX6_init_1163 rfl ?_
  refine xr_iconst (pc := 1164) dX6_init_1164 xci_1 ?_
  refine xr_bipush (pc := 1165) dX6_init_1165 xcb_105 ?_
  obtain ⟨hi_, hf⟩ := xo_if hf
  refine yc_cast (pc := 1167) (aArr_T hτ113) hi_ dX6_init_1167 ?_
  refine xr_dup (pc := 1168) dX6_init_1168 rfl ?_
  refine xr_iconst (pc := 1169) dX6_init_1169 xci_2 ?_
  refine xr_bipush (pc := 1170) dX6_init_1170 xcb_114 ?_
  obtain ⟨hi_, hf⟩ := xo_if hf
  refine yc_cast (pc := 1172) (aArr_T hτ113) hi_ dX6_init_1172 ?_
  refine xr_dup (pc := 1173) dX6_init_1173 rfl ?_
  refine xr_iconst (pc := 1174) dX6_init_1174 xci_3 ?_
  refine xr_bipush (pc := 1175) dX6_init_1175 xcb_115 ?_
  obtain ⟨hi_, hf⟩ := xo_if hf
  refine yc_cast (pc := 1177) (aArr_T hτ113) hi_ dX6_init_1177 ?_
  refine xr_dup (pc := 1178) dX6_init_1178 rfl ?_
  refine xr_iconst (pc := 1179) dX6_init_1179 xci_4 ?_
  refine xr_bipush (pc := 1180) dX6_init_1180 xcb_116 ?_
  obtain ⟨hi_, hf⟩ := xo_if hf
  refine yc_cast (pc := 1182) (aArr_T hτ113) hi_ dX6_init_1182 ?_
  obtain ⟨ht114, hf⟩ := xo_if hf
  refine yc_putFRs (pc := 1183) 21 88 2188 ht114 (by decide) (by decide) (by decide) rfl rfl rfl (ty := (.array .char)) (by decide +kernel) rfl q1834 rfl rfl rfl dX6_init_1183 ?_
  refine xr_aload_n (pc := 1186) 0 dX6_init_1186 rfl rfl ?_
  refine xr_iconst (pc := 1187) dX6_init_1187 xci_4 ?_
  obtain ⟨r115, τ115, hτ115, hf⟩ := xo_bd hf
  refine yc_aArr (pc := 1188) 102 (by decide) (by decide) rfl (Or.inl rfl) (by decide +kernel) (by decide) q701 hτ115 dX6_init_1188 ?_
  refine xr_dup (pc := 1190) dX6_init_1190 rfl ?_
  refine xr_iconst (pc := 1191) dX6_init_1191 xci_0 ?_
  refine xr_bipush (pc := 1192) dX6_init_1192 xcb_108 ?_
  obtain ⟨hi_, hf⟩ := xo_if hf
  refine yc_cast (pc := 1194) (aArr_T hτ115) hi_ dX6_init_1194 ?_
  refine xr_dup (pc := 1195) dX6_init_1195 rfl ?_
  refine xr_iconst (pc := 1196) dX6_init_1196 xci_1 ?_
  refine xr_bipush (pc := 1197) dX6_init_1197 xcb_97 ?_
  obtain ⟨hi_, hf⟩ := xo_if hf
  refine yc_cast (pc := 1199) (aArr_T hτ115) hi_ dX6_init_1199 ?_
  refine xr_dup (pc := 1200) dX6_init_1200 rfl ?_
  refine xr_iconst (pc := 1201) dX6_init_1201 xci_2 ?_
  refine xr_bipush (pc := 1202) dX6_init_1202 xcb_115 ?_
  obtain ⟨hi_, hf⟩ := xo_if hf
  refine yc_cast (pc := 1204) (aArr_T hτ115) hi_ dX6_init_1204 ?_
  refine xr_dup (pc := 1205) dX6_init_1205 rfl ?_
  refine xr_iconst (pc := 1206) dX6_init_1206 xci_3 ?_
  refine xr_bipush (pc := 1207) dX6_init_1207 xcb_116 ?_
  obtain ⟨hi_, hf⟩ := xo_if hf
  refine yc_cast (pc := 1209) (aArr_T hτ115) hi_ dX6_init_1209 ?_
  obtain ⟨ht116, hf⟩ := xo_if hf
  refine yc_putFRs (pc := 1210) 21 89 2189 ht116 (by decide) (by decide) (by decide) rfl rfl rfl (ty := (.array .char)) (by decide +kernel) rfl q1835 rfl rfl rfl dX6_init_1210 ?_
  exact ok_Jc_X6_init_1213 hf kr
def Jc_X6_init_1107 (x0 : Nat) (τ : CS) : Option CS :=
  xbd (aArr 100 (10 : Int32) τ) fun r103 τ103 =>
  if gT τ103.1 x0 = 21 then
  xbd (aArr 100 (48 : Int32) (vR τ103.1 2178 x0 (some r103), τ103.2)) fun r105 τ105 =>
  if gT τ105.1 x0 = 21 then
  xbd (aArr 100 (248 : Int32) (vR τ105.1 2180 x0 (some r105), τ105.2)) fun r107 τ107 =>
  if gT τ107.1 x0 = 21 then
  xbd (aArr 104 (8 : Int32) (vR τ107.1 2181 x0 (some r107), τ107.2)) fun r109 τ109 =>
  if gT τ109.1 x0 = 21 then
  Jc_X6_init_1140 x0 (vR τ109.1 2182 x0 (some r109), τ109.2)
  else none
  else none
  else none
  else none
theorem ok_Jc_X6_init_1107 {D : CD} {P : CP} {K : xK} {Z : Option Value × CS} {x0 : Nat} {τ : CS} {o_ : CS} (hf : Jc_X6_init_1107 x0 τ = some o_) (kr : ∀ r_ : CS, o_ = r_ → Z = (none, r_)) : xV (wC D P) K mX6_init (xQ (wC D P) K Z) τ 1107 [(0, .ref x0)] [] := by
  unfold Jc_X6_init_1107 at hf
  refine xr_aload_n (pc := 1107) 0 dX6_init_1107 rfl rfl ?_
  refine xr_bipush (pc := 1108) dX6_init_1108 xcb_10 ?_
  obtain ⟨r103, τ103, hτ103, hf⟩ := xo_bd hf
  refine yc_aArr (pc := 1110) 100 (by decide) (by decide) rfl (Or.inl rfl) (by decide +kernel) (by decide) q256 hτ103 dX6_init_1110 ?_
  obtain ⟨ht104, hf⟩ := xo_if hf
  refine yc_putFRs (pc := 1112) 21 78 2178 ht104 (by decide) (by decide) (by decide) rfl rfl rfl (ty := (.array .int)) (by decide +kernel) rfl q1824 rfl rfl rfl dX6_init_1112 ?_
  refine xr_aload_n (pc := 1115) 0 dX6_init_1115 rfl rfl ?_
  refine xr_bipush (pc := 1116) dX6_init_1116 xcb_48 ?_
  obtain ⟨r105, τ105, hτ105, hf⟩ := xo_bd hf
  refine yc_aArr (pc := 1118) 100 (by decide) (by decide) rfl (Or.inl rfl) (by decide +kernel) (by decide) q256 hτ105 dX6_init_1118 ?_
  obtain ⟨ht106, hf⟩ := xo_if hf
  refine yc_putFRs (pc := 1120) 21 80 2180 ht106 (by decide) (by decide) (by decide) rfl rfl rfl (ty := (.array .int)) (by decide +kernel) rfl q1826 rfl rfl rfl dX6_init_1120 ?_
  refine xr_aload_n (pc := 1123) 0 dX6_init_1123 rfl rfl ?_
  refine xr_sipush (pc := 1124) dX6_init_1124 xcs_248 ?_
  obtain ⟨r107, τ107, hτ107, hf⟩ := xo_bd hf
  refine yc_aArr (pc := 1127) 100 (by decide) (by decide) rfl (Or.inl rfl) (by decide +kernel) (by decide) q256 hτ107 dX6_init_1127 ?_
  obtain ⟨ht108, hf⟩ := xo_if hf
  refine yc_putFRs (pc := 1129) 21 81 2181 ht108 (by decide) (by decide) (by decide) rfl rfl rfl (ty := (.array .int)) (by decide +kernel) rfl q1827 rfl rfl rfl dX6_init_1129 ?_
  refine xr_aload_n (pc := 1132) 0 dX6_init_1132 rfl rfl ?_
  refine xr_bipush (pc := 1133) dX6_init_1133 xcb_8 ?_
  obtain ⟨r109, τ109, hτ109, hf⟩ := xo_bd hf
  refine yc_aArr (pc := 1135) 104 (by decide) (by decide) rfl (Or.inl rfl) (by decide +kernel) (by decide) q478 hτ109 dX6_init_1135 ?_
  obtain ⟨ht110, hf⟩ := xo_if hf
  refine yc_putFRs (pc := 1137) 21 82 2182 ht110 (by decide) (by decide) (by decide) rfl rfl rfl (ty := (.array .boolean)) (by decide +kernel) rfl q1828 rfl rfl rfl dX6_init_1137 ?_
  exact ok_Jc_X6_init_1140 hf kr
def Jc_X6_init_1073 (x0 : Nat) (τ : CS) : Option CS :=
  xbd (aArr 100 (5 : Int32) τ) fun r95 τ95 =>
  if gT τ95.1 x0 = 21 then
  xbd (aArr 100 (160 : Int32) (vR τ95.1 2172 x0 (some r95), τ95.2)) fun r97 τ97 =>
  if gT τ97.1 x0 = 21 then
  xbd (aArr 100 (640 : Int32) (vR τ97.1 2175 x0 (some r97), τ97.2)) fun r99 τ99 =>
  if gT τ99.1 x0 = 21 then
  xbd (aArr 100 (640 : Int32) (vR τ99.1 2176 x0 (some r99), τ99.2)) fun r101 τ101 =>
  if gT τ101.1 x0 = 21 then
  Jc_X6_init_1107 x0 (vR τ101.1 2177 x0 (some r101), τ101.2)
  else none
  else none
  else none
  else none
theorem ok_Jc_X6_init_1073 {D : CD} {P : CP} {K : xK} {Z : Option Value × CS} {x0 : Nat} {τ : CS} {o_ : CS} (hf : Jc_X6_init_1073 x0 τ = some o_) (kr : ∀ r_ : CS, o_ = r_ → Z = (none, r_)) : xV (wC D P) K mX6_init (xQ (wC D P) K Z) τ 1073 [(0, .ref x0)] [] := by
  unfold Jc_X6_init_1073 at hf
  refine xr_aload_n (pc := 1073) 0 dX6_init_1073 rfl rfl ?_
  refine xr_iconst (pc := 1074) dX6_init_1074 xci_5 ?_
  obtain ⟨r95, τ95, hτ95, hf⟩ := xo_bd hf
  refine yc_aArr (pc := 1075) 100 (by decide) (by decide) rfl (Or.inl rfl) (by decide +kernel) (by decide) q256 hτ95 dX6_init_1075 ?_
  obtain ⟨ht96, hf⟩ := xo_if hf
  refine yc_putFRs (pc := 1077) 21 72 2172 ht96 (by decide) (by decide) (by decide) rfl rfl rfl (ty := (.array .int)) (by decide +kernel) rfl q1818 rfl rfl rfl dX6_init_1077 ?_
  refine xr_aload_n (pc := 1080) 0 dX6_init_1080 rfl rfl ?_
  refine xr_sipush (pc := 1081) dX6_init_1081 xcs_160 ?_
  obtain ⟨r97, τ97, hτ97, hf⟩ := xo_bd hf
  refine yc_aArr (pc := 1084) 100 (by decide) (by decide) rfl (Or.inl rfl) (by decide +kernel) (by decide) q256 hτ97 dX6_init_1084 ?_
  obtain ⟨ht98, hf⟩ := xo_if hf
  refine yc_putFRs (pc := 1086) 21 75 2175 ht98 (by decide) (by decide) (by decide) rfl rfl rfl (ty := (.array .int)) (by decide +kernel) rfl q1821 rfl rfl rfl dX6_init_1086 ?_
  refine xr_aload_n (pc := 1089) 0 dX6_init_1089 rfl rfl ?_
  refine xr_sipush (pc := 1090) dX6_init_1090 xcs_640 ?_
  obtain ⟨r99, τ99, hτ99, hf⟩ := xo_bd hf
  refine yc_aArr (pc := 1093) 100 (by decide) (by decide) rfl (Or.inl rfl) (by decide +kernel) (by decide) q256 hτ99 dX6_init_1093 ?_
  obtain ⟨ht100, hf⟩ := xo_if hf
  refine yc_putFRs (pc := 1095) 21 76 2176 ht100 (by decide) (by decide) (by decide) rfl rfl rfl (ty := (.array .int)) (by decide +kernel) rfl q1822 rfl rfl rfl dX6_init_1095 ?_
  refine xr_aload_n (pc := 1098) 0 dX6_init_1098 rfl rfl ?_
  refine xr_sipush (pc := 1099) dX6_init_1099 xcs_640 ?_
  obtain ⟨r101, τ101, hτ101, hf⟩ := xo_bd hf
  refine yc_aArr (pc := 1102) 100 (by decide) (by decide) rfl (Or.inl rfl) (by decide +kernel) (by decide) q256 hτ101 dX6_init_1102 ?_
  obtain ⟨ht102, hf⟩ := xo_if hf
  refine yc_putFRs (pc := 1104) 21 77 2177 ht102 (by decide) (by decide) (by decide) rfl rfl rfl (ty := (.array .int)) (by decide +kernel) rfl q1823 rfl rfl rfl dX6_init_1104 ?_
  exact ok_Jc_X6_init_1107 hf kr
def Jc_X6_init_1039 (x0 : Nat) (τ : CS) : Option CS :=
  xbd (aArr 100 (3200 : Int32) τ) fun r87 τ87 =>
  if gT τ87.1 x0 = 21 then
  xbd (aArr 100 (303 : Int32) (vR τ87.1 2157 x0 (some r87), τ87.2)) fun r89 τ89 =>
  if gT τ89.1 x0 = 21 then
  xbd (aArr 100 (182 : Int32) (vR τ89.1 2162 x0 (some r89), τ89.2)) fun r91 τ91 =>
  if gT τ91.1 x0 = 21 then
  xbd (aArr 100 (5 : Int32) (vR τ91.1 2163 x0 (some r91), τ91.2)) fun r93 τ93 =>
  if gT τ93.1 x0 = 21 then
  Jc_X6_init_1073 x0 (vR τ93.1 2169 x0 (some r93), τ93.2)
  else none
  else none
  else none
  else none
theorem ok_Jc_X6_init_1039 {D : CD} {P : CP} {K : xK} {Z : Option Value × CS} {x0 : Nat} {τ : CS} {o_ : CS} (hf : Jc_X6_init_1039 x0 τ = some o_) (kr : ∀ r_ : CS, o_ = r_ → Z = (none, r_)) : xV (wC D P) K mX6_init (xQ (wC D P) K Z) τ 1039 [(0, .ref x0)] [] := by
  unfold Jc_X6_init_1039 at hf
  refine xr_aload_n (pc := 1039) 0 dX6_init_1039 rfl rfl ?_
  refine xr_sipush (pc := 1040) dX6_init_1040 xcs_3200 ?_
  obtain ⟨r87, τ87, hτ87, hf⟩ := xo_bd hf
  refine yc_aArr (pc := 1043) 100 (by decide) (by decide) rfl (Or.inl rfl) (by decide +kernel) (by decide) q256 hτ87 dX6_init_1043 ?_
  obtain ⟨ht88, hf⟩ := xo_if hf
  refine yc_putFRs (pc := 1045) 21 57 2157 ht88 (by decide) (by decide) (by decide) rfl rfl rfl (ty := (.array .int)) (by decide +kernel) rfl q1803 rfl rfl rfl dX6_init_1045 ?_
  refine xr_aload_n (pc := 1048) 0 dX6_init_1048 rfl rfl ?_
  refine xr_sipush (pc := 1049) dX6_init_1049 xcs_303 ?_
  obtain ⟨r89, τ89, hτ89, hf⟩ := xo_bd hf
  refine yc_aArr (pc := 1052) 100 (by decide) (by decide) rfl (Or.inl rfl) (by decide +kernel) (by decide) q256 hτ89 dX6_init_1052 ?_
  obtain ⟨ht90, hf⟩ := xo_if hf
  refine yc_putFRs (pc := 1054) 21 62 2162 ht90 (by decide) (by decide) (by decide) rfl rfl rfl (ty := (.array .int)) (by decide +kernel) rfl q1808 rfl rfl rfl dX6_init_1054 ?_
  refine xr_aload_n (pc := 1057) 0 dX6_init_1057 rfl rfl ?_
  refine xr_sipush (pc := 1058) dX6_init_1058 xcs_182 ?_
  obtain ⟨r91, τ91, hτ91, hf⟩ := xo_bd hf
  refine yc_aArr (pc := 1061) 100 (by decide) (by decide) rfl (Or.inl rfl) (by decide +kernel) (by decide) q256 hτ91 dX6_init_1061 ?_
  obtain ⟨ht92, hf⟩ := xo_if hf
  refine yc_putFRs (pc := 1063) 21 63 2163 ht92 (by decide) (by decide) (by decide) rfl rfl rfl (ty := (.array .int)) (by decide +kernel) rfl q1809 rfl rfl rfl dX6_init_1063 ?_
  refine xr_aload_n (pc := 1066) 0 dX6_init_1066 rfl rfl ?_
  refine xr_iconst (pc := 1067) dX6_init_1067 xci_5 ?_
  obtain ⟨r93, τ93, hτ93, hf⟩ := xo_bd hf
  refine yc_aArr (pc := 1068) 100 (by decide) (by decide) rfl (Or.inl rfl) (by decide +kernel) (by decide) q256 hτ93 dX6_init_1068 ?_
  obtain ⟨ht94, hf⟩ := xo_if hf
  refine yc_putFRs (pc := 1070) 21 69 2169 ht94 (by decide) (by decide) (by decide) rfl rfl rfl (ty := (.array .int)) (by decide +kernel) rfl q1815 rfl rfl rfl dX6_init_1070 ?_
  exact ok_Jc_X6_init_1073 hf kr
def Jc_X6_init_993 (x0 : Nat) (τ : CS) : Option CS :=
  xbd (aArr 100 (10 : Int32) τ) fun r79 τ79 =>
  if gT τ79.1 x0 = 21 then
  xbd (aArr 100 (80 : Int32) (vR τ79.1 2151 x0 (some r79), τ79.2)) fun r81 τ81 =>
  if gT τ81.1 x0 = 21 then
  xbd (aArr 100 (4 : Int32) (vR τ81.1 2152 x0 (some r81), τ81.2)) fun r83 τ83 =>
  if xin 0 (gN τ83.1 r83) = true then
  if xin 1 (gN τ83.1 r83) = true then
  if xin 2 (gN τ83.1 r83) = true then
  if xin 3 (gN τ83.1 r83) = true then
  if gT τ83.1 x0 = 21 then
  xbd (aArr 100 (4 : Int32) (vR τ83.1 2155 x0 (some r83), (uA (uA (uA (uA τ83.2 r83 (0 : Int32).toNatClampNeg (-1)) r83 (1 : Int32).toNatClampNeg (-1)) r83 (2 : Int32).toNatClampNeg (-1)) r83 (3 : Int32).toNatClampNeg (-1)))) fun r85 τ85 =>
  if gT τ85.1 x0 = 21 then
  Jc_X6_init_1039 x0 (vR τ85.1 2156 x0 (some r85), τ85.2)
  else none
  else none
  else none
  else none
  else none
  else none
  else none
  else none
theorem ok_Jc_X6_init_993 {D : CD} {P : CP} {K : xK} {Z : Option Value × CS} {x0 : Nat} {τ : CS} {o_ : CS} (hf : Jc_X6_init_993 x0 τ = some o_) (kr : ∀ r_ : CS, o_ = r_ → Z = (none, r_)) : xV (wC D P) K mX6_init (xQ (wC D P) K Z) τ 993 [(0, .ref x0)] [] := by
  unfold Jc_X6_init_993 at hf
  refine xr_aload_n (pc := 993) 0 dX6_init_993 rfl rfl ?_
  refine xr_bipush (pc := 994) dX6_init_994 xcb_10 ?_
  obtain ⟨r79, τ79, hτ79, hf⟩ := xo_bd hf
  refine yc_aArr (pc := 996) 100 (by decide) (by decide) rfl (Or.inl rfl) (by decide +kernel) (by decide) q256 hτ79 dX6_init_996 ?_
  obtain ⟨ht80, hf⟩ := xo_if hf
  refine yc_putFRs (pc := 998) 21 51 2151 ht80 (by decide) (by decide) (by decide) rfl rfl rfl (ty := (.array .int)) (by decide +kernel) rfl q1797 rfl rfl rfl dX6_init_998 ?_
  refine xr_aload_n (pc := 1001) 0 dX6_init_1001 rfl rfl ?_
  refine xr_bipush (pc := 1002) dX6_init_1002 xcb_80 ?_
  obtain ⟨r81, τ81, hτ81, hf⟩ := xo_bd hf
  refine yc_aArr (pc := 1004) 100 (by decide) (by decide) rfl (Or.inl rfl) (by decide +kernel) (by decide) q256 hτ81 dX6_init_1004 ?_
  obtain ⟨ht82, hf⟩ := xo_if hf
  refine yc_putFRs (pc := 1006) 21 52 2152 ht82 (by decide) (by decide) (by decide) rfl rfl rfl (ty := (.array .int)) (by decide +kernel) rfl q1798 rfl rfl rfl dX6_init_1006 ?_
  refine xr_aload_n (pc := 1009) 0 dX6_init_1009 rfl rfl ?_
  refine xr_iconst (pc := 1010) dX6_init_1010 xci_4 ?_
  obtain ⟨r83, τ83, hτ83, hf⟩ := xo_bd hf
  refine yc_aArr (pc := 1011) 100 (by decide) (by decide) rfl (Or.inl rfl) (by decide +kernel) (by decide) q256 hτ83 dX6_init_1011 ?_
  refine xr_dup (pc := 1013) dX6_init_1013 rfl ?_
  refine xr_iconst (pc := 1014) dX6_init_1014 xci_0 ?_
  refine xr_iconst (pc := 1015) dX6_init_1015 xci_m1 ?_
  obtain ⟨hi_, hf⟩ := xo_if hf
  refine yc_iast (pc := 1016) (aArr_T hτ83) hi_ dX6_init_1016 ?_
  refine xr_dup (pc := 1017) dX6_init_1017 rfl ?_
  refine xr_iconst (pc := 1018) dX6_init_1018 xci_1 ?_
  refine xr_iconst (pc := 1019) dX6_init_1019 xci_m1 ?_
  obtain ⟨hi_, hf⟩ := xo_if hf
  refine yc_iast (pc := 1020) (aArr_T hτ83) hi_ dX6_init_1020 ?_
  refine xr_dup (pc := 1021) dX6_init_1021 rfl ?_
  refine xr_iconst (pc := 1022) dX6_init_1022 xci_2 ?_
  refine xr_iconst (pc := 1023) dX6_init_1023 xci_m1 ?_
  obtain ⟨hi_, hf⟩ := xo_if hf
  refine yc_iast (pc := 1024) (aArr_T hτ83) hi_ dX6_init_1024 ?_
  refine xr_dup (pc := 1025) dX6_init_1025 rfl ?_
  refine xr_iconst (pc := 1026) dX6_init_1026 xci_3 ?_
  refine xr_iconst (pc := 1027) dX6_init_1027 xci_m1 ?_
  obtain ⟨hi_, hf⟩ := xo_if hf
  refine yc_iast (pc := 1028) (aArr_T hτ83) hi_ dX6_init_1028 ?_
  obtain ⟨ht84, hf⟩ := xo_if hf
  refine yc_putFRs (pc := 1029) 21 55 2155 ht84 (by decide) (by decide) (by decide) rfl rfl rfl (ty := (.array .int)) (by decide +kernel) rfl q1801 rfl rfl rfl dX6_init_1029 ?_
  refine xr_aload_n (pc := 1032) 0 dX6_init_1032 rfl rfl ?_
  refine xr_iconst (pc := 1033) dX6_init_1033 xci_4 ?_
  obtain ⟨r85, τ85, hτ85, hf⟩ := xo_bd hf
  refine yc_aArr (pc := 1034) 100 (by decide) (by decide) rfl (Or.inl rfl) (by decide +kernel) (by decide) q256 hτ85 dX6_init_1034 ?_
  obtain ⟨ht86, hf⟩ := xo_if hf
  refine yc_putFRs (pc := 1036) 21 56 2156 ht86 (by decide) (by decide) (by decide) rfl rfl rfl (ty := (.array .int)) (by decide +kernel) rfl q1802 rfl rfl rfl dX6_init_1036 ?_
  exact ok_Jc_X6_init_1039 hf kr
def Jc_X6_init_960 (x0 : Nat) (τ : CS) : Option CS :=
  xbd (aArr 100 (6 : Int32) τ) fun r71 τ71 =>
  if gT τ71.1 x0 = 21 then
  xbd (aArr 101 (10 : Int32) (vR τ71.1 2145 x0 (some r71), τ71.2)) fun r73 τ73 =>
  if gT τ73.1 x0 = 21 then
  xbd (aArr 100 (50 : Int32) (vR τ73.1 2148 x0 (some r73), τ73.2)) fun r75 τ75 =>
  if gT τ75.1 x0 = 21 then
  xbd (aArr 100 (160 : Int32) (vR τ75.1 2149 x0 (some r75), τ75.2)) fun r77 τ77 =>
  if gT τ77.1 x0 = 21 then
  Jc_X6_init_993 x0 (vR τ77.1 2150 x0 (some r77), τ77.2)
  else none
  else none
  else none
  else none
theorem ok_Jc_X6_init_960 {D : CD} {P : CP} {K : xK} {Z : Option Value × CS} {x0 : Nat} {τ : CS} {o_ : CS} (hf : Jc_X6_init_960 x0 τ = some o_) (kr : ∀ r_ : CS, o_ = r_ → Z = (none, r_)) : xV (wC D P) K mX6_init (xQ (wC D P) K Z) τ 960 [(0, .ref x0)] [] := by
  unfold Jc_X6_init_960 at hf
  refine xr_aload_n (pc := 960) 0 dX6_init_960 rfl rfl ?_
  refine xr_bipush (pc := 961) dX6_init_961 xcb_6 ?_
  obtain ⟨r71, τ71, hτ71, hf⟩ := xo_bd hf
  refine yc_aArr (pc := 963) 100 (by decide) (by decide) rfl (Or.inl rfl) (by decide +kernel) (by decide) q256 hτ71 dX6_init_963 ?_
  obtain ⟨ht72, hf⟩ := xo_if hf
  refine yc_putFRs (pc := 965) 21 45 2145 ht72 (by decide) (by decide) (by decide) rfl rfl rfl (ty := (.array .int)) (by decide +kernel) rfl q1791 rfl rfl rfl dX6_init_965 ?_
  refine xr_aload_n (pc := 968) 0 dX6_init_968 rfl rfl ?_
  refine xr_bipush (pc := 969) dX6_init_969 xcb_10 ?_
  obtain ⟨r73, τ73, hτ73, hf⟩ := xo_bd hf
  refine yc_aArr (pc := 971) 101 (by decide) (by decide) rfl (Or.inr rfl) (by decide +kernel) (by decide) q426 hτ73 dX6_init_971 ?_
  obtain ⟨ht74, hf⟩ := xo_if hf
  refine yc_putFRs (pc := 973) 21 48 2148 ht74 (by decide) (by decide) (by decide) rfl rfl rfl (ty := (.array .long)) (by decide +kernel) rfl q1794 rfl rfl rfl dX6_init_973 ?_
  refine xr_aload_n (pc := 976) 0 dX6_init_976 rfl rfl ?_
  refine xr_bipush (pc := 977) dX6_init_977 xcb_50 ?_
  obtain ⟨r75, τ75, hτ75, hf⟩ := xo_bd hf
  refine yc_aArr (pc := 979) 100 (by decide) (by decide) rfl (Or.inl rfl) (by decide +kernel) (by decide) q256 hτ75 dX6_init_979 ?_
  obtain ⟨ht76, hf⟩ := xo_if hf
  refine yc_putFRs (pc := 981) 21 49 2149 ht76 (by decide) (by decide) (by decide) rfl rfl rfl (ty := (.array .int)) (by decide +kernel) rfl q1795 rfl rfl rfl dX6_init_981 ?_
  refine xr_aload_n (pc := 984) 0 dX6_init_984 rfl rfl ?_
  refine xr_sipush (pc := 985) dX6_init_985 xcs_160 ?_
  obtain ⟨r77, τ77, hτ77, hf⟩ := xo_bd hf
  refine yc_aArr (pc := 988) 100 (by decide) (by decide) rfl (Or.inl rfl) (by decide +kernel) (by decide) q256 hτ77 dX6_init_988 ?_
  obtain ⟨ht78, hf⟩ := xo_if hf
  refine yc_putFRs (pc := 990) 21 50 2150 ht78 (by decide) (by decide) (by decide) rfl rfl rfl (ty := (.array .int)) (by decide +kernel) rfl q1796 rfl rfl rfl dX6_init_990 ?_
  exact ok_Jc_X6_init_993 hf kr
def Jc_X6_init_872 (x0 : Nat) (τ : CS) : Option CS :=
  xbd (aArr 102 (3 : Int32) τ) fun r63 τ63 =>
  if xin 0 (gN τ63.1 r63) = true then
  if xin 1 (gN τ63.1 r63) = true then
  if xin 2 (gN τ63.1 r63) = true then
  if gT τ63.1 x0 = 21 then
  xbd (aArr 102 (3 : Int32) (vR τ63.1 2140 x0 (some r63), (uA (uA (uA τ63.2 r63 (0 : Int32).toNatClampNeg ((110 : Int32).toUInt32.toUInt16.toUInt32.toInt32)) r63 (1 : Int32).toNatClampNeg ((111 : Int32).toUInt32.toUInt16.toUInt32.toInt32)) r63 (2 : Int32).toNatClampNeg ((116 : Int32).toUInt32.toUInt16.toUInt32.toInt32)))) fun r65 τ65 =>
  if xin 0 (gN τ65.1 r65) = true then
  if xin 1 (gN τ65.1 r65) = true then
  if xin 2 (gN τ65.1 r65) = true then
  if gT τ65.1 x0 = 21 then
  xbd (aArr 102 (3 : Int32) (vR τ65.1 2141 x0 (some r65), (uA (uA (uA τ65.2 r65 (0 : Int32).toNatClampNeg ((97 : Int32).toUInt32.toUInt16.toUInt32.toInt32)) r65 (1 : Int32).toNatClampNeg ((108 : Int32).toUInt32.toUInt16.toUInt32.toInt32)) r65 (2 : Int32).toNatClampNeg ((108 : Int32).toUInt32.toUInt16.toUInt32.toInt32)))) fun r67 τ67 =>
  if xin 0 (gN τ67.1 r67) = true then
  if xin 1 (gN τ67.1 r67) = true then
  if xin 2 (gN τ67.1 r67) = true then
  if gT τ67.1 x0 = 21 then
  xbd (aArr 102 (3 : Int32) (vR τ67.1 2142 x0 (some r67), (uA (uA (uA τ67.2 r67 (0 : Int32).toNatClampNeg ((109 : Int32).toUInt32.toUInt16.toUInt32.toInt32)) r67 (1 : Int32).toNatClampNeg ((105 : Int32).toUInt32.toUInt16.toUInt32.toInt32)) r67 (2 : Int32).toNatClampNeg ((110 : Int32).toUInt32.toUInt16.toUInt32.toInt32)))) fun r69 τ69 =>
  if xin 0 (gN τ69.1 r69) = true then
  if xin 1 (gN τ69.1 r69) = true then
  if xin 2 (gN τ69.1 r69) = true then
  if gT τ69.1 x0 = 21 then
  Jc_X6_init_960 x0 (vR τ69.1 2143 x0 (some r69), (uA (uA (uA τ69.2 r69 (0 : Int32).toNatClampNeg ((109 : Int32).toUInt32.toUInt16.toUInt32.toInt32)) r69 (1 : Int32).toNatClampNeg ((97 : Int32).toUInt32.toUInt16.toUInt32.toInt32)) r69 (2 : Int32).toNatClampNeg ((120 : Int32).toUInt32.toUInt16.toUInt32.toInt32)))
  else none
  else none
  else none
  else none
  else none
  else none
  else none
  else none
  else none
  else none
  else none
  else none
  else none
  else none
  else none
  else none
theorem ok_Jc_X6_init_872 {D : CD} {P : CP} {K : xK} {Z : Option Value × CS} {x0 : Nat} {τ : CS} {o_ : CS} (hf : Jc_X6_init_872 x0 τ = some o_) (kr : ∀ r_ : CS, o_ = r_ → Z = (none, r_)) : xV (wC D P) K mX6_init (xQ (wC D P) K Z) τ 872 [(0, .ref x0)] [] := by
  unfold Jc_X6_init_872 at hf
  refine xr_aload_n (pc := 872) 0 dX6_init_872 rfl rfl ?_
  refine xr_iconst (pc := 873) dX6_init_873 xci_3 ?_
  obtain ⟨r63, τ63, hτ63, hf⟩ := xo_bd hf
  refine yc_aArr (pc := 874) 102 (by decide) (by decide) rfl (Or.inl rfl) (by decide +kernel) (by decide) q701 hτ63 dX6_init_874 ?_
  refine xr_dup (pc := 876) dX6_init_876 rfl ?_
  refine xr_iconst (pc := 877) dX6_init_877 xci_0 ?_
  refine xr_bipush (pc := 878) dX6_init_878 xcb_110 ?_
  obtain ⟨hi_, hf⟩ := xo_if hf
  refine yc_cast (pc := 880) (aArr_T hτ63) hi_ dX6_init_880 ?_
  refine xr_dup (pc := 881) dX6_init_881 rfl ?_
  refine xr_iconst (pc := 882) dX6_init_882 xci_1 ?_
  refine xr_bipush (pc := 883) dX6_init_883 xcb_111 ?_
  obtain ⟨hi_, hf⟩ := xo_if hf
  refine yc_cast (pc := 885) (aArr_T hτ63) hi_ dX6_init_885 ?_
  refine xr_dup (pc := 886) dX6_init_886 rfl ?_
  refine xr_iconst (pc := 887) dX6_init_887 xci_2 ?_
  refine xr_bipush (pc := 888) dX6_init_888 xcb_116 ?_
  obtain ⟨hi_, hf⟩ := xo_if hf
  refine yc_cast (pc := 890) (aArr_T hτ63) hi_ dX6_init_890 ?_
  obtain ⟨ht64, hf⟩ := xo_if hf
  refine yc_putFRs (pc := 891) 21 40 2140 ht64 (by decide) (by decide) (by decide) rfl rfl rfl (ty := (.array .char)) (by decide +kernel) rfl q1786 rfl rfl rfl dX6_init_891 ?_
  refine xr_aload_n (pc := 894) 0 dX6_init_894 rfl rfl ?_
  refine xr_iconst (pc := 895) dX6_init_895 xci_3 ?_
  obtain ⟨r65, τ65, hτ65, hf⟩ := xo_bd hf
  refine yc_aArr (pc := 896) 102 (by decide) (by decide) rfl (Or.inl rfl) (by decide +kernel) (by decide) q701 hτ65 dX6_init_896 ?_
  refine xr_dup (pc := 898) dX6_init_898 rfl ?_
  refine xr_iconst (pc := 899) dX6_init_899 xci_0 ?_
  refine xr_bipush (pc := 900) dX6_init_900 xcb_97 ?_
  obtain ⟨hi_, hf⟩ := xo_if hf
  refine yc_cast (pc := 902) (aArr_T hτ65) hi_ dX6_init_902 ?_
  refine xr_dup (pc := 903) dX6_init_903 rfl ?_
  refine xr_iconst (pc := 904) dX6_init_904 xci_1 ?_
  refine xr_bipush (pc := 905) dX6_init_905 xcb_108 ?_
  obtain ⟨hi_, hf⟩ := xo_if hf
  refine yc_cast (pc := 907) (aArr_T hτ65) hi_ dX6_init_907 ?_
  refine xr_dup (pc := 908) dX6_init_908 rfl ?_
  refine xr_iconst (pc := 909) dX6_init_909 xci_2 ?_
  refine xr_bipush (pc := 910) dX6_init_910 xcb_108 ?_
  obtain ⟨hi_, hf⟩ := xo_if hf
  refine yc_cast (pc := 912) (aArr_T hτ65) hi_ dX6_init_912 ?_
  obtain ⟨ht66, hf⟩ := xo_if hf
  refine yc_putFRs (pc := 913) 21 41 2141 ht66 (by decide) (by decide) (by decide) rfl rfl rfl (ty := (.array .char)) (by decide +kernel) rfl q1787 rfl rfl rfl dX6_init_913 ?_
  refine xr_aload_n (pc := 916) 0 dX6_init_916 rfl rfl ?_
  refine xr_iconst (pc := 917) dX6_init_917 xci_3 ?_
  obtain ⟨r67, τ67, hτ67, hf⟩ := xo_bd hf
  refine yc_aArr (pc := 918) 102 (by decide) (by decide) rfl (Or.inl rfl) (by decide +kernel) (by decide) q701 hτ67 dX6_init_918 ?_
  refine xr_dup (pc := 920) dX6_init_920 rfl ?_
  refine xr_iconst (pc := 921) dX6_init_921 xci_0 ?_
  refine xr_bipush (pc := 922) dX6_init_922 xcb_109 ?_
  obtain ⟨hi_, hf⟩ := xo_if hf
  refine yc_cast (pc := 924) (aArr_T hτ67) hi_ dX6_init_924 ?_
  refine xr_dup (pc := 925) dX6_init_925 rfl ?_
  refine xr_iconst (pc := 926) dX6_init_926 xci_1 ?_
  refine xr_bipush (pc := 927) dX6_init_927 xcb_105 ?_
  obtain ⟨hi_, hf⟩ := xo_if hf
  refine yc_cast (pc := 929) (aArr_T hτ67) hi_ dX6_init_929 ?_
  refine xr_dup (pc := 930) dX6_init_930 rfl ?_
  refine xr_iconst (pc := 931) dX6_init_931 xci_2 ?_
  refine xr_bipush (pc := 932) dX6_init_932 xcb_110 ?_
  obtain ⟨hi_, hf⟩ := xo_if hf
  refine yc_cast (pc := 934) (aArr_T hτ67) hi_ dX6_init_934 ?_
  obtain ⟨ht68, hf⟩ := xo_if hf
  refine yc_putFRs (pc := 935) 21 42 2142 ht68 (by decide) (by decide) (by decide) rfl rfl rfl (ty := (.array .char)) (by decide +kernel) rfl q1788 rfl rfl rfl dX6_init_935 ?_
  refine xr_aload_n (pc := 938) 0 dX6_init_938 rfl rfl ?_
  refine xr_iconst (pc := 939) dX6_init_939 xci_3 ?_
  obtain ⟨r69, τ69, hτ69, hf⟩ := xo_bd hf
  refine yc_aArr (pc := 940) 102 (by decide) (by decide) rfl (Or.inl rfl) (by decide +kernel) (by decide) q701 hτ69 dX6_init_940 ?_
  refine xr_dup (pc := 942) dX6_init_942 rfl ?_
  refine xr_iconst (pc := 943) dX6_init_943 xci_0 ?_
  refine xr_bipush (pc := 944) dX6_init_944 xcb_109 ?_
  obtain ⟨hi_, hf⟩ := xo_if hf
  refine yc_cast (pc := 946) (aArr_T hτ69) hi_ dX6_init_946 ?_
  refine xr_dup (pc := 947) dX6_init_947 rfl ?_
  refine xr_iconst (pc := 948) dX6_init_948 xci_1 ?_
  refine xr_bipush (pc := 949) dX6_init_949 xcb_97 ?_
  obtain ⟨hi_, hf⟩ := xo_if hf
  refine yc_cast (pc := 951) (aArr_T hτ69) hi_ dX6_init_951 ?_
  refine xr_dup (pc := 952) dX6_init_952 rfl ?_
  refine xr_iconst (pc := 953) dX6_init_953 xci_2 ?_
  refine xr_bipush (pc := 954) dX6_init_954 xcb_120 ?_
  obtain ⟨hi_, hf⟩ := xo_if hf
  refine yc_cast (pc := 956) (aArr_T hτ69) hi_ dX6_init_956 ?_
  obtain ⟨ht70, hf⟩ := xo_if hf
  refine yc_putFRs (pc := 957) 21 43 2143 ht70 (by decide) (by decide) (by decide) rfl rfl rfl (ty := (.array .char)) (by decide +kernel) rfl q1789 rfl rfl rfl dX6_init_957 ?_
  exact ok_Jc_X6_init_960 hf kr
def Jc_X6_init_763 (x0 : Nat) (τ : CS) : Option CS :=
  xbd (aArr 102 (6 : Int32) τ) fun r55 τ55 =>
  if xin 0 (gN τ55.1 r55) = true then
  if xin 1 (gN τ55.1 r55) = true then
  if xin 2 (gN τ55.1 r55) = true then
  if xin 3 (gN τ55.1 r55) = true then
  if xin 4 (gN τ55.1 r55) = true then
  if xin 5 (gN τ55.1 r55) = true then
  if gT τ55.1 x0 = 21 then
  xbd (aArr 102 (5 : Int32) (vR τ55.1 2136 x0 (some r55), (uA (uA (uA (uA (uA (uA τ55.2 r55 (0 : Int32).toNatClampNeg ((111 : Int32).toUInt32.toUInt16.toUInt32.toInt32)) r55 (1 : Int32).toNatClampNeg ((102 : Int32).toUInt32.toUInt16.toUInt32.toInt32)) r55 (2 : Int32).toNatClampNeg ((102 : Int32).toUInt32.toUInt16.toUInt32.toInt32)) r55 (3 : Int32).toNatClampNeg ((101 : Int32).toUInt32.toUInt16.toUInt32.toInt32)) r55 (4 : Int32).toNatClampNeg ((114 : Int32).toUInt32.toUInt16.toUInt32.toInt32)) r55 (5 : Int32).toNatClampNeg ((115 : Int32).toUInt32.toUInt16.toUInt32.toInt32)))) fun r57 τ57 =>
  if xin 0 (gN τ57.1 r57) = true then
  if xin 1 (gN τ57.1 r57) = true then
  if xin 2 (gN τ57.1 r57) = true then
  if xin 3 (gN τ57.1 r57) = true then
  if xin 4 (gN τ57.1 r57) = true then
  if gT τ57.1 x0 = 21 then
  xbd (aArr 102 (2 : Int32) (vR τ57.1 2137 x0 (some r57), (uA (uA (uA (uA (uA τ57.2 r57 (0 : Int32).toNatClampNeg ((98 : Int32).toUInt32.toUInt16.toUInt32.toInt32)) r57 (1 : Int32).toNatClampNeg ((101 : Int32).toUInt32.toUInt16.toUInt32.toInt32)) r57 (2 : Int32).toNatClampNeg ((110 : Int32).toUInt32.toUInt16.toUInt32.toInt32)) r57 (3 : Int32).toNatClampNeg ((100 : Int32).toUInt32.toUInt16.toUInt32.toInt32)) r57 (4 : Int32).toNatClampNeg ((115 : Int32).toUInt32.toUInt16.toUInt32.toInt32)))) fun r59 τ59 =>
  if xin 0 (gN τ59.1 r59) = true then
  if xin 1 (gN τ59.1 r59) = true then
  if gT τ59.1 x0 = 21 then
  xbd (aArr 102 (3 : Int32) (vR τ59.1 2138 x0 (some r59), (uA (uA τ59.2 r59 (0 : Int32).toNatClampNeg ((111 : Int32).toUInt32.toUInt16.toUInt32.toInt32)) r59 (1 : Int32).toNatClampNeg ((114 : Int32).toUInt32.toUInt16.toUInt32.toInt32)))) fun r61 τ61 =>
  if xin 0 (gN τ61.1 r61) = true then
  if xin 1 (gN τ61.1 r61) = true then
  if xin 2 (gN τ61.1 r61) = true then
  if gT τ61.1 x0 = 21 then
  Jc_X6_init_872 x0 (vR τ61.1 2139 x0 (some r61), (uA (uA (uA τ61.2 r61 (0 : Int32).toNatClampNeg ((97 : Int32).toUInt32.toUInt16.toUInt32.toInt32)) r61 (1 : Int32).toNatClampNeg ((110 : Int32).toUInt32.toUInt16.toUInt32.toInt32)) r61 (2 : Int32).toNatClampNeg ((100 : Int32).toUInt32.toUInt16.toUInt32.toInt32)))
  else none
  else none
  else none
  else none
  else none
  else none
  else none
  else none
  else none
  else none
  else none
  else none
  else none
  else none
  else none
  else none
  else none
  else none
  else none
  else none
theorem ok_Jc_X6_init_763 {D : CD} {P : CP} {K : xK} {Z : Option Value × CS} {x0 : Nat} {τ : CS} {o_ : CS} (hf : Jc_X6_init_763 x0 τ = some o_) (kr : ∀ r_ : CS, o_ = r_ → Z = (none, r_)) : xV (wC D P) K mX6_init (xQ (wC D P) K Z) τ 763 [(0, .ref x0)] [] := by
  unfold Jc_X6_init_763 at hf
  refine xr_aload_n (pc := 763) 0 dX6_init_763 rfl rfl ?_
  refine xr_bipush (pc := 764) dX6_init_764 xcb_6 ?_
  obtain ⟨r55, τ55, hτ55, hf⟩ := xo_bd hf
  refine yc_aArr (pc := 766) 102 (by decide) (by decide) rfl (Or.inl rfl) (by decide +kernel) (by decide) q701 hτ55 dX6_init_766 ?_
  refine xr_dup (pc := 768) dX6_init_768 rfl ?_
  refine xr_iconst (pc := 769) dX6_init_769 xci_0 ?_
  refine xr_bipush (pc := 770) dX6_init_770 xcb_111 ?_
  obtain ⟨hi_, hf⟩ := xo_if hf
  refine yc_cast (pc := 772) (aArr_T hτ55) hi_ dX6_init_772 ?_
  refine xr_dup (pc := 773) dX6_init_773 rfl ?_
  refine xr_iconst (pc := 774) dX6_init_774 xci_1 ?_
  refine xr_bipush (pc := 775) dX6_init_775 xcb_102 ?_
  obtain ⟨hi_, hf⟩ := xo_if hf
  refine yc_cast (pc := 777) (aArr_T hτ55) hi_ dX6_init_777 ?_
  refine xr_dup (pc := 778) dX6_init_778 rfl ?_
  refine xr_iconst (pc := 779) dX6_init_779 xci_2 ?_
  refine xr_bipush (pc := 780) dX6_init_780 xcb_102 ?_
  obtain ⟨hi_, hf⟩ := xo_if hf
  refine yc_cast (pc := 782) (aArr_T hτ55) hi_ dX6_init_782 ?_
  refine xr_dup (pc := 783) dX6_init_783 rfl ?_
  refine xr_iconst (pc := 784) dX6_init_784 xci_3 ?_
  refine xr_bipush (pc := 785) dX6_init_785 xcb_101 ?_
  obtain ⟨hi_, hf⟩ := xo_if hf
  refine yc_cast (pc := 787) (aArr_T hτ55) hi_ dX6_init_787 ?_
  refine xr_dup (pc := 788) dX6_init_788 rfl ?_
  refine xr_iconst (pc := 789) dX6_init_789 xci_4 ?_
  refine xr_bipush (pc := 790) dX6_init_790 xcb_114 ?_
  obtain ⟨hi_, hf⟩ := xo_if hf
  refine yc_cast (pc := 792) (aArr_T hτ55) hi_ dX6_init_792 ?_
  refine xr_dup (pc := 793) dX6_init_793 rfl ?_
  refine xr_iconst (pc := 794) dX6_init_794 xci_5 ?_
  refine xr_bipush (pc := 795) dX6_init_795 xcb_115 ?_
  obtain ⟨hi_, hf⟩ := xo_if hf
  refine yc_cast (pc := 797) (aArr_T hτ55) hi_ dX6_init_797 ?_
  obtain ⟨ht56, hf⟩ := xo_if hf
  refine yc_putFRs (pc := 798) 21 36 2136 ht56 (by decide) (by decide) (by decide) rfl rfl rfl (ty := (.array .char)) (by decide +kernel) rfl q1782 rfl rfl rfl dX6_init_798 ?_
  refine xr_aload_n (pc := 801) 0 dX6_init_801 rfl rfl ?_
  refine xr_iconst (pc := 802) dX6_init_802 xci_5 ?_
  obtain ⟨r57, τ57, hτ57, hf⟩ := xo_bd hf
  refine yc_aArr (pc := 803) 102 (by decide) (by decide) rfl (Or.inl rfl) (by decide +kernel) (by decide) q701 hτ57 dX6_init_803 ?_
  refine xr_dup (pc := 805) dX6_init_805 rfl ?_
  refine xr_iconst (pc := 806) dX6_init_806 xci_0 ?_
  refine xr_bipush (pc := 807) dX6_init_807 xcb_98 ?_
  obtain ⟨hi_, hf⟩ := xo_if hf
  refine yc_cast (pc := 809) (aArr_T hτ57) hi_ dX6_init_809 ?_
  refine xr_dup (pc := 810) dX6_init_810 rfl ?_
  refine xr_iconst (pc := 811) dX6_init_811 xci_1 ?_
  refine xr_bipush (pc := 812) dX6_init_812 xcb_101 ?_
  obtain ⟨hi_, hf⟩ := xo_if hf
  refine yc_cast (pc := 814) (aArr_T hτ57) hi_ dX6_init_814 ?_
  refine xr_dup (pc := 815) dX6_init_815 rfl ?_
  refine xr_iconst (pc := 816) dX6_init_816 xci_2 ?_
  refine xr_bipush (pc := 817) dX6_init_817 xcb_110 ?_
  obtain ⟨hi_, hf⟩ := xo_if hf
  refine yc_cast (pc := 819) (aArr_T hτ57) hi_ dX6_init_819 ?_
  refine xr_dup (pc := 820) dX6_init_820 rfl ?_
  refine xr_iconst (pc := 821) dX6_init_821 xci_3 ?_
  refine xr_bipush (pc := 822) dX6_init_822 xcb_100 ?_
  obtain ⟨hi_, hf⟩ := xo_if hf
  refine yc_cast (pc := 824) (aArr_T hτ57) hi_ dX6_init_824 ?_
  refine xr_dup (pc := 825) dX6_init_825 rfl ?_
  refine xr_iconst (pc := 826) dX6_init_826 xci_4 ?_
  refine xr_bipush (pc := 827) dX6_init_827 xcb_115 ?_
  obtain ⟨hi_, hf⟩ := xo_if hf
  refine yc_cast (pc := 829) (aArr_T hτ57) hi_ dX6_init_829 ?_
  obtain ⟨ht58, hf⟩ := xo_if hf
  refine yc_putFRs (pc := 830) 21 37 2137 ht58 (by decide) (by decide) (by decide) rfl rfl rfl (ty := (.array .char)) (by decide +kernel) rfl q1783 rfl rfl rfl dX6_init_830 ?_
  refine xr_aload_n (pc := 833) 0 dX6_init_833 rfl rfl ?_
  refine xr_iconst (pc := 834) dX6_init_834 xci_2 ?_
  obtain ⟨r59, τ59, hτ59, hf⟩ := xo_bd hf
  refine yc_aArr (pc := 835) 102 (by decide) (by decide) rfl (Or.inl rfl) (by decide +kernel) (by decide) q701 hτ59 dX6_init_835 ?_
  refine xr_dup (pc := 837) dX6_init_837 rfl ?_
  refine xr_iconst (pc := 838) dX6_init_838 xci_0 ?_
  refine xr_bipush (pc := 839) dX6_init_839 xcb_111 ?_
  obtain ⟨hi_, hf⟩ := xo_if hf
  refine yc_cast (pc := 841) (aArr_T hτ59) hi_ dX6_init_841 ?_
  refine xr_dup (pc := 842) dX6_init_842 rfl ?_
  refine xr_iconst (pc := 843) dX6_init_843 xci_1 ?_
  refine xr_bipush (pc := 844) dX6_init_844 xcb_114 ?_
  obtain ⟨hi_, hf⟩ := xo_if hf
  refine yc_cast (pc := 846) (aArr_T hτ59) hi_ dX6_init_846 ?_
  obtain ⟨ht60, hf⟩ := xo_if hf
  refine yc_putFRs (pc := 847) 21 38 2138 ht60 (by decide) (by decide) (by decide) rfl rfl rfl (ty := (.array .char)) (by decide +kernel) rfl q1784 rfl rfl rfl dX6_init_847 ?_
  refine xr_aload_n (pc := 850) 0 dX6_init_850 rfl rfl ?_
  refine xr_iconst (pc := 851) dX6_init_851 xci_3 ?_
  obtain ⟨r61, τ61, hτ61, hf⟩ := xo_bd hf
  refine yc_aArr (pc := 852) 102 (by decide) (by decide) rfl (Or.inl rfl) (by decide +kernel) (by decide) q701 hτ61 dX6_init_852 ?_
  refine xr_dup (pc := 854) dX6_init_854 rfl ?_
  refine xr_iconst (pc := 855) dX6_init_855 xci_0 ?_
  refine xr_bipush (pc := 856) dX6_init_856 xcb_97 ?_
  obtain ⟨hi_, hf⟩ := xo_if hf
  refine yc_cast (pc := 858) (aArr_T hτ61) hi_ dX6_init_858 ?_
  refine xr_dup (pc := 859) dX6_init_859 rfl ?_
  refine xr_iconst (pc := 860) dX6_init_860 xci_1 ?_
  refine xr_bipush (pc := 861) dX6_init_861 xcb_110 ?_
  obtain ⟨hi_, hf⟩ := xo_if hf
  refine yc_cast (pc := 863) (aArr_T hτ61) hi_ dX6_init_863 ?_
  refine xr_dup (pc := 864) dX6_init_864 rfl ?_
  refine xr_iconst (pc := 865) dX6_init_865 xci_2 ?_
  refine xr_bipush (pc := 866) dX6_init_866 xcb_100 ?_
  obtain ⟨hi_, hf⟩ := xo_if hf
  refine yc_cast (pc := 868) (aArr_T hτ61) hi_ dX6_init_868 ?_
  obtain ⟨ht62, hf⟩ := xo_if hf
  refine yc_putFRs (pc := 869) 21 39 2139 ht62 (by decide) (by decide) (by decide) rfl rfl rfl (ty := (.array .char)) (by decide +kernel) rfl q1785 rfl rfl rfl dX6_init_869 ?_
  exact ok_Jc_X6_init_872 hf kr
def Jc_X6_init_622 (x0 : Nat) (τ : CS) : Option CS :=
  xbd (aArr 102 (4 : Int32) τ) fun r47 τ47 =>
  if xin 0 (gN τ47.1 r47) = true then
  if xin 1 (gN τ47.1 r47) = true then
  if xin 2 (gN τ47.1 r47) = true then
  if xin 3 (gN τ47.1 r47) = true then
  if gT τ47.1 x0 = 21 then
  xbd (aArr 102 (6 : Int32) (vR τ47.1 2132 x0 (some r47), (uA (uA (uA (uA τ47.2 r47 (0 : Int32).toNatClampNeg ((101 : Int32).toUInt32.toUInt16.toUInt32.toInt32)) r47 (1 : Int32).toNatClampNeg ((118 : Int32).toUInt32.toUInt16.toUInt32.toInt32)) r47 (2 : Int32).toNatClampNeg ((101 : Int32).toUInt32.toUInt16.toUInt32.toInt32)) r47 (3 : Int32).toNatClampNeg ((114 : Int32).toUInt32.toUInt16.toUInt32.toInt32)))) fun r49 τ49 =>
  if xin 0 (gN τ49.1 r49) = true then
  if xin 1 (gN τ49.1 r49) = true then
  if xin 2 (gN τ49.1 r49) = true then
  if xin 3 (gN τ49.1 r49) = true then
  if xin 4 (gN τ49.1 r49) = true then
  if xin 5 (gN τ49.1 r49) = true then
  if gT τ49.1 x0 = 21 then
  xbd (aArr 102 (6 : Int32) (vR τ49.1 2133 x0 (some r49), (uA (uA (uA (uA (uA (uA τ49.2 r49 (0 : Int32).toNatClampNeg ((98 : Int32).toUInt32.toUInt16.toUInt32.toInt32)) r49 (1 : Int32).toNatClampNeg ((101 : Int32).toUInt32.toUInt16.toUInt32.toInt32)) r49 (2 : Int32).toNatClampNeg ((102 : Int32).toUInt32.toUInt16.toUInt32.toInt32)) r49 (3 : Int32).toNatClampNeg ((111 : Int32).toUInt32.toUInt16.toUInt32.toInt32)) r49 (4 : Int32).toNatClampNeg ((114 : Int32).toUInt32.toUInt16.toUInt32.toInt32)) r49 (5 : Int32).toNatClampNeg ((101 : Int32).toUInt32.toUInt16.toUInt32.toInt32)))) fun r51 τ51 =>
  if xin 0 (gN τ51.1 r51) = true then
  if xin 1 (gN τ51.1 r51) = true then
  if xin 2 (gN τ51.1 r51) = true then
  if xin 3 (gN τ51.1 r51) = true then
  if xin 4 (gN τ51.1 r51) = true then
  if xin 5 (gN τ51.1 r51) = true then
  if gT τ51.1 x0 = 21 then
  xbd (aArr 102 (6 : Int32) (vR τ51.1 2134 x0 (some r51), (uA (uA (uA (uA (uA (uA τ51.2 r51 (0 : Int32).toNatClampNeg ((98 : Int32).toUInt32.toUInt16.toUInt32.toInt32)) r51 (1 : Int32).toNatClampNeg ((101 : Int32).toUInt32.toUInt16.toUInt32.toInt32)) r51 (2 : Int32).toNatClampNeg ((104 : Int32).toUInt32.toUInt16.toUInt32.toInt32)) r51 (3 : Int32).toNatClampNeg ((105 : Int32).toUInt32.toUInt16.toUInt32.toInt32)) r51 (4 : Int32).toNatClampNeg ((110 : Int32).toUInt32.toUInt16.toUInt32.toInt32)) r51 (5 : Int32).toNatClampNeg ((100 : Int32).toUInt32.toUInt16.toUInt32.toInt32)))) fun r53 τ53 =>
  if xin 0 (gN τ53.1 r53) = true then
  if xin 1 (gN τ53.1 r53) = true then
  if xin 2 (gN τ53.1 r53) = true then
  if xin 3 (gN τ53.1 r53) = true then
  if xin 4 (gN τ53.1 r53) = true then
  if xin 5 (gN τ53.1 r53) = true then
  if gT τ53.1 x0 = 21 then
  Jc_X6_init_763 x0 (vR τ53.1 2135 x0 (some r53), (uA (uA (uA (uA (uA (uA τ53.2 r53 (0 : Int32).toNatClampNeg ((110 : Int32).toUInt32.toUInt16.toUInt32.toInt32)) r53 (1 : Int32).toNatClampNeg ((117 : Int32).toUInt32.toUInt16.toUInt32.toInt32)) r53 (2 : Int32).toNatClampNeg ((109 : Int32).toUInt32.toUInt16.toUInt32.toInt32)) r53 (3 : Int32).toNatClampNeg ((98 : Int32).toUInt32.toUInt16.toUInt32.toInt32)) r53 (4 : Int32).toNatClampNeg ((101 : Int32).toUInt32.toUInt16.toUInt32.toInt32)) r53 (5 : Int32).toNatClampNeg ((114 : Int32).toUInt32.toUInt16.toUInt32.toInt32)))
  else none
  else none
  else none
  else none
  else none
  else none
  else none
  else none
  else none
  else none
  else none
  else none
  else none
  else none
  else none
  else none
  else none
  else none
  else none
  else none
  else none
  else none
  else none
  else none
  else none
  else none
theorem ok_Jc_X6_init_622 {D : CD} {P : CP} {K : xK} {Z : Option Value × CS} {x0 : Nat} {τ : CS} {o_ : CS} (hf : Jc_X6_init_622 x0 τ = some o_) (kr : ∀ r_ : CS, o_ = r_ → Z = (none, r_)) : xV (wC D P) K mX6_init (xQ (wC D P) K Z) τ 622 [(0, .ref x0)] [] := by
  unfold Jc_X6_init_622 at hf
  refine xr_aload_n (pc := 622) 0 dX6_init_622 rfl rfl ?_
  refine xr_iconst (pc := 623) dX6_init_623 xci_4 ?_
  obtain ⟨r47, τ47, hτ47, hf⟩ := xo_bd hf
  refine yc_aArr (pc := 624) 102 (by decide) (by decide) rfl (Or.inl rfl) (by decide +kernel) (by decide) q701 hτ47 dX6_init_624 ?_
  refine xr_dup (pc := 626) dX6_init_626 rfl ?_
  refine xr_iconst (pc := 627) dX6_init_627 xci_0 ?_
  refine xr_bipush (pc := 628) dX6_init_628 xcb_101 ?_
  obtain ⟨hi_, hf⟩ := xo_if hf
  refine yc_cast (pc := 630) (aArr_T hτ47) hi_ dX6_init_630 ?_
  refine xr_dup (pc := 631) dX6_init_631 rfl ?_
  refine xr_iconst (pc := 632) dX6_init_632 xci_1 ?_
  refine xr_bipush (pc := 633) dX6_init_633 xcb_118 ?_
  obtain ⟨hi_, hf⟩ := xo_if hf
  refine yc_cast (pc := 635) (aArr_T hτ47) hi_ dX6_init_635 ?_
  refine xr_dup (pc := 636) dX6_init_636 rfl ?_
  refine xr_iconst (pc := 637) dX6_init_637 xci_2 ?_
  refine xr_bipush (pc := 638) dX6_init_638 xcb_101 ?_
  obtain ⟨hi_, hf⟩ := xo_if hf
  refine yc_cast (pc := 640) (aArr_T hτ47) hi_ dX6_init_640 ?_
  refine xr_dup (pc := 641) dX6_init_641 rfl ?_
  refine xr_iconst (pc := 642) dX6_init_642 xci_3 ?_
  refine xr_bipush (pc := 643) dX6_init_643 xcb_114 ?_
  obtain ⟨hi_, hf⟩ := xo_if hf
  refine yc_cast (pc := 645) (aArr_T hτ47) hi_ dX6_init_645 ?_
  obtain ⟨ht48, hf⟩ := xo_if hf
  refine yc_putFRs (pc := 646) 21 32 2132 ht48 (by decide) (by decide) (by decide) rfl rfl rfl (ty := (.array .char)) (by decide +kernel) rfl q1778 rfl rfl rfl dX6_init_646 ?_
  refine xr_aload_n (pc := 649) 0 dX6_init_649 rfl rfl ?_
  refine xr_bipush (pc := 650) dX6_init_650 xcb_6 ?_
  obtain ⟨r49, τ49, hτ49, hf⟩ := xo_bd hf
  refine yc_aArr (pc := 652) 102 (by decide) (by decide) rfl (Or.inl rfl) (by decide +kernel) (by decide) q701 hτ49 dX6_init_652 ?_
  refine xr_dup (pc := 654) dX6_init_654 rfl ?_
  refine xr_iconst (pc := 655) dX6_init_655 xci_0 ?_
  refine xr_bipush (pc := 656) dX6_init_656 xcb_98 ?_
  obtain ⟨hi_, hf⟩ := xo_if hf
  refine yc_cast (pc := 658) (aArr_T hτ49) hi_ dX6_init_658 ?_
  refine xr_dup (pc := 659) dX6_init_659 rfl ?_
  refine xr_iconst (pc := 660) dX6_init_660 xci_1 ?_
  refine xr_bipush (pc := 661) dX6_init_661 xcb_101 ?_
  obtain ⟨hi_, hf⟩ := xo_if hf
  refine yc_cast (pc := 663) (aArr_T hτ49) hi_ dX6_init_663 ?_
  refine xr_dup (pc := 664) dX6_init_664 rfl ?_
  refine xr_iconst (pc := 665) dX6_init_665 xci_2 ?_
  refine xr_bipush (pc := 666) dX6_init_666 xcb_102 ?_
  obtain ⟨hi_, hf⟩ := xo_if hf
  refine yc_cast (pc := 668) (aArr_T hτ49) hi_ dX6_init_668 ?_
  refine xr_dup (pc := 669) dX6_init_669 rfl ?_
  refine xr_iconst (pc := 670) dX6_init_670 xci_3 ?_
  refine xr_bipush (pc := 671) dX6_init_671 xcb_111 ?_
  obtain ⟨hi_, hf⟩ := xo_if hf
  refine yc_cast (pc := 673) (aArr_T hτ49) hi_ dX6_init_673 ?_
  refine xr_dup (pc := 674) dX6_init_674 rfl ?_
  refine xr_iconst (pc := 675) dX6_init_675 xci_4 ?_
  refine xr_bipush (pc := 676) dX6_init_676 xcb_114 ?_
  obtain ⟨hi_, hf⟩ := xo_if hf
  refine yc_cast (pc := 678) (aArr_T hτ49) hi_ dX6_init_678 ?_
  refine xr_dup (pc := 679) dX6_init_679 rfl ?_
  refine xr_iconst (pc := 680) dX6_init_680 xci_5 ?_
  refine xr_bipush (pc := 681) dX6_init_681 xcb_101 ?_
  obtain ⟨hi_, hf⟩ := xo_if hf
  refine yc_cast (pc := 683) (aArr_T hτ49) hi_ dX6_init_683 ?_
  obtain ⟨ht50, hf⟩ := xo_if hf
  refine yc_putFRs (pc := 684) 21 33 2133 ht50 (by decide) (by decide) (by decide) rfl rfl rfl (ty := (.array .char)) (by decide +kernel) rfl q1779 rfl rfl rfl dX6_init_684 ?_
  refine xr_aload_n (pc := 687) 0 dX6_init_687 rfl rfl ?_
  refine xr_bipush (pc := 688) dX6_init_688 xcb_6 ?_
  obtain ⟨r51, τ51, hτ51, hf⟩ := xo_bd hf
  refine yc_aArr (pc := 690) 102 (by decide) (by decide) rfl (Or.inl rfl) (by decide +kernel) (by decide) q701 hτ51 dX6_init_690 ?_
  refine xr_dup (pc := 692) dX6_init_692 rfl ?_
  refine xr_iconst (pc := 693) dX6_init_693 xci_0 ?_
  refine xr_bipush (pc := 694) dX6_init_694 xcb_98 ?_
  obtain ⟨hi_, hf⟩ := xo_if hf
  refine yc_cast (pc := 696) (aArr_T hτ51) hi_ dX6_init_696 ?_
  refine xr_dup (pc := 697) dX6_init_697 rfl ?_
  refine xr_iconst (pc := 698) dX6_init_698 xci_1 ?_
  refine xr_bipush (pc := 699) dX6_init_699 xcb_101 ?_
  obtain ⟨hi_, hf⟩ := xo_if hf
  refine yc_cast (pc := 701) (aArr_T hτ51) hi_ dX6_init_701 ?_
  refine xr_dup (pc := 702) dX6_init_702 rfl ?_
  refine xr_iconst (pc := 703) dX6_init_703 xci_2 ?_
  refine xr_bipush (pc := 704) dX6_init_704 xcb_104 ?_
  obtain ⟨hi_, hf⟩ := xo_if hf
  refine yc_cast (pc := 706) (aArr_T hτ51) hi_ dX6_init_706 ?_
  refine xr_dup (pc := 707) dX6_init_707 rfl ?_
  refine xr_iconst (pc := 708) dX6_init_708 xci_3 ?_
  refine xr_bipush (pc := 709) dX6_init_709 xcb_105 ?_
  obtain ⟨hi_, hf⟩ := xo_if hf
  refine yc_cast (pc := 711) (aArr_T hτ51) hi_ dX6_init_711 ?_
  refine xr_dup (pc := 712) dX6_init_712 rfl ?_
  refine xr_iconst (pc := 713) dX6_init_713 xci_4 ?_
  refine xr_bipush (pc := 714) dX6_init_714 xcb_110 ?_
  obtain ⟨hi_, hf⟩ := xo_if hf
  refine yc_cast (pc := 716) (aArr_T hτ51) hi_ dX6_init_716 ?_
  refine xr_dup (pc := 717) dX6_init_717 rfl ?_
  refine xr_iconst (pc := 718) dX6_init_718 xci_5 ?_
  refine xr_bipush (pc := 719) dX6_init_719 xcb_100 ?_
  obtain ⟨hi_, hf⟩ := xo_if hf
  refine yc_cast (pc := 721) (aArr_T hτ51) hi_ dX6_init_721 ?_
  obtain ⟨ht52, hf⟩ := xo_if hf
  refine yc_putFRs (pc := 722) 21 34 2134 ht52 (by decide) (by decide) (by decide) rfl rfl rfl (ty := (.array .char)) (by decide +kernel) rfl q1780 rfl rfl rfl dX6_init_722 ?_
  refine xr_aload_n (pc := 725) 0 dX6_init_725 rfl rfl ?_
  refine xr_bipush (pc := 726) dX6_init_726 xcb_6 ?_
  obtain ⟨r53, τ53, hτ53, hf⟩ := xo_bd hf
  refine yc_aArr (pc := 728) 102 (by decide) (by decide) rfl (Or.inl rfl) (by decide +kernel) (by decide) q701 hτ53 dX6_init_728 ?_
  refine xr_dup (pc := 730) dX6_init_730 rfl ?_
  refine xr_iconst (pc := 731) dX6_init_731 xci_0 ?_
  refine xr_bipush (pc := 732) dX6_init_732 xcb_110 ?_
  obtain ⟨hi_, hf⟩ := xo_if hf
  refine yc_cast (pc := 734) (aArr_T hτ53) hi_ dX6_init_734 ?_
  refine xr_dup (pc := 735) dX6_init_735 rfl ?_
  refine xr_iconst (pc := 736) dX6_init_736 xci_1 ?_
  refine xr_bipush (pc := 737) dX6_init_737 xcb_117 ?_
  obtain ⟨hi_, hf⟩ := xo_if hf
  refine yc_cast (pc := 739) (aArr_T hτ53) hi_ dX6_init_739 ?_
  refine xr_dup (pc := 740) dX6_init_740 rfl ?_
  refine xr_iconst (pc := 741) dX6_init_741 xci_2 ?_
  refine xr_bipush (pc := 742) dX6_init_742 xcb_109 ?_
  obtain ⟨hi_, hf⟩ := xo_if hf
  refine yc_cast (pc := 744) (aArr_T hτ53) hi_ dX6_init_744 ?_
  refine xr_dup (pc := 745) dX6_init_745 rfl ?_
  refine xr_iconst (pc := 746) dX6_init_746 xci_3 ?_
  refine xr_bipush (pc := 747) dX6_init_747 xcb_98 ?_
  obtain ⟨hi_, hf⟩ := xo_if hf
  refine yc_cast (pc := 749) (aArr_T hτ53) hi_ dX6_init_749 ?_
  refine xr_dup (pc := 750) dX6_init_750 rfl ?_
  refine xr_iconst (pc := 751) dX6_init_751 xci_4 ?_
  refine xr_bipush (pc := 752) dX6_init_752 xcb_101 ?_
  obtain ⟨hi_, hf⟩ := xo_if hf
  refine yc_cast (pc := 754) (aArr_T hτ53) hi_ dX6_init_754 ?_
  refine xr_dup (pc := 755) dX6_init_755 rfl ?_
  refine xr_iconst (pc := 756) dX6_init_756 xci_5 ?_
  refine xr_bipush (pc := 757) dX6_init_757 xcb_114 ?_
  obtain ⟨hi_, hf⟩ := xo_if hf
  refine yc_cast (pc := 759) (aArr_T hτ53) hi_ dX6_init_759 ?_
  obtain ⟨ht54, hf⟩ := xo_if hf
  refine yc_putFRs (pc := 760) 21 35 2135 ht54 (by decide) (by decide) (by decide) rfl rfl rfl (ty := (.array .char)) (by decide +kernel) rfl q1781 rfl rfl rfl dX6_init_760 ?_
  exact ok_Jc_X6_init_763 hf kr
def Jc_X6_init_503 (x0 : Nat) (τ : CS) : Option CS :=
  xbd (aArr 102 (4 : Int32) τ) fun r39 τ39 =>
  if xin 0 (gN τ39.1 r39) = true then
  if xin 1 (gN τ39.1 r39) = true then
  if xin 2 (gN τ39.1 r39) = true then
  if xin 3 (gN τ39.1 r39) = true then
  if gT τ39.1 x0 = 21 then
  xbd (aArr 102 (6 : Int32) (vR τ39.1 2128 x0 (some r39), (uA (uA (uA (uA τ39.2 r39 (0 : Int32).toNatClampNeg ((116 : Int32).toUInt32.toUInt16.toUInt32.toInt32)) r39 (1 : Int32).toNatClampNeg ((117 : Int32).toUInt32.toUInt16.toUInt32.toInt32)) r39 (2 : Int32).toNatClampNeg ((114 : Int32).toUInt32.toUInt16.toUInt32.toInt32)) r39 (3 : Int32).toNatClampNeg ((110 : Int32).toUInt32.toUInt16.toUInt32.toInt32)))) fun r41 τ41 =>
  if xin 0 (gN τ41.1 r41) = true then
  if xin 1 (gN τ41.1 r41) = true then
  if xin 2 (gN τ41.1 r41) = true then
  if xin 3 (gN τ41.1 r41) = true then
  if xin 4 (gN τ41.1 r41) = true then
  if xin 5 (gN τ41.1 r41) = true then
  if gT τ41.1 x0 = 21 then
  xbd (aArr 102 (5 : Int32) (vR τ41.1 2129 x0 (some r41), (uA (uA (uA (uA (uA (uA τ41.2 r41 (0 : Int32).toNatClampNeg ((115 : Int32).toUInt32.toUInt16.toUInt32.toInt32)) r41 (1 : Int32).toNatClampNeg ((101 : Int32).toUInt32.toUInt16.toUInt32.toInt32)) r41 (2 : Int32).toNatClampNeg ((97 : Int32).toUInt32.toUInt16.toUInt32.toInt32)) r41 (3 : Int32).toNatClampNeg ((115 : Int32).toUInt32.toUInt16.toUInt32.toInt32)) r41 (4 : Int32).toNatClampNeg ((111 : Int32).toUInt32.toUInt16.toUInt32.toInt32)) r41 (5 : Int32).toNatClampNeg ((110 : Int32).toUInt32.toUInt16.toUInt32.toInt32)))) fun r43 τ43 =>
  if xin 0 (gN τ43.1 r43) = true then
  if xin 1 (gN τ43.1 r43) = true then
  if xin 2 (gN τ43.1 r43) = true then
  if xin 3 (gN τ43.1 r43) = true then
  if xin 4 (gN τ43.1 r43) = true then
  if gT τ43.1 x0 = 21 then
  xbd (aArr 102 (3 : Int32) (vR τ43.1 2130 x0 (some r43), (uA (uA (uA (uA (uA τ43.2 r43 (0 : Int32).toNatClampNeg ((114 : Int32).toUInt32.toUInt16.toUInt32.toInt32)) r43 (1 : Int32).toNatClampNeg ((111 : Int32).toUInt32.toUInt16.toUInt32.toInt32)) r43 (2 : Int32).toNatClampNeg ((111 : Int32).toUInt32.toUInt16.toUInt32.toInt32)) r43 (3 : Int32).toNatClampNeg ((116 : Int32).toUInt32.toUInt16.toUInt32.toInt32)) r43 (4 : Int32).toNatClampNeg ((115 : Int32).toUInt32.toUInt16.toUInt32.toInt32)))) fun r45 τ45 =>
  if xin 0 (gN τ45.1 r45) = true then
  if xin 1 (gN τ45.1 r45) = true then
  if xin 2 (gN τ45.1 r45) = true then
  if gT τ45.1 x0 = 21 then
  Jc_X6_init_622 x0 (vR τ45.1 2131 x0 (some r45), (uA (uA (uA τ45.2 r45 (0 : Int32).toNatClampNeg ((112 : Int32).toUInt32.toUInt16.toUInt32.toInt32)) r45 (1 : Int32).toNatClampNeg ((97 : Int32).toUInt32.toUInt16.toUInt32.toInt32)) r45 (2 : Int32).toNatClampNeg ((121 : Int32).toUInt32.toUInt16.toUInt32.toInt32)))
  else none
  else none
  else none
  else none
  else none
  else none
  else none
  else none
  else none
  else none
  else none
  else none
  else none
  else none
  else none
  else none
  else none
  else none
  else none
  else none
  else none
  else none
theorem ok_Jc_X6_init_503 {D : CD} {P : CP} {K : xK} {Z : Option Value × CS} {x0 : Nat} {τ : CS} {o_ : CS} (hf : Jc_X6_init_503 x0 τ = some o_) (kr : ∀ r_ : CS, o_ = r_ → Z = (none, r_)) : xV (wC D P) K mX6_init (xQ (wC D P) K Z) τ 503 [(0, .ref x0)] [] := by
  unfold Jc_X6_init_503 at hf
  refine xr_aload_n (pc := 503) 0 dX6_init_503 rfl rfl ?_
  refine xr_iconst (pc := 504) dX6_init_504 xci_4 ?_
  obtain ⟨r39, τ39, hτ39, hf⟩ := xo_bd hf
  refine yc_aArr (pc := 505) 102 (by decide) (by decide) rfl (Or.inl rfl) (by decide +kernel) (by decide) q701 hτ39 dX6_init_505 ?_
  refine xr_dup (pc := 507) dX6_init_507 rfl ?_
  refine xr_iconst (pc := 508) dX6_init_508 xci_0 ?_
  refine xr_bipush (pc := 509) dX6_init_509 xcb_116 ?_
  obtain ⟨hi_, hf⟩ := xo_if hf
  refine yc_cast (pc := 511) (aArr_T hτ39) hi_ dX6_init_511 ?_
  refine xr_dup (pc := 512) dX6_init_512 rfl ?_
  refine xr_iconst (pc := 513) dX6_init_513 xci_1 ?_
  refine xr_bipush (pc := 514) dX6_init_514 xcb_117 ?_
  obtain ⟨hi_, hf⟩ := xo_if hf
  refine yc_cast (pc := 516) (aArr_T hτ39) hi_ dX6_init_516 ?_
  refine xr_dup (pc := 517) dX6_init_517 rfl ?_
  refine xr_iconst (pc := 518) dX6_init_518 xci_2 ?_
  refine xr_bipush (pc := 519) dX6_init_519 xcb_114 ?_
  obtain ⟨hi_, hf⟩ := xo_if hf
  refine yc_cast (pc := 521) (aArr_T hτ39) hi_ dX6_init_521 ?_
  refine xr_dup (pc := 522) dX6_init_522 rfl ?_
  refine xr_iconst (pc := 523) dX6_init_523 xci_3 ?_
  refine xr_bipush (pc := 524) dX6_init_524 xcb_110 ?_
  obtain ⟨hi_, hf⟩ := xo_if hf
  refine yc_cast (pc := 526) (aArr_T hτ39) hi_ dX6_init_526 ?_
  obtain ⟨ht40, hf⟩ := xo_if hf
  refine yc_putFRs (pc := 527) 21 28 2128 ht40 (by decide) (by decide) (by decide) rfl rfl rfl (ty := (.array .char)) (by decide +kernel) rfl q1774 rfl rfl rfl dX6_init_527 ?_
  refine xr_aload_n (pc := 530) 0 dX6_init_530 rfl rfl ?_
  refine xr_bipush (pc := 531) dX6_init_531 xcb_6 ?_
  obtain ⟨r41, τ41, hτ41, hf⟩ := xo_bd hf
  refine yc_aArr (pc := 533) 102 (by decide) (by decide) rfl (Or.inl rfl) (by decide +kernel) (by decide) q701 hτ41 dX6_init_533 ?_
  refine xr_dup (pc := 535) dX6_init_535 rfl ?_
  refine xr_iconst (pc := 536) dX6_init_536 xci_0 ?_
  refine xr_bipush (pc := 537) dX6_init_537 xcb_115 ?_
  obtain ⟨hi_, hf⟩ := xo_if hf
  refine yc_cast (pc := 539) (aArr_T hτ41) hi_ dX6_init_539 ?_
  refine xr_dup (pc := 540) dX6_init_540 rfl ?_
  refine xr_iconst (pc := 541) dX6_init_541 xci_1 ?_
  refine xr_bipush (pc := 542) dX6_init_542 xcb_101 ?_
  obtain ⟨hi_, hf⟩ := xo_if hf
  refine yc_cast (pc := 544) (aArr_T hτ41) hi_ dX6_init_544 ?_
  refine xr_dup (pc := 545) dX6_init_545 rfl ?_
  refine xr_iconst (pc := 546) dX6_init_546 xci_2 ?_
  refine xr_bipush (pc := 547) dX6_init_547 xcb_97 ?_
  obtain ⟨hi_, hf⟩ := xo_if hf
  refine yc_cast (pc := 549) (aArr_T hτ41) hi_ dX6_init_549 ?_
  refine xr_dup (pc := 550) dX6_init_550 rfl ?_
  refine xr_iconst (pc := 551) dX6_init_551 xci_3 ?_
  refine xr_bipush (pc := 552) dX6_init_552 xcb_115 ?_
  obtain ⟨hi_, hf⟩ := xo_if hf
  refine yc_cast (pc := 554) (aArr_T hτ41) hi_ dX6_init_554 ?_
  refine xr_dup (pc := 555) dX6_init_555 rfl ?_
  refine xr_iconst (pc := 556) dX6_init_556 xci_4 ?_
  refine xr_bipush (pc := 557) dX6_init_557 xcb_111 ?_
  obtain ⟨hi_, hf⟩ := xo_if hf
  refine yc_cast (pc := 559) (aArr_T hτ41) hi_ dX6_init_559 ?_
  refine xr_dup (pc := 560) dX6_init_560 rfl ?_
  refine xr_iconst (pc := 561) dX6_init_561 xci_5 ?_
  refine xr_bipush (pc := 562) dX6_init_562 xcb_110 ?_
  obtain ⟨hi_, hf⟩ := xo_if hf
  refine yc_cast (pc := 564) (aArr_T hτ41) hi_ dX6_init_564 ?_
  obtain ⟨ht42, hf⟩ := xo_if hf
  refine yc_putFRs (pc := 565) 21 29 2129 ht42 (by decide) (by decide) (by decide) rfl rfl rfl (ty := (.array .char)) (by decide +kernel) rfl q1775 rfl rfl rfl dX6_init_565 ?_
  refine xr_aload_n (pc := 568) 0 dX6_init_568 rfl rfl ?_
  refine xr_iconst (pc := 569) dX6_init_569 xci_5 ?_
  obtain ⟨r43, τ43, hτ43, hf⟩ := xo_bd hf
  refine yc_aArr (pc := 570) 102 (by decide) (by decide) rfl (Or.inl rfl) (by decide +kernel) (by decide) q701 hτ43 dX6_init_570 ?_
  refine xr_dup (pc := 572) dX6_init_572 rfl ?_
  refine xr_iconst (pc := 573) dX6_init_573 xci_0 ?_
  refine xr_bipush (pc := 574) dX6_init_574 xcb_114 ?_
  obtain ⟨hi_, hf⟩ := xo_if hf
  refine yc_cast (pc := 576) (aArr_T hτ43) hi_ dX6_init_576 ?_
  refine xr_dup (pc := 577) dX6_init_577 rfl ?_
  refine xr_iconst (pc := 578) dX6_init_578 xci_1 ?_
  refine xr_bipush (pc := 579) dX6_init_579 xcb_111 ?_
  obtain ⟨hi_, hf⟩ := xo_if hf
  refine yc_cast (pc := 581) (aArr_T hτ43) hi_ dX6_init_581 ?_
  refine xr_dup (pc := 582) dX6_init_582 rfl ?_
  refine xr_iconst (pc := 583) dX6_init_583 xci_2 ?_
  refine xr_bipush (pc := 584) dX6_init_584 xcb_111 ?_
  obtain ⟨hi_, hf⟩ := xo_if hf
  refine yc_cast (pc := 586) (aArr_T hτ43) hi_ dX6_init_586 ?_
  refine xr_dup (pc := 587) dX6_init_587 rfl ?_
  refine xr_iconst (pc := 588) dX6_init_588 xci_3 ?_
  refine xr_bipush (pc := 589) dX6_init_589 xcb_116 ?_
  obtain ⟨hi_, hf⟩ := xo_if hf
  refine yc_cast (pc := 591) (aArr_T hτ43) hi_ dX6_init_591 ?_
  refine xr_dup (pc := 592) dX6_init_592 rfl ?_
  refine xr_iconst (pc := 593) dX6_init_593 xci_4 ?_
  refine xr_bipush (pc := 594) dX6_init_594 xcb_115 ?_
  obtain ⟨hi_, hf⟩ := xo_if hf
  refine yc_cast (pc := 596) (aArr_T hτ43) hi_ dX6_init_596 ?_
  obtain ⟨ht44, hf⟩ := xo_if hf
  refine yc_putFRs (pc := 597) 21 30 2130 ht44 (by decide) (by decide) (by decide) rfl rfl rfl (ty := (.array .char)) (by decide +kernel) rfl q1776 rfl rfl rfl dX6_init_597 ?_
  refine xr_aload_n (pc := 600) 0 dX6_init_600 rfl rfl ?_
  refine xr_iconst (pc := 601) dX6_init_601 xci_3 ?_
  obtain ⟨r45, τ45, hτ45, hf⟩ := xo_bd hf
  refine yc_aArr (pc := 602) 102 (by decide) (by decide) rfl (Or.inl rfl) (by decide +kernel) (by decide) q701 hτ45 dX6_init_602 ?_
  refine xr_dup (pc := 604) dX6_init_604 rfl ?_
  refine xr_iconst (pc := 605) dX6_init_605 xci_0 ?_
  refine xr_bipush (pc := 606) dX6_init_606 xcb_112 ?_
  obtain ⟨hi_, hf⟩ := xo_if hf
  refine yc_cast (pc := 608) (aArr_T hτ45) hi_ dX6_init_608 ?_
  refine xr_dup (pc := 609) dX6_init_609 rfl ?_
  refine xr_iconst (pc := 610) dX6_init_610 xci_1 ?_
  refine xr_bipush (pc := 611) dX6_init_611 xcb_97 ?_
  obtain ⟨hi_, hf⟩ := xo_if hf
  refine yc_cast (pc := 613) (aArr_T hτ45) hi_ dX6_init_613 ?_
  refine xr_dup (pc := 614) dX6_init_614 rfl ?_
  refine xr_iconst (pc := 615) dX6_init_615 xci_2 ?_
  refine xr_bipush (pc := 616) dX6_init_616 xcb_121 ?_
  obtain ⟨hi_, hf⟩ := xo_if hf
  refine yc_cast (pc := 618) (aArr_T hτ45) hi_ dX6_init_618 ?_
  obtain ⟨ht46, hf⟩ := xo_if hf
  refine yc_putFRs (pc := 619) 21 31 2131 ht46 (by decide) (by decide) (by decide) rfl rfl rfl (ty := (.array .char)) (by decide +kernel) rfl q1777 rfl rfl rfl dX6_init_619 ?_
  exact ok_Jc_X6_init_622 hf kr
def Jc_X6_init_384 (x0 : Nat) (τ : CS) : Option CS :=
  xbd (aArr 102 (4 : Int32) τ) fun r31 τ31 =>
  if xin 0 (gN τ31.1 r31) = true then
  if xin 1 (gN τ31.1 r31) = true then
  if xin 2 (gN τ31.1 r31) = true then
  if xin 3 (gN τ31.1 r31) = true then
  if gT τ31.1 x0 = 21 then
  xbd (aArr 102 (5 : Int32) (vR τ31.1 2124 x0 (some r31), (uA (uA (uA (uA τ31.2 r31 (0 : Int32).toNatClampNeg ((98 : Int32).toUInt32.toUInt16.toUInt32.toInt32)) r31 (1 : Int32).toNatClampNeg ((101 : Int32).toUInt32.toUInt16.toUInt32.toInt32)) r31 (2 : Int32).toNatClampNeg ((110 : Int32).toUInt32.toUInt16.toUInt32.toInt32)) r31 (3 : Int32).toNatClampNeg ((100 : Int32).toUInt32.toUInt16.toUInt32.toInt32)))) fun r33 τ33 =>
  if xin 0 (gN τ33.1 r33) = true then
  if xin 1 (gN τ33.1 r33) = true then
  if xin 2 (gN τ33.1 r33) = true then
  if xin 3 (gN τ33.1 r33) = true then
  if xin 4 (gN τ33.1 r33) = true then
  if gT τ33.1 x0 = 21 then
  xbd (aArr 102 (6 : Int32) (vR τ33.1 2125 x0 (some r33), (uA (uA (uA (uA (uA τ33.2 r33 (0 : Int32).toNatClampNeg ((115 : Int32).toUInt32.toUInt16.toUInt32.toInt32)) r33 (1 : Int32).toNatClampNeg ((112 : Int32).toUInt32.toUInt16.toUInt32.toInt32)) r33 (2 : Int32).toNatClampNeg ((97 : Int32).toUInt32.toUInt16.toUInt32.toInt32)) r33 (3 : Int32).toNatClampNeg ((116 : Int32).toUInt32.toUInt16.toUInt32.toInt32)) r33 (4 : Int32).toNatClampNeg ((101 : Int32).toUInt32.toUInt16.toUInt32.toInt32)))) fun r35 τ35 =>
  if xin 0 (gN τ35.1 r35) = true then
  if xin 1 (gN τ35.1 r35) = true then
  if xin 2 (gN τ35.1 r35) = true then
  if xin 3 (gN τ35.1 r35) = true then
  if xin 4 (gN τ35.1 r35) = true then
  if xin 5 (gN τ35.1 r35) = true then
  if gT τ35.1 x0 = 21 then
  xbd (aArr 102 (3 : Int32) (vR τ35.1 2126 x0 (some r35), (uA (uA (uA (uA (uA (uA τ35.2 r35 (0 : Int32).toNatClampNeg ((99 : Int32).toUInt32.toUInt16.toUInt32.toInt32)) r35 (1 : Int32).toNatClampNeg ((111 : Int32).toUInt32.toUInt16.toUInt32.toInt32)) r35 (2 : Int32).toNatClampNeg ((108 : Int32).toUInt32.toUInt16.toUInt32.toInt32)) r35 (3 : Int32).toNatClampNeg ((117 : Int32).toUInt32.toUInt16.toUInt32.toInt32)) r35 (4 : Int32).toNatClampNeg ((109 : Int32).toUInt32.toUInt16.toUInt32.toInt32)) r35 (5 : Int32).toNatClampNeg ((110 : Int32).toUInt32.toUInt16.toUInt32.toInt32)))) fun r37 τ37 =>
  if xin 0 (gN τ37.1 r37) = true then
  if xin 1 (gN τ37.1 r37) = true then
  if xin 2 (gN τ37.1 r37) = true then
  if gT τ37.1 x0 = 21 then
  Jc_X6_init_503 x0 (vR τ37.1 2127 x0 (some r37), (uA (uA (uA τ37.2 r37 (0 : Int32).toNatClampNeg ((114 : Int32).toUInt32.toUInt16.toUInt32.toInt32)) r37 (1 : Int32).toNatClampNeg ((111 : Int32).toUInt32.toUInt16.toUInt32.toInt32)) r37 (2 : Int32).toNatClampNeg ((119 : Int32).toUInt32.toUInt16.toUInt32.toInt32)))
  else none
  else none
  else none
  else none
  else none
  else none
  else none
  else none
  else none
  else none
  else none
  else none
  else none
  else none
  else none
  else none
  else none
  else none
  else none
  else none
  else none
  else none
theorem ok_Jc_X6_init_384 {D : CD} {P : CP} {K : xK} {Z : Option Value × CS} {x0 : Nat} {τ : CS} {o_ : CS} (hf : Jc_X6_init_384 x0 τ = some o_) (kr : ∀ r_ : CS, o_ = r_ → Z = (none, r_)) : xV (wC D P) K mX6_init (xQ (wC D P) K Z) τ 384 [(0, .ref x0)] [] := by
  unfold Jc_X6_init_384 at hf
  refine xr_aload_n (pc := 384) 0 dX6_init_384 rfl rfl ?_
  refine xr_iconst (pc := 385) dX6_init_385 xci_4 ?_
  obtain ⟨r31, τ31, hτ31, hf⟩ := xo_bd hf
  refine yc_aArr (pc := 386) 102 (by decide) (by decide) rfl (Or.inl rfl) (by decide +kernel) (by decide) q701 hτ31 dX6_init_386 ?_
  refine xr_dup (pc := 388) dX6_init_388 rfl ?_
  refine xr_iconst (pc := 389) dX6_init_389 xci_0 ?_
  refine xr_bipush (pc := 390) dX6_init_390 xcb_98 ?_
  obtain ⟨hi_, hf⟩ := xo_if hf
  refine yc_cast (pc := 392) (aArr_T hτ31) hi_ dX6_init_392 ?_
  refine xr_dup (pc := 393) dX6_init_393 rfl ?_
  refine xr_iconst (pc := 394) dX6_init_394 xci_1 ?_
  refine xr_bipush (pc := 395) dX6_init_395 xcb_101 ?_
  obtain ⟨hi_, hf⟩ := xo_if hf
  refine yc_cast (pc := 397) (aArr_T hτ31) hi_ dX6_init_397 ?_
  refine xr_dup (pc := 398) dX6_init_398 rfl ?_
  refine xr_iconst (pc := 399) dX6_init_399 xci_2 ?_
  refine xr_bipush (pc := 400) dX6_init_400 xcb_110 ?_
  obtain ⟨hi_, hf⟩ := xo_if hf
  refine yc_cast (pc := 402) (aArr_T hτ31) hi_ dX6_init_402 ?_
  refine xr_dup (pc := 403) dX6_init_403 rfl ?_
  refine xr_iconst (pc := 404) dX6_init_404 xci_3 ?_
  refine xr_bipush (pc := 405) dX6_init_405 xcb_100 ?_
  obtain ⟨hi_, hf⟩ := xo_if hf
  refine yc_cast (pc := 407) (aArr_T hτ31) hi_ dX6_init_407 ?_
  obtain ⟨ht32, hf⟩ := xo_if hf
  refine yc_putFRs (pc := 408) 21 24 2124 ht32 (by decide) (by decide) (by decide) rfl rfl rfl (ty := (.array .char)) (by decide +kernel) rfl q1770 rfl rfl rfl dX6_init_408 ?_
  refine xr_aload_n (pc := 411) 0 dX6_init_411 rfl rfl ?_
  refine xr_iconst (pc := 412) dX6_init_412 xci_5 ?_
  obtain ⟨r33, τ33, hτ33, hf⟩ := xo_bd hf
  refine yc_aArr (pc := 413) 102 (by decide) (by decide) rfl (Or.inl rfl) (by decide +kernel) (by decide) q701 hτ33 dX6_init_413 ?_
  refine xr_dup (pc := 415) dX6_init_415 rfl ?_
  refine xr_iconst (pc := 416) dX6_init_416 xci_0 ?_
  refine xr_bipush (pc := 417) dX6_init_417 xcb_115 ?_
  obtain ⟨hi_, hf⟩ := xo_if hf
  refine yc_cast (pc := 419) (aArr_T hτ33) hi_ dX6_init_419 ?_
  refine xr_dup (pc := 420) dX6_init_420 rfl ?_
  refine xr_iconst (pc := 421) dX6_init_421 xci_1 ?_
  refine xr_bipush (pc := 422) dX6_init_422 xcb_112 ?_
  obtain ⟨hi_, hf⟩ := xo_if hf
  refine yc_cast (pc := 424) (aArr_T hτ33) hi_ dX6_init_424 ?_
  refine xr_dup (pc := 425) dX6_init_425 rfl ?_
  refine xr_iconst (pc := 426) dX6_init_426 xci_2 ?_
  refine xr_bipush (pc := 427) dX6_init_427 xcb_97 ?_
  obtain ⟨hi_, hf⟩ := xo_if hf
  refine yc_cast (pc := 429) (aArr_T hτ33) hi_ dX6_init_429 ?_
  refine xr_dup (pc := 430) dX6_init_430 rfl ?_
  refine xr_iconst (pc := 431) dX6_init_431 xci_3 ?_
  refine xr_bipush (pc := 432) dX6_init_432 xcb_116 ?_
  obtain ⟨hi_, hf⟩ := xo_if hf
  refine yc_cast (pc := 434) (aArr_T hτ33) hi_ dX6_init_434 ?_
  refine xr_dup (pc := 435) dX6_init_435 rfl ?_
  refine xr_iconst (pc := 436) dX6_init_436 xci_4 ?_
  refine xr_bipush (pc := 437) dX6_init_437 xcb_101 ?_
  obtain ⟨hi_, hf⟩ := xo_if hf
  refine yc_cast (pc := 439) (aArr_T hτ33) hi_ dX6_init_439 ?_
  obtain ⟨ht34, hf⟩ := xo_if hf
  refine yc_putFRs (pc := 440) 21 25 2125 ht34 (by decide) (by decide) (by decide) rfl rfl rfl (ty := (.array .char)) (by decide +kernel) rfl q1771 rfl rfl rfl dX6_init_440 ?_
  refine xr_aload_n (pc := 443) 0 dX6_init_443 rfl rfl ?_
  refine xr_bipush (pc := 444) dX6_init_444 xcb_6 ?_
  obtain ⟨r35, τ35, hτ35, hf⟩ := xo_bd hf
  refine yc_aArr (pc := 446) 102 (by decide) (by decide) rfl (Or.inl rfl) (by decide +kernel) (by decide) q701 hτ35 dX6_init_446 ?_
  refine xr_dup (pc := 448) dX6_init_448 rfl ?_
  refine xr_iconst (pc := 449) dX6_init_449 xci_0 ?_
  refine xr_bipush (pc := 450) dX6_init_450 xcb_99 ?_
  obtain ⟨hi_, hf⟩ := xo_if hf
  refine yc_cast (pc := 452) (aArr_T hτ35) hi_ dX6_init_452 ?_
  refine xr_dup (pc := 453) dX6_init_453 rfl ?_
  refine xr_iconst (pc := 454) dX6_init_454 xci_1 ?_
  refine xr_bipush (pc := 455) dX6_init_455 xcb_111 ?_
  obtain ⟨hi_, hf⟩ := xo_if hf
  refine yc_cast (pc := 457) (aArr_T hτ35) hi_ dX6_init_457 ?_
  refine xr_dup (pc := 458) dX6_init_458 rfl ?_
  refine xr_iconst (pc := 459) dX6_init_459 xci_2 ?_
  refine xr_bipush (pc := 460) dX6_init_460 xcb_108 ?_
  obtain ⟨hi_, hf⟩ := xo_if hf
  refine yc_cast (pc := 462) (aArr_T hτ35) hi_ dX6_init_462 ?_
  refine xr_dup (pc := 463) dX6_init_463 rfl ?_
  refine xr_iconst (pc := 464) dX6_init_464 xci_3 ?_
  refine xr_bipush (pc := 465) dX6_init_465 xcb_117 ?_
  obtain ⟨hi_, hf⟩ := xo_if hf
  refine yc_cast (pc := 467) (aArr_T hτ35) hi_ dX6_init_467 ?_
  refine xr_dup (pc := 468) dX6_init_468 rfl ?_
  refine xr_iconst (pc := 469) dX6_init_469 xci_4 ?_
  refine xr_bipush (pc := 470) dX6_init_470 xcb_109 ?_
  obtain ⟨hi_, hf⟩ := xo_if hf
  refine yc_cast (pc := 472) (aArr_T hτ35) hi_ dX6_init_472 ?_
  refine xr_dup (pc := 473) dX6_init_473 rfl ?_
  refine xr_iconst (pc := 474) dX6_init_474 xci_5 ?_
  refine xr_bipush (pc := 475) dX6_init_475 xcb_110 ?_
  obtain ⟨hi_, hf⟩ := xo_if hf
  refine yc_cast (pc := 477) (aArr_T hτ35) hi_ dX6_init_477 ?_
  obtain ⟨ht36, hf⟩ := xo_if hf
  refine yc_putFRs (pc := 478) 21 26 2126 ht36 (by decide) (by decide) (by decide) rfl rfl rfl (ty := (.array .char)) (by decide +kernel) rfl q1772 rfl rfl rfl dX6_init_478 ?_
  refine xr_aload_n (pc := 481) 0 dX6_init_481 rfl rfl ?_
  refine xr_iconst (pc := 482) dX6_init_482 xci_3 ?_
  obtain ⟨r37, τ37, hτ37, hf⟩ := xo_bd hf
  refine yc_aArr (pc := 483) 102 (by decide) (by decide) rfl (Or.inl rfl) (by decide +kernel) (by decide) q701 hτ37 dX6_init_483 ?_
  refine xr_dup (pc := 485) dX6_init_485 rfl ?_
  refine xr_iconst (pc := 486) dX6_init_486 xci_0 ?_
  refine xr_bipush (pc := 487) dX6_init_487 xcb_114 ?_
  obtain ⟨hi_, hf⟩ := xo_if hf
  refine yc_cast (pc := 489) (aArr_T hτ37) hi_ dX6_init_489 ?_
  refine xr_dup (pc := 490) dX6_init_490 rfl ?_
  refine xr_iconst (pc := 491) dX6_init_491 xci_1 ?_
  refine xr_bipush (pc := 492) dX6_init_492 xcb_111 ?_
  obtain ⟨hi_, hf⟩ := xo_if hf
  refine yc_cast (pc := 494) (aArr_T hτ37) hi_ dX6_init_494 ?_
  refine xr_dup (pc := 495) dX6_init_495 rfl ?_
  refine xr_iconst (pc := 496) dX6_init_496 xci_2 ?_
  refine xr_bipush (pc := 497) dX6_init_497 xcb_119 ?_
  obtain ⟨hi_, hf⟩ := xo_if hf
  refine yc_cast (pc := 499) (aArr_T hτ37) hi_ dX6_init_499 ?_
  obtain ⟨ht38, hf⟩ := xo_if hf
  refine yc_putFRs (pc := 500) 21 27 2127 ht38 (by decide) (by decide) (by decide) rfl rfl rfl (ty := (.array .char)) (by decide +kernel) rfl q1773 rfl rfl rfl dX6_init_500 ?_
  exact ok_Jc_X6_init_503 hf kr
def Jc_X6_init_276 (x0 : Nat) (τ : CS) : Option CS :=
  xbd (aArr 102 (4 : Int32) τ) fun r23 τ23 =>
  if xin 0 (gN τ23.1 r23) = true then
  if xin 1 (gN τ23.1 r23) = true then
  if xin 2 (gN τ23.1 r23) = true then
  if xin 3 (gN τ23.1 r23) = true then
  if gT τ23.1 x0 = 21 then
  xbd (aArr 102 (3 : Int32) (vR τ23.1 2120 x0 (some r23), (uA (uA (uA (uA τ23.2 r23 (0 : Int32).toNatClampNeg ((112 : Int32).toUInt32.toUInt16.toUInt32.toInt32)) r23 (1 : Int32).toNatClampNeg ((97 : Int32).toUInt32.toUInt16.toUInt32.toInt32)) r23 (2 : Int32).toNatClampNeg ((121 : Int32).toUInt32.toUInt16.toUInt32.toInt32)) r23 (3 : Int32).toNatClampNeg ((115 : Int32).toUInt32.toUInt16.toUInt32.toInt32)))) fun r25 τ25 =>
  if xin 0 (gN τ25.1 r25) = true then
  if xin 1 (gN τ25.1 r25) = true then
  if xin 2 (gN τ25.1 r25) = true then
  if gT τ25.1 x0 = 21 then
  xbd (aArr 102 (5 : Int32) (vR τ25.1 2121 x0 (some r25), (uA (uA (uA τ25.2 r25 (0 : Int32).toNatClampNeg ((106 : Int32).toUInt32.toUInt16.toUInt32.toInt32)) r25 (1 : Int32).toNatClampNeg ((111 : Int32).toUInt32.toUInt16.toUInt32.toInt32)) r25 (2 : Int32).toNatClampNeg ((121 : Int32).toUInt32.toUInt16.toUInt32.toInt32)))) fun r27 τ27 =>
  if xin 0 (gN τ27.1 r27) = true then
  if xin 1 (gN τ27.1 r27) = true then
  if xin 2 (gN τ27.1 r27) = true then
  if xin 3 (gN τ27.1 r27) = true then
  if xin 4 (gN τ27.1 r27) = true then
  if gT τ27.1 x0 = 21 then
  xbd (aArr 102 (4 : Int32) (vR τ27.1 2122 x0 (some r27), (uA (uA (uA (uA (uA τ27.2 r27 (0 : Int32).toNatClampNeg ((112 : Int32).toUInt32.toUInt16.toUInt32.toInt32)) r27 (1 : Int32).toNatClampNeg ((117 : Int32).toUInt32.toUInt16.toUInt32.toInt32)) r27 (2 : Int32).toNatClampNeg ((114 : Int32).toUInt32.toUInt16.toUInt32.toInt32)) r27 (3 : Int32).toNatClampNeg ((115 : Int32).toUInt32.toUInt16.toUInt32.toInt32)) r27 (4 : Int32).toNatClampNeg ((101 : Int32).toUInt32.toUInt16.toUInt32.toInt32)))) fun r29 τ29 =>
  if xin 0 (gN τ29.1 r29) = true then
  if xin 1 (gN τ29.1 r29) = true then
  if xin 2 (gN τ29.1 r29) = true then
  if xin 3 (gN τ29.1 r29) = true then
  if gT τ29.1 x0 = 21 then
  Jc_X6_init_384 x0 (vR τ29.1 2123 x0 (some r29), (uA (uA (uA (uA τ29.2 r29 (0 : Int32).toNatClampNeg ((101 : Int32).toUInt32.toUInt16.toUInt32.toInt32)) r29 (1 : Int32).toNatClampNeg ((97 : Int32).toUInt32.toUInt16.toUInt32.toInt32)) r29 (2 : Int32).toNatClampNeg ((116 : Int32).toUInt32.toUInt16.toUInt32.toInt32)) r29 (3 : Int32).toNatClampNeg ((115 : Int32).toUInt32.toUInt16.toUInt32.toInt32)))
  else none
  else none
  else none
  else none
  else none
  else none
  else none
  else none
  else none
  else none
  else none
  else none
  else none
  else none
  else none
  else none
  else none
  else none
  else none
  else none
theorem ok_Jc_X6_init_276 {D : CD} {P : CP} {K : xK} {Z : Option Value × CS} {x0 : Nat} {τ : CS} {o_ : CS} (hf : Jc_X6_init_276 x0 τ = some o_) (kr : ∀ r_ : CS, o_ = r_ → Z = (none, r_)) : xV (wC D P) K mX6_init (xQ (wC D P) K Z) τ 276 [(0, .ref x0)] [] := by
  unfold Jc_X6_init_276 at hf
  refine xr_aload_n (pc := 276) 0 dX6_init_276 rfl rfl ?_
  refine xr_iconst (pc := 277) dX6_init_277 xci_4 ?_
  obtain ⟨r23, τ23, hτ23, hf⟩ := xo_bd hf
  refine yc_aArr (pc := 278) 102 (by decide) (by decide) rfl (Or.inl rfl) (by decide +kernel) (by decide) q701 hτ23 dX6_init_278 ?_
  refine xr_dup (pc := 280) dX6_init_280 rfl ?_
  refine xr_iconst (pc := 281) dX6_init_281 xci_0 ?_
  refine xr_bipush (pc := 282) dX6_init_282 xcb_112 ?_
  obtain ⟨hi_, hf⟩ := xo_if hf
  refine yc_cast (pc := 284) (aArr_T hτ23) hi_ dX6_init_284 ?_
  refine xr_dup (pc := 285) dX6_init_285 rfl ?_
  refine xr_iconst (pc := 286) dX6_init_286 xci_1 ?_
  refine xr_bipush (pc := 287) dX6_init_287 xcb_97 ?_
  obtain ⟨hi_, hf⟩ := xo_if hf
  refine yc_cast (pc := 289) (aArr_T hτ23) hi_ dX6_init_289 ?_
  refine xr_dup (pc := 290) dX6_init_290 rfl ?_
  refine xr_iconst (pc := 291) dX6_init_291 xci_2 ?_
  refine xr_bipush (pc := 292) dX6_init_292 xcb_121 ?_
  obtain ⟨hi_, hf⟩ := xo_if hf
  refine yc_cast (pc := 294) (aArr_T hτ23) hi_ dX6_init_294 ?_
  refine xr_dup (pc := 295) dX6_init_295 rfl ?_
  refine xr_iconst (pc := 296) dX6_init_296 xci_3 ?_
  refine xr_bipush (pc := 297) dX6_init_297 xcb_115 ?_
  obtain ⟨hi_, hf⟩ := xo_if hf
  refine yc_cast (pc := 299) (aArr_T hτ23) hi_ dX6_init_299 ?_
  obtain ⟨ht24, hf⟩ := xo_if hf
  refine yc_putFRs (pc := 300) 21 20 2120 ht24 (by decide) (by decide) (by decide) rfl rfl rfl (ty := (.array .char)) (by decide +kernel) rfl q1766 rfl rfl rfl dX6_init_300 ?_
  refine xr_aload_n (pc := 303) 0 dX6_init_303 rfl rfl ?_
  refine xr_iconst (pc := 304) dX6_init_304 xci_3 ?_
  obtain ⟨r25, τ25, hτ25, hf⟩ := xo_bd hf
  refine yc_aArr (pc := 305) 102 (by decide) (by decide) rfl (Or.inl rfl) (by decide +kernel) (by decide) q701 hτ25 dX6_init_305 ?_
  refine xr_dup (pc := 307) dX6_init_307 rfl ?_
  refine xr_iconst (pc := 308) dX6_init_308 xci_0 ?_
  refine xr_bipush (pc := 309) dX6_init_309 xcb_106 ?_
  obtain ⟨hi_, hf⟩ := xo_if hf
  refine yc_cast (pc := 311) (aArr_T hτ25) hi_ dX6_init_311 ?_
  refine xr_dup (pc := 312) dX6_init_312 rfl ?_
  refine xr_iconst (pc := 313) dX6_init_313 xci_1 ?_
  refine xr_bipush (pc := 314) dX6_init_314 xcb_111 ?_
  obtain ⟨hi_, hf⟩ := xo_if hf
  refine yc_cast (pc := 316) (aArr_T hτ25) hi_ dX6_init_316 ?_
  refine xr_dup (pc := 317) dX6_init_317 rfl ?_
  refine xr_iconst (pc := 318) dX6_init_318 xci_2 ?_
  refine xr_bipush (pc := 319) dX6_init_319 xcb_121 ?_
  obtain ⟨hi_, hf⟩ := xo_if hf
  refine yc_cast (pc := 321) (aArr_T hτ25) hi_ dX6_init_321 ?_
  obtain ⟨ht26, hf⟩ := xo_if hf
  refine yc_putFRs (pc := 322) 21 21 2121 ht26 (by decide) (by decide) (by decide) rfl rfl rfl (ty := (.array .char)) (by decide +kernel) rfl q1767 rfl rfl rfl dX6_init_322 ?_
  refine xr_aload_n (pc := 325) 0 dX6_init_325 rfl rfl ?_
  refine xr_iconst (pc := 326) dX6_init_326 xci_5 ?_
  obtain ⟨r27, τ27, hτ27, hf⟩ := xo_bd hf
  refine yc_aArr (pc := 327) 102 (by decide) (by decide) rfl (Or.inl rfl) (by decide +kernel) (by decide) q701 hτ27 dX6_init_327 ?_
  refine xr_dup (pc := 329) dX6_init_329 rfl ?_
  refine xr_iconst (pc := 330) dX6_init_330 xci_0 ?_
  refine xr_bipush (pc := 331) dX6_init_331 xcb_112 ?_
  obtain ⟨hi_, hf⟩ := xo_if hf
  refine yc_cast (pc := 333) (aArr_T hτ27) hi_ dX6_init_333 ?_
  refine xr_dup (pc := 334) dX6_init_334 rfl ?_
  refine xr_iconst (pc := 335) dX6_init_335 xci_1 ?_
  refine xr_bipush (pc := 336) dX6_init_336 xcb_117 ?_
  obtain ⟨hi_, hf⟩ := xo_if hf
  refine yc_cast (pc := 338) (aArr_T hτ27) hi_ dX6_init_338 ?_
  refine xr_dup (pc := 339) dX6_init_339 rfl ?_
  refine xr_iconst (pc := 340) dX6_init_340 xci_2 ?_
  refine xr_bipush (pc := 341) dX6_init_341 xcb_114 ?_
  obtain ⟨hi_, hf⟩ := xo_if hf
  refine yc_cast (pc := 343) (aArr_T hτ27) hi_ dX6_init_343 ?_
  refine xr_dup (pc := 344) dX6_init_344 rfl ?_
  refine xr_iconst (pc := 345) dX6_init_345 xci_3 ?_
  refine xr_bipush (pc := 346) dX6_init_346 xcb_115 ?_
  obtain ⟨hi_, hf⟩ := xo_if hf
  refine yc_cast (pc := 348) (aArr_T hτ27) hi_ dX6_init_348 ?_
  refine xr_dup (pc := 349) dX6_init_349 rfl ?_
  refine xr_iconst (pc := 350) dX6_init_350 xci_4 ?_
  refine xr_bipush (pc := 351) dX6_init_351 xcb_101 ?_
  obtain ⟨hi_, hf⟩ := xo_if hf
  refine yc_cast (pc := 353) (aArr_T hτ27) hi_ dX6_init_353 ?_
  obtain ⟨ht28, hf⟩ := xo_if hf
  refine yc_putFRs (pc := 354) 21 22 2122 ht28 (by decide) (by decide) (by decide) rfl rfl rfl (ty := (.array .char)) (by decide +kernel) rfl q1768 rfl rfl rfl dX6_init_354 ?_
  refine xr_aload_n (pc := 357) 0 dX6_init_357 rfl rfl ?_
  refine xr_iconst (pc := 358) dX6_init_358 xci_4 ?_
  obtain ⟨r29, τ29, hτ29, hf⟩ := xo_bd hf
  refine yc_aArr (pc := 359) 102 (by decide) (by decide) rfl (Or.inl rfl) (by decide +kernel) (by decide) q701 hτ29 dX6_init_359 ?_
  refine xr_dup (pc := 361) dX6_init_361 rfl ?_
  refine xr_iconst (pc := 362) dX6_init_362 xci_0 ?_
  refine xr_bipush (pc := 363) dX6_init_363 xcb_101 ?_
  obtain ⟨hi_, hf⟩ := xo_if hf
  refine yc_cast (pc := 365) (aArr_T hτ29) hi_ dX6_init_365 ?_
  refine xr_dup (pc := 366) dX6_init_366 rfl ?_
  refine xr_iconst (pc := 367) dX6_init_367 xci_1 ?_
  refine xr_bipush (pc := 368) dX6_init_368 xcb_97 ?_
  obtain ⟨hi_, hf⟩ := xo_if hf
  refine yc_cast (pc := 370) (aArr_T hτ29) hi_ dX6_init_370 ?_
  refine xr_dup (pc := 371) dX6_init_371 rfl ?_
  refine xr_iconst (pc := 372) dX6_init_372 xci_2 ?_
  refine xr_bipush (pc := 373) dX6_init_373 xcb_116 ?_
  obtain ⟨hi_, hf⟩ := xo_if hf
  refine yc_cast (pc := 375) (aArr_T hτ29) hi_ dX6_init_375 ?_
  refine xr_dup (pc := 376) dX6_init_376 rfl ?_
  refine xr_iconst (pc := 377) dX6_init_377 xci_3 ?_
  refine xr_bipush (pc := 378) dX6_init_378 xcb_115 ?_
  obtain ⟨hi_, hf⟩ := xo_if hf
  refine yc_cast (pc := 380) (aArr_T hτ29) hi_ dX6_init_380 ?_
  obtain ⟨ht30, hf⟩ := xo_if hf
  refine yc_putFRs (pc := 381) 21 23 2123 ht30 (by decide) (by decide) (by decide) rfl rfl rfl (ty := (.array .char)) (by decide +kernel) rfl q1769 rfl rfl rfl dX6_init_381 ?_
  exact ok_Jc_X6_init_384 hf kr
def Jc_X6_init_167 (x0 : Nat) (τ : CS) : Option CS :=
  xbd (aArr 102 (6 : Int32) τ) fun r15 τ15 =>
  if xin 0 (gN τ15.1 r15) = true then
  if xin 1 (gN τ15.1 r15) = true then
  if xin 2 (gN τ15.1 r15) = true then
  if xin 3 (gN τ15.1 r15) = true then
  if xin 4 (gN τ15.1 r15) = true then
  if xin 5 (gN τ15.1 r15) = true then
  if gT τ15.1 x0 = 21 then
  xbd (aArr 102 (4 : Int32) (vR τ15.1 2116 x0 (some r15), (uA (uA (uA (uA (uA (uA τ15.2 r15 (0 : Int32).toNatClampNeg ((119 : Int32).toUInt32.toUInt16.toUInt32.toInt32)) r15 (1 : Int32).toNatClampNeg ((105 : Int32).toUInt32.toUInt16.toUInt32.toInt32)) r15 (2 : Int32).toNatClampNeg ((108 : Int32).toUInt32.toUInt16.toUInt32.toInt32)) r15 (3 : Int32).toNatClampNeg ((108 : Int32).toUInt32.toUInt16.toUInt32.toInt32)) r15 (4 : Int32).toNatClampNeg ((111 : Int32).toUInt32.toUInt16.toUInt32.toInt32)) r15 (5 : Int32).toNatClampNeg ((119 : Int32).toUInt32.toUInt16.toUInt32.toInt32)))) fun r17 τ17 =>
  if xin 0 (gN τ17.1 r17) = true then
  if xin 1 (gN τ17.1 r17) = true then
  if xin 2 (gN τ17.1 r17) = true then
  if xin 3 (gN τ17.1 r17) = true then
  if gT τ17.1 x0 = 21 then
  xbd (aArr 102 (4 : Int32) (vR τ17.1 2117 x0 (some r17), (uA (uA (uA (uA τ17.2 r17 (0 : Int32).toNatClampNeg ((108 : Int32).toUInt32.toUInt16.toUInt32.toInt32)) r17 (1 : Int32).toNatClampNeg ((111 : Int32).toUInt32.toUInt16.toUInt32.toInt32)) r17 (2 : Int32).toNatClampNeg ((114 : Int32).toUInt32.toUInt16.toUInt32.toInt32)) r17 (3 : Int32).toNatClampNeg ((100 : Int32).toUInt32.toUInt16.toUInt32.toInt32)))) fun r19 τ19 =>
  if xin 0 (gN τ19.1 r19) = true then
  if xin 1 (gN τ19.1 r19) = true then
  if xin 2 (gN τ19.1 r19) = true then
  if xin 3 (gN τ19.1 r19) = true then
  if gT τ19.1 x0 = 21 then
  xbd (aArr 102 (2 : Int32) (vR τ19.1 2118 x0 (some r19), (uA (uA (uA (uA τ19.2 r19 (0 : Int32).toNatClampNeg ((102 : Int32).toUInt32.toUInt16.toUInt32.toInt32)) r19 (1 : Int32).toNatClampNeg ((114 : Int32).toUInt32.toUInt16.toUInt32.toInt32)) r19 (2 : Int32).toNatClampNeg ((111 : Int32).toUInt32.toUInt16.toUInt32.toInt32)) r19 (3 : Int32).toNatClampNeg ((109 : Int32).toUInt32.toUInt16.toUInt32.toInt32)))) fun r21 τ21 =>
  if xin 0 (gN τ21.1 r21) = true then
  if xin 1 (gN τ21.1 r21) = true then
  if gT τ21.1 x0 = 21 then
  Jc_X6_init_276 x0 (vR τ21.1 2119 x0 (some r21), (uA (uA τ21.2 r21 (0 : Int32).toNatClampNeg ((116 : Int32).toUInt32.toUInt16.toUInt32.toInt32)) r21 (1 : Int32).toNatClampNeg ((111 : Int32).toUInt32.toUInt16.toUInt32.toInt32)))
  else none
  else none
  else none
  else none
  else none
  else none
  else none
  else none
  else none
  else none
  else none
  else none
  else none
  else none
  else none
  else none
  else none
  else none
  else none
  else none
theorem ok_Jc_X6_init_167 {D : CD} {P : CP} {K : xK} {Z : Option Value × CS} {x0 : Nat} {τ : CS} {o_ : CS} (hf : Jc_X6_init_167 x0 τ = some o_) (kr : ∀ r_ : CS, o_ = r_ → Z = (none, r_)) : xV (wC D P) K mX6_init (xQ (wC D P) K Z) τ 167 [(0, .ref x0)] [] := by
  unfold Jc_X6_init_167 at hf
  refine xr_aload_n (pc := 167) 0 dX6_init_167 rfl rfl ?_
  refine xr_bipush (pc := 168) dX6_init_168 xcb_6 ?_
  obtain ⟨r15, τ15, hτ15, hf⟩ := xo_bd hf
  refine yc_aArr (pc := 170) 102 (by decide) (by decide) rfl (Or.inl rfl) (by decide +kernel) (by decide) q701 hτ15 dX6_init_170 ?_
  refine xr_dup (pc := 172) dX6_init_172 rfl ?_
  refine xr_iconst (pc := 173) dX6_init_173 xci_0 ?_
  refine xr_bipush (pc := 174) dX6_init_174 xcb_119 ?_
  obtain ⟨hi_, hf⟩ := xo_if hf
  refine yc_cast (pc := 176) (aArr_T hτ15) hi_ dX6_init_176 ?_
  refine xr_dup (pc := 177) dX6_init_177 rfl ?_
  refine xr_iconst (pc := 178) dX6_init_178 xci_1 ?_
  refine xr_bipush (pc := 179) dX6_init_179 xcb_105 ?_
  obtain ⟨hi_, hf⟩ := xo_if hf
  refine yc_cast (pc := 181) (aArr_T hτ15) hi_ dX6_init_181 ?_
  refine xr_dup (pc := 182) dX6_init_182 rfl ?_
  refine xr_iconst (pc := 183) dX6_init_183 xci_2 ?_
  refine xr_bipush (pc := 184) dX6_init_184 xcb_108 ?_
  obtain ⟨hi_, hf⟩ := xo_if hf
  refine yc_cast (pc := 186) (aArr_T hτ15) hi_ dX6_init_186 ?_
  refine xr_dup (pc := 187) dX6_init_187 rfl ?_
  refine xr_iconst (pc := 188) dX6_init_188 xci_3 ?_
  refine xr_bipush (pc := 189) dX6_init_189 xcb_108 ?_
  obtain ⟨hi_, hf⟩ := xo_if hf
  refine yc_cast (pc := 191) (aArr_T hτ15) hi_ dX6_init_191 ?_
  refine xr_dup (pc := 192) dX6_init_192 rfl ?_
  refine xr_iconst (pc := 193) dX6_init_193 xci_4 ?_
  refine xr_bipush (pc := 194) dX6_init_194 xcb_111 ?_
  obtain ⟨hi_, hf⟩ := xo_if hf
  refine yc_cast (pc := 196) (aArr_T hτ15) hi_ dX6_init_196 ?_
  refine xr_dup (pc := 197) dX6_init_197 rfl ?_
  refine xr_iconst (pc := 198) dX6_init_198 xci_5 ?_
  refine xr_bipush (pc := 199) dX6_init_199 xcb_119 ?_
  obtain ⟨hi_, hf⟩ := xo_if hf
  refine yc_cast (pc := 201) (aArr_T hτ15) hi_ dX6_init_201 ?_
  obtain ⟨ht16, hf⟩ := xo_if hf
  refine yc_putFRs (pc := 202) 21 16 2116 ht16 (by decide) (by decide) (by decide) rfl rfl rfl (ty := (.array .char)) (by decide +kernel) rfl q1762 rfl rfl rfl dX6_init_202 ?_
  refine xr_aload_n (pc := 205) 0 dX6_init_205 rfl rfl ?_
  refine xr_iconst (pc := 206) dX6_init_206 xci_4 ?_
  obtain ⟨r17, τ17, hτ17, hf⟩ := xo_bd hf
  refine yc_aArr (pc := 207) 102 (by decide) (by decide) rfl (Or.inl rfl) (by decide +kernel) (by decide) q701 hτ17 dX6_init_207 ?_
  refine xr_dup (pc := 209) dX6_init_209 rfl ?_
  refine xr_iconst (pc := 210) dX6_init_210 xci_0 ?_
  refine xr_bipush (pc := 211) dX6_init_211 xcb_108 ?_
  obtain ⟨hi_, hf⟩ := xo_if hf
  refine yc_cast (pc := 213) (aArr_T hτ17) hi_ dX6_init_213 ?_
  refine xr_dup (pc := 214) dX6_init_214 rfl ?_
  refine xr_iconst (pc := 215) dX6_init_215 xci_1 ?_
  refine xr_bipush (pc := 216) dX6_init_216 xcb_111 ?_
  obtain ⟨hi_, hf⟩ := xo_if hf
  refine yc_cast (pc := 218) (aArr_T hτ17) hi_ dX6_init_218 ?_
  refine xr_dup (pc := 219) dX6_init_219 rfl ?_
  refine xr_iconst (pc := 220) dX6_init_220 xci_2 ?_
  refine xr_bipush (pc := 221) dX6_init_221 xcb_114 ?_
  obtain ⟨hi_, hf⟩ := xo_if hf
  refine yc_cast (pc := 223) (aArr_T hτ17) hi_ dX6_init_223 ?_
  refine xr_dup (pc := 224) dX6_init_224 rfl ?_
  refine xr_iconst (pc := 225) dX6_init_225 xci_3 ?_
  refine xr_bipush (pc := 226) dX6_init_226 xcb_100 ?_
  obtain ⟨hi_, hf⟩ := xo_if hf
  refine yc_cast (pc := 228) (aArr_T hτ17) hi_ dX6_init_228 ?_
  obtain ⟨ht18, hf⟩ := xo_if hf
  refine yc_putFRs (pc := 229) 21 17 2117 ht18 (by decide) (by decide) (by decide) rfl rfl rfl (ty := (.array .char)) (by decide +kernel) rfl q1763 rfl rfl rfl dX6_init_229 ?_
  refine xr_aload_n (pc := 232) 0 dX6_init_232 rfl rfl ?_
  refine xr_iconst (pc := 233) dX6_init_233 xci_4 ?_
  obtain ⟨r19, τ19, hτ19, hf⟩ := xo_bd hf
  refine yc_aArr (pc := 234) 102 (by decide) (by decide) rfl (Or.inl rfl) (by decide +kernel) (by decide) q701 hτ19 dX6_init_234 ?_
  refine xr_dup (pc := 236) dX6_init_236 rfl ?_
  refine xr_iconst (pc := 237) dX6_init_237 xci_0 ?_
  refine xr_bipush (pc := 238) dX6_init_238 xcb_102 ?_
  obtain ⟨hi_, hf⟩ := xo_if hf
  refine yc_cast (pc := 240) (aArr_T hτ19) hi_ dX6_init_240 ?_
  refine xr_dup (pc := 241) dX6_init_241 rfl ?_
  refine xr_iconst (pc := 242) dX6_init_242 xci_1 ?_
  refine xr_bipush (pc := 243) dX6_init_243 xcb_114 ?_
  obtain ⟨hi_, hf⟩ := xo_if hf
  refine yc_cast (pc := 245) (aArr_T hτ19) hi_ dX6_init_245 ?_
  refine xr_dup (pc := 246) dX6_init_246 rfl ?_
  refine xr_iconst (pc := 247) dX6_init_247 xci_2 ?_
  refine xr_bipush (pc := 248) dX6_init_248 xcb_111 ?_
  obtain ⟨hi_, hf⟩ := xo_if hf
  refine yc_cast (pc := 250) (aArr_T hτ19) hi_ dX6_init_250 ?_
  refine xr_dup (pc := 251) dX6_init_251 rfl ?_
  refine xr_iconst (pc := 252) dX6_init_252 xci_3 ?_
  refine xr_bipush (pc := 253) dX6_init_253 xcb_109 ?_
  obtain ⟨hi_, hf⟩ := xo_if hf
  refine yc_cast (pc := 255) (aArr_T hτ19) hi_ dX6_init_255 ?_
  obtain ⟨ht20, hf⟩ := xo_if hf
  refine yc_putFRs (pc := 256) 21 18 2118 ht20 (by decide) (by decide) (by decide) rfl rfl rfl (ty := (.array .char)) (by decide +kernel) rfl q1764 rfl rfl rfl dX6_init_256 ?_
  refine xr_aload_n (pc := 259) 0 dX6_init_259 rfl rfl ?_
  refine xr_iconst (pc := 260) dX6_init_260 xci_2 ?_
  obtain ⟨r21, τ21, hτ21, hf⟩ := xo_bd hf
  refine yc_aArr (pc := 261) 102 (by decide) (by decide) rfl (Or.inl rfl) (by decide +kernel) (by decide) q701 hτ21 dX6_init_261 ?_
  refine xr_dup (pc := 263) dX6_init_263 rfl ?_
  refine xr_iconst (pc := 264) dX6_init_264 xci_0 ?_
  refine xr_bipush (pc := 265) dX6_init_265 xcb_116 ?_
  obtain ⟨hi_, hf⟩ := xo_if hf
  refine yc_cast (pc := 267) (aArr_T hτ21) hi_ dX6_init_267 ?_
  refine xr_dup (pc := 268) dX6_init_268 rfl ?_
  refine xr_iconst (pc := 269) dX6_init_269 xci_1 ?_
  refine xr_bipush (pc := 270) dX6_init_270 xcb_111 ?_
  obtain ⟨hi_, hf⟩ := xo_if hf
  refine yc_cast (pc := 272) (aArr_T hτ21) hi_ dX6_init_272 ?_
  obtain ⟨ht22, hf⟩ := xo_if hf
  refine yc_putFRs (pc := 273) 21 19 2119 ht22 (by decide) (by decide) (by decide) rfl rfl rfl (ty := (.array .char)) (by decide +kernel) rfl q1765 rfl rfl rfl dX6_init_273 ?_
  exact ok_Jc_X6_init_276 hf kr
def Jc_X6_init_64 (x0 : Nat) (τ : CS) : Option CS :=
  xbd (aArr 102 (2 : Int32) τ) fun r7 τ7 =>
  if xin 0 (gN τ7.1 r7) = true then
  if xin 1 (gN τ7.1 r7) = true then
  if gT τ7.1 x0 = 21 then
  xbd (aArr 102 (5 : Int32) (vR τ7.1 2112 x0 (some r7), (uA (uA τ7.2 r7 (0 : Int32).toNatClampNeg ((98 : Int32).toUInt32.toUInt16.toUInt32.toInt32)) r7 (1 : Int32).toNatClampNeg ((121 : Int32).toUInt32.toUInt16.toUInt32.toInt32)))) fun r9 τ9 =>
  if xin 0 (gN τ9.1 r9) = true then
  if xin 1 (gN τ9.1 r9) = true then
  if xin 2 (gN τ9.1 r9) = true then
  if xin 3 (gN τ9.1 r9) = true then
  if xin 4 (gN τ9.1 r9) = true then
  if gT τ9.1 x0 = 21 then
  xbd (aArr 102 (4 : Int32) (vR τ9.1 2113 x0 (some r9), (uA (uA (uA (uA (uA τ9.2 r9 (0 : Int32).toNatClampNeg ((114 : Int32).toUInt32.toUInt16.toUInt32.toInt32)) r9 (1 : Int32).toNatClampNeg ((101 : Int32).toUInt32.toUInt16.toUInt32.toInt32)) r9 (2 : Int32).toNatClampNeg ((97 : Int32).toUInt32.toUInt16.toUInt32.toInt32)) r9 (3 : Int32).toNatClampNeg ((99 : Int32).toUInt32.toUInt16.toUInt32.toInt32)) r9 (4 : Int32).toNatClampNeg ((104 : Int32).toUInt32.toUInt16.toUInt32.toInt32)))) fun r11 τ11 =>
  if xin 0 (gN τ11.1 r11) = true then
  if xin 1 (gN τ11.1 r11) = true then
  if xin 2 (gN τ11.1 r11) = true then
  if xin 3 (gN τ11.1 r11) = true then
  if gT τ11.1 x0 = 21 then
  xbd (aArr 102 (4 : Int32) (vR τ11.1 2114 x0 (some r11), (uA (uA (uA (uA τ11.2 r11 (0 : Int32).toNatClampNeg ((114 : Int32).toUInt32.toUInt16.toUInt32.toInt32)) r11 (1 : Int32).toNatClampNeg ((117 : Int32).toUInt32.toUInt16.toUInt32.toInt32)) r11 (2 : Int32).toNatClampNeg ((110 : Int32).toUInt32.toUInt16.toUInt32.toInt32)) r11 (3 : Int32).toNatClampNeg ((115 : Int32).toUInt32.toUInt16.toUInt32.toInt32)))) fun r13 τ13 =>
  if xin 0 (gN τ13.1 r13) = true then
  if xin 1 (gN τ13.1 r13) = true then
  if xin 2 (gN τ13.1 r13) = true then
  if xin 3 (gN τ13.1 r13) = true then
  if gT τ13.1 x0 = 21 then
  Jc_X6_init_167 x0 (vR τ13.1 2115 x0 (some r13), (uA (uA (uA (uA τ13.2 r13 (0 : Int32).toNatClampNeg ((115 : Int32).toUInt32.toUInt16.toUInt32.toInt32)) r13 (1 : Int32).toNatClampNeg ((111 : Int32).toUInt32.toUInt16.toUInt32.toInt32)) r13 (2 : Int32).toNatClampNeg ((105 : Int32).toUInt32.toUInt16.toUInt32.toInt32)) r13 (3 : Int32).toNatClampNeg ((108 : Int32).toUInt32.toUInt16.toUInt32.toInt32)))
  else none
  else none
  else none
  else none
  else none
  else none
  else none
  else none
  else none
  else none
  else none
  else none
  else none
  else none
  else none
  else none
  else none
  else none
  else none
theorem ok_Jc_X6_init_64 {D : CD} {P : CP} {K : xK} {Z : Option Value × CS} {x0 : Nat} {τ : CS} {o_ : CS} (hf : Jc_X6_init_64 x0 τ = some o_) (kr : ∀ r_ : CS, o_ = r_ → Z = (none, r_)) : xV (wC D P) K mX6_init (xQ (wC D P) K Z) τ 64 [(0, .ref x0)] [] := by
  unfold Jc_X6_init_64 at hf
  refine xr_aload_n (pc := 64) 0 dX6_init_64 rfl rfl ?_
  refine xr_iconst (pc := 65) dX6_init_65 xci_2 ?_
  obtain ⟨r7, τ7, hτ7, hf⟩ := xo_bd hf
  refine yc_aArr (pc := 66) 102 (by decide) (by decide) rfl (Or.inl rfl) (by decide +kernel) (by decide) q701 hτ7 dX6_init_66 ?_
  refine xr_dup (pc := 68) dX6_init_68 rfl ?_
  refine xr_iconst (pc := 69) dX6_init_69 xci_0 ?_
  refine xr_bipush (pc := 70) dX6_init_70 xcb_98 ?_
  obtain ⟨hi_, hf⟩ := xo_if hf
  refine yc_cast (pc := 72) (aArr_T hτ7) hi_ dX6_init_72 ?_
  refine xr_dup (pc := 73) dX6_init_73 rfl ?_
  refine xr_iconst (pc := 74) dX6_init_74 xci_1 ?_
  refine xr_bipush (pc := 75) dX6_init_75 xcb_121 ?_
  obtain ⟨hi_, hf⟩ := xo_if hf
  refine yc_cast (pc := 77) (aArr_T hτ7) hi_ dX6_init_77 ?_
  obtain ⟨ht8, hf⟩ := xo_if hf
  refine yc_putFRs (pc := 78) 21 12 2112 ht8 (by decide) (by decide) (by decide) rfl rfl rfl (ty := (.array .char)) (by decide +kernel) rfl q1758 rfl rfl rfl dX6_init_78 ?_
  refine xr_aload_n (pc := 81) 0 dX6_init_81 rfl rfl ?_
  refine xr_iconst (pc := 82) dX6_init_82 xci_5 ?_
  obtain ⟨r9, τ9, hτ9, hf⟩ := xo_bd hf
  refine yc_aArr (pc := 83) 102 (by decide) (by decide) rfl (Or.inl rfl) (by decide +kernel) (by decide) q701 hτ9 dX6_init_83 ?_
  refine xr_dup (pc := 85) dX6_init_85 rfl ?_
  refine xr_iconst (pc := 86) dX6_init_86 xci_0 ?_
  refine xr_bipush (pc := 87) dX6_init_87 xcb_114 ?_
  obtain ⟨hi_, hf⟩ := xo_if hf
  refine yc_cast (pc := 89) (aArr_T hτ9) hi_ dX6_init_89 ?_
  refine xr_dup (pc := 90) dX6_init_90 rfl ?_
  refine xr_iconst (pc := 91) dX6_init_91 xci_1 ?_
  refine xr_bipush (pc := 92) dX6_init_92 xcb_101 ?_
  obtain ⟨hi_, hf⟩ := xo_if hf
  refine yc_cast (pc := 94) (aArr_T hτ9) hi_ dX6_init_94 ?_
  refine xr_dup (pc := 95) dX6_init_95 rfl ?_
  refine xr_iconst (pc := 96) dX6_init_96 xci_2 ?_
  refine xr_bipush (pc := 97) dX6_init_97 xcb_97 ?_
  obtain ⟨hi_, hf⟩ := xo_if hf
  refine yc_cast (pc := 99) (aArr_T hτ9) hi_ dX6_init_99 ?_
  refine xr_dup (pc := 100) dX6_init_100 rfl ?_
  refine xr_iconst (pc := 101) dX6_init_101 xci_3 ?_
  refine xr_bipush (pc := 102) dX6_init_102 xcb_99 ?_
  obtain ⟨hi_, hf⟩ := xo_if hf
  refine yc_cast (pc := 104) (aArr_T hτ9) hi_ dX6_init_104 ?_
  refine xr_dup (pc := 105) dX6_init_105 rfl ?_
  refine xr_iconst (pc := 106) dX6_init_106 xci_4 ?_
  refine xr_bipush (pc := 107) dX6_init_107 xcb_104 ?_
  obtain ⟨hi_, hf⟩ := xo_if hf
  refine yc_cast (pc := 109) (aArr_T hτ9) hi_ dX6_init_109 ?_
  obtain ⟨ht10, hf⟩ := xo_if hf
  refine yc_putFRs (pc := 110) 21 13 2113 ht10 (by decide) (by decide) (by decide) rfl rfl rfl (ty := (.array .char)) (by decide +kernel) rfl q1759 rfl rfl rfl dX6_init_110 ?_
  refine xr_aload_n (pc := 113) 0 dX6_init_113 rfl rfl ?_
  refine xr_iconst (pc := 114) dX6_init_114 xci_4 ?_
  obtain ⟨r11, τ11, hτ11, hf⟩ := xo_bd hf
  refine yc_aArr (pc := 115) 102 (by decide) (by decide) rfl (Or.inl rfl) (by decide +kernel) (by decide) q701 hτ11 dX6_init_115 ?_
  refine xr_dup (pc := 117) dX6_init_117 rfl ?_
  refine xr_iconst (pc := 118) dX6_init_118 xci_0 ?_
  refine xr_bipush (pc := 119) dX6_init_119 xcb_114 ?_
  obtain ⟨hi_, hf⟩ := xo_if hf
  refine yc_cast (pc := 121) (aArr_T hτ11) hi_ dX6_init_121 ?_
  refine xr_dup (pc := 122) dX6_init_122 rfl ?_
  refine xr_iconst (pc := 123) dX6_init_123 xci_1 ?_
  refine xr_bipush (pc := 124) dX6_init_124 xcb_117 ?_
  obtain ⟨hi_, hf⟩ := xo_if hf
  refine yc_cast (pc := 126) (aArr_T hτ11) hi_ dX6_init_126 ?_
  refine xr_dup (pc := 127) dX6_init_127 rfl ?_
  refine xr_iconst (pc := 128) dX6_init_128 xci_2 ?_
  refine xr_bipush (pc := 129) dX6_init_129 xcb_110 ?_
  obtain ⟨hi_, hf⟩ := xo_if hf
  refine yc_cast (pc := 131) (aArr_T hτ11) hi_ dX6_init_131 ?_
  refine xr_dup (pc := 132) dX6_init_132 rfl ?_
  refine xr_iconst (pc := 133) dX6_init_133 xci_3 ?_
  refine xr_bipush (pc := 134) dX6_init_134 xcb_115 ?_
  obtain ⟨hi_, hf⟩ := xo_if hf
  refine yc_cast (pc := 136) (aArr_T hτ11) hi_ dX6_init_136 ?_
  obtain ⟨ht12, hf⟩ := xo_if hf
  refine yc_putFRs (pc := 137) 21 14 2114 ht12 (by decide) (by decide) (by decide) rfl rfl rfl (ty := (.array .char)) (by decide +kernel) rfl q1760 rfl rfl rfl dX6_init_137 ?_
  refine xr_aload_n (pc := 140) 0 dX6_init_140 rfl rfl ?_
  refine xr_iconst (pc := 141) dX6_init_141 xci_4 ?_
  obtain ⟨r13, τ13, hτ13, hf⟩ := xo_bd hf
  refine yc_aArr (pc := 142) 102 (by decide) (by decide) rfl (Or.inl rfl) (by decide +kernel) (by decide) q701 hτ13 dX6_init_142 ?_
  refine xr_dup (pc := 144) dX6_init_144 rfl ?_
  refine xr_iconst (pc := 145) dX6_init_145 xci_0 ?_
  refine xr_bipush (pc := 146) dX6_init_146 xcb_115 ?_
  obtain ⟨hi_, hf⟩ := xo_if hf
  refine yc_cast (pc := 148) (aArr_T hτ13) hi_ dX6_init_148 ?_
  refine xr_dup (pc := 149) dX6_init_149 rfl ?_
  refine xr_iconst (pc := 150) dX6_init_150 xci_1 ?_
  refine xr_bipush (pc := 151) dX6_init_151 xcb_111 ?_
  obtain ⟨hi_, hf⟩ := xo_if hf
  refine yc_cast (pc := 153) (aArr_T hτ13) hi_ dX6_init_153 ?_
  refine xr_dup (pc := 154) dX6_init_154 rfl ?_
  refine xr_iconst (pc := 155) dX6_init_155 xci_2 ?_
  refine xr_bipush (pc := 156) dX6_init_156 xcb_105 ?_
  obtain ⟨hi_, hf⟩ := xo_if hf
  refine yc_cast (pc := 158) (aArr_T hτ13) hi_ dX6_init_158 ?_
  refine xr_dup (pc := 159) dX6_init_159 rfl ?_
  refine xr_iconst (pc := 160) dX6_init_160 xci_3 ?_
  refine xr_bipush (pc := 161) dX6_init_161 xcb_108 ?_
  obtain ⟨hi_, hf⟩ := xo_if hf
  refine yc_cast (pc := 163) (aArr_T hτ13) hi_ dX6_init_163 ?_
  obtain ⟨ht14, hf⟩ := xo_if hf
  refine yc_putFRs (pc := 164) 21 15 2115 ht14 (by decide) (by decide) (by decide) rfl rfl rfl (ty := (.array .char)) (by decide +kernel) rfl q1761 rfl rfl rfl dX6_init_164 ?_
  exact ok_Jc_X6_init_167 hf kr
def f_a_X6_init (x0 : Nat) (τ : CS) : Option CS :=
  xbd (aArr 100 (1600 : Int32) τ) fun r1 τ1 =>
  if gT τ1.1 x0 = 21 then
  xbd (aArr 100 (6 : Int32) ((vR τ1.1 2100 x0 (some r1)), uI τ1.2 2108 x0 (-1))) fun r3 τ3 =>
  if gT τ3.1 x0 = 21 then
  xbd (aArr 102 (6 : Int32) (vR τ3.1 2109 x0 (some r3), τ3.2)) fun r5 τ5 =>
  if xin 0 (gN τ5.1 r5) = true then
  if xin 1 (gN τ5.1 r5) = true then
  if xin 2 (gN τ5.1 r5) = true then
  if xin 3 (gN τ5.1 r5) = true then
  if xin 4 (gN τ5.1 r5) = true then
  if xin 5 (gN τ5.1 r5) = true then
  if gT τ5.1 x0 = 21 then
  Jc_X6_init_64 x0 (vR τ5.1 2111 x0 (some r5), (uA (uA (uA (uA (uA (uA τ5.2 r5 (0 : Int32).toNatClampNeg ((118 : Int32).toUInt32.toUInt16.toUInt32.toInt32)) r5 (1 : Int32).toNatClampNeg ((97 : Int32).toUInt32.toUInt16.toUInt32.toInt32)) r5 (2 : Int32).toNatClampNeg ((108 : Int32).toUInt32.toUInt16.toUInt32.toInt32)) r5 (3 : Int32).toNatClampNeg ((108 : Int32).toUInt32.toUInt16.toUInt32.toInt32)) r5 (4 : Int32).toNatClampNeg ((101 : Int32).toUInt32.toUInt16.toUInt32.toInt32)) r5 (5 : Int32).toNatClampNeg ((121 : Int32).toUInt32.toUInt16.toUInt32.toInt32)))
  else none
  else none
  else none
  else none
  else none
  else none
  else none
  else none
  else none
theorem ok_f_a_X6_init {D : CD} {P : CP} {K : xK} {Z : Option Value × CS} {x0 : Nat} {τ : CS} {o_ : CS} (hf : f_a_X6_init x0 τ = some o_) (kr : ∀ r_ : CS, o_ = r_ → Z = (none, r_)) : xV (wC D P) K mX6_init (xQ (wC D P) K Z) τ 0 [(0, .ref x0)] [] := by
  unfold f_a_X6_init at hf
  refine xr_aload_n (pc := 0) 0 dX6_init_0 rfl rfl ?_
  refine xr_objInit (pc := 1) q1745 rfl (Nat.le_of_ble_eq_true rfl) (Nat.le_of_ble_eq_true rfl) (Nat.le_of_ble_eq_true rfl) dX6_init_1 ?_
  refine xr_aload_n (pc := 4) 0 dX6_init_4 rfl rfl ?_
  refine xr_sipush (pc := 5) dX6_init_5 xcs_1600 ?_
  obtain ⟨r1, τ1, hτ1, hf⟩ := xo_bd hf
  refine yc_aArr (pc := 8) 100 (by decide) (by decide) rfl (Or.inl rfl) (by decide +kernel) (by decide) q256 hτ1 dX6_init_8 ?_
  obtain ⟨ht2, hf⟩ := xo_if hf
  refine yc_putFRs (pc := 10) 21 0 2100 ht2 (by decide) (by decide) (by decide) rfl rfl rfl (ty := (.array .int)) (by decide +kernel) rfl q1746 rfl rfl rfl dX6_init_10 ?_
  refine xr_aload_n (pc := 13) 0 dX6_init_13 rfl rfl ?_
  refine xr_iconst (pc := 14) dX6_init_14 xci_m1 ?_
  refine yc_putI (pc := 15) 21 8 2108 ht2 (by decide) (by decide) (by decide) rfl rfl rfl (ty := .int) (by decide +kernel) rfl rfl q1754 (ys_eq rfl) rfl dX6_init_15 ?_
  refine xr_aload_n (pc := 18) 0 dX6_init_18 rfl rfl ?_
  refine xr_bipush (pc := 19) dX6_init_19 xcb_6 ?_
  obtain ⟨r3, τ3, hτ3, hf⟩ := xo_bd hf
  refine yc_aArr (pc := 21) 100 (by decide) (by decide) rfl (Or.inl rfl) (by decide +kernel) (by decide) q256 hτ3 dX6_init_21 ?_
  obtain ⟨ht4, hf⟩ := xo_if hf
  refine yc_putFRs (pc := 23) 21 9 2109 ht4 (by decide) (by decide) (by decide) rfl rfl rfl (ty := (.array .int)) (by decide +kernel) rfl q1755 rfl rfl rfl dX6_init_23 ?_
  refine xr_aload_n (pc := 26) 0 dX6_init_26 rfl rfl ?_
  refine xr_bipush (pc := 27) dX6_init_27 xcb_6 ?_
  obtain ⟨r5, τ5, hτ5, hf⟩ := xo_bd hf
  refine yc_aArr (pc := 29) 102 (by decide) (by decide) rfl (Or.inl rfl) (by decide +kernel) (by decide) q701 hτ5 dX6_init_29 ?_
  refine xr_dup (pc := 31) dX6_init_31 rfl ?_
  refine xr_iconst (pc := 32) dX6_init_32 xci_0 ?_
  refine xr_bipush (pc := 33) dX6_init_33 xcb_118 ?_
  obtain ⟨hi_, hf⟩ := xo_if hf
  refine yc_cast (pc := 35) (aArr_T hτ5) hi_ dX6_init_35 ?_
  refine xr_dup (pc := 36) dX6_init_36 rfl ?_
  refine xr_iconst (pc := 37) dX6_init_37 xci_1 ?_
  refine xr_bipush (pc := 38) dX6_init_38 xcb_97 ?_
  obtain ⟨hi_, hf⟩ := xo_if hf
  refine yc_cast (pc := 40) (aArr_T hτ5) hi_ dX6_init_40 ?_
  refine xr_dup (pc := 41) dX6_init_41 rfl ?_
  refine xr_iconst (pc := 42) dX6_init_42 xci_2 ?_
  refine xr_bipush (pc := 43) dX6_init_43 xcb_108 ?_
  obtain ⟨hi_, hf⟩ := xo_if hf
  refine yc_cast (pc := 45) (aArr_T hτ5) hi_ dX6_init_45 ?_
  refine xr_dup (pc := 46) dX6_init_46 rfl ?_
  refine xr_iconst (pc := 47) dX6_init_47 xci_3 ?_
  refine xr_bipush (pc := 48) dX6_init_48 xcb_108 ?_
  obtain ⟨hi_, hf⟩ := xo_if hf
  refine yc_cast (pc := 50) (aArr_T hτ5) hi_ dX6_init_50 ?_
  refine xr_dup (pc := 51) dX6_init_51 rfl ?_
  refine xr_iconst (pc := 52) dX6_init_52 xci_4 ?_
  refine xr_bipush (pc := 53) dX6_init_53 xcb_101 ?_
  obtain ⟨hi_, hf⟩ := xo_if hf
  refine yc_cast (pc := 55) (aArr_T hτ5) hi_ dX6_init_55 ?_
  refine xr_dup (pc := 56) dX6_init_56 rfl ?_
  refine xr_iconst (pc := 57) dX6_init_57 xci_5 ?_
  refine xr_bipush (pc := 58) dX6_init_58 xcb_121 ?_
  obtain ⟨hi_, hf⟩ := xo_if hf
  refine yc_cast (pc := 60) (aArr_T hτ5) hi_ dX6_init_60 ?_
  obtain ⟨ht6, hf⟩ := xo_if hf
  refine yc_putFRs (pc := 61) 21 11 2111 ht6 (by decide) (by decide) (by decide) rfl rfl rfl (ty := (.array .char)) (by decide +kernel) rfl q1757 rfl rfl rfl dX6_init_61 ?_
  exact ok_Jc_X6_init_64 hf kr
theorem met_f_a_X6_init (l : Launch) {D : CD} {P : CP} {x0 : Nat} {τ : CS} {o_ : CS} (hf : f_a_X6_init x0 τ = some o_) : xMet (wC D P) l yX6_init (ws_ yX6_init cX6_init 1 none) 1 60 (grc τ.1) (grs τ.1) [.ref x0] τ (none, o_) := 
  xMet_of (by decide) (Nat.le_of_ble_eq_true rfl) KC_moved (RPC_of (g := τ.1) (c := τ.2)) (fun K _ _ _ => ok_f_a_X6_init hf (fun _ h => by rw [h]))
