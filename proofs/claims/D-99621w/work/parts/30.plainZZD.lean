/-! PLAIN LAW: texts that are alike; tables of words -/
set_option maxRecDepth 100000
/-- own words, words asked, looked up, told of, single texts -/
def ownL : List (List Nat) := [[118, 97, 108, 108, 101, 121], [98, 121], [114, 101, 97, 99, 104], [114, 117, 110, 115], [115, 111, 105, 108], [119, 105, 108, 108, 111, 119], [108, 111, 114, 100], [102, 114, 111, 109], [116, 111], [112, 97, 121, 115], [106, 111, 121], [112, 117, 114, 115, 101], [101, 97, 116, 115], [98, 101, 110, 100], [115, 112, 97, 116, 101], [99, 111, 108, 117, 109, 110], [114, 111, 119], [116, 117, 114, 110], [115, 101, 97, 115, 111, 110], [114, 111, 111, 116, 115], [112, 97, 121], [101, 118, 101, 114], [98, 101, 102, 111, 114, 101], [98, 101, 104, 105, 110, 100], [110, 117, 109, 98, 101, 114], [111, 102, 102, 101, 114, 115], [98, 101, 110, 100, 115], [111, 114], [97, 110, 100], [110, 111, 116], [97, 108, 108], [109, 105, 110], [109, 97, 120]]
def askL : List (List Nat) := [[99, 111, 108, 117, 109, 110], [114, 111, 119], [116, 117, 114, 110], [115, 101, 97, 115, 111, 110], [115, 111, 105, 108], [114, 111, 111, 116, 115], [112, 97, 121], [101, 118, 101, 114], [98, 101, 102, 111, 114, 101], [98, 101, 104, 105, 110, 100], [110, 117, 109, 98, 101, 114], [102, 114, 111, 109], [116, 111], [112, 97, 121, 115], [106, 111, 121], [112, 117, 114, 115, 101], [111, 102, 102, 101, 114, 115], [98, 101, 110, 100, 115]]
def lookL : List (List Nat) := [[114, 111, 119], [116, 117, 114, 110]]
def toldL : List (List Nat) := [[102, 105, 114, 115, 116], [108, 97, 115, 116], [111, 102, 116, 101, 110], [116, 111, 116, 97, 108], [109, 111, 115, 116], [108, 101, 97, 115, 116]]
def txtL : List (List Nat) := [[118, 97, 108, 108, 101, 121], [98, 121], [114, 101, 97, 99, 104], [114, 117, 110, 115], [115, 111, 105, 108], [119, 105, 108, 108, 111, 119], [108, 111, 114, 100], [102, 114, 111, 109], [116, 111], [112, 97, 121, 115], [106, 111, 121], [112, 117, 114, 115, 101], [101, 97, 116, 115], [98, 101, 110, 100], [115, 112, 97, 116, 101], [109, 105, 110], [109, 97, 120], [110, 111, 116], [97, 108, 108], [97, 110, 100], [111, 114]]
def okWs (W : List (List Nat)) : Bool := W.all fun L => decide (L.length < 10) && L.all fun x => decide (97 ≤ x) && decide (x ≤ 122)
theorem okWs_g {W : List (List Nat)} (h : okWs W = true) {k : Nat} (hk : k < W.length) : lts (W.getD k []) ∧ (W.getD k []).length < 10 := by
  unfold okWs at h
  rw [List.all_eq_true] at h
  have hm : W.getD k [] ∈ W := by rw [List.getD_eq_getElem?_getD, List.getElem?_eq_getElem hk]; exact List.getElem_mem hk
  have h1 := h _ hm
  simp only [Bool.and_eq_true, decide_eq_true_eq, List.all_eq_true] at h1
  refine ⟨fun i hi => ?_, h1.1⟩
  have hx : (W.getD k []).getD i 0 ∈ W.getD k [] := by rw [List.getD_eq_getElem?_getD (l := W.getD k []), List.getElem?_eq_getElem hi]; exact List.getElem_mem hi
  exact h1.2 _ hx
theorem ok_own : okWs ownL = true := by decide
theorem ok_ask : okWs askL = true := by decide
theorem ok_look : okWs lookL = true := by decide
theorem ok_told : okWs toldL = true := by decide
theorem ok_txt : okWs txtL = true := by decide
/-- a text that lies below M -/
def LStr (g : CG) (c : CC) (M a : Nat) (L : List Nat) : Prop := a < M ∧ gK g a = 19 ∧ cI c 1901 a = nI 0 ∧ L.length < 2000 ∧ ∃ b, b < M ∧ gR g 1900 a = some b ∧ gK g b = 103 ∧ gN g b = L.length ∧ ∀ i, i < L.length → cA c b i = nI (L.getD i 0)
def TAB (g : CG) (c : CC) (M k : Nat) (W : List (List Nat)) : Prop := gA g 0 k < M ∧ gK g (gA g 0 k) = 110 ∧ gN g (gA g 0 k) = W.length ∧ ∀ i, i < W.length → ∃ s, cP c (gA g 0 k) i = some s ∧ LStr g c M s (W.getD i [])
def LIT (g : CG) (c : CC) (M : Nat) : Prop := (∀ i, i < txtL.length → LStr g c M (gA g 0 (100 + i)) (txtL.getD i [])) ∧ TAB g c M 0 ownL ∧ TAB g c M 1 askL ∧ TAB g c M 2 lookL ∧ TAB g c M 3 toldL
theorem lts_eq {L L' : List Nat} (h : lts L) (h' : lts L') (hl : L.length = L'.length) (he : ∀ i, i < L.length → nI (L.getD i 0) = nI (L'.getD i 0)) : L = L' := by
  apply List.ext_getElem hl
  intro i h1 h2
  have e := he i h1
  have b1 := h i h1
  have b2 := h' i h2
  rw [nI_eq (by omega) (by omega)] at e
  rw [List.getD_eq_getElem?_getD, List.getElem?_eq_getElem h1, List.getD_eq_getElem?_getD, List.getElem?_eq_getElem h2] at e
  exact e
section ZZD
variable {g : CG} {c : CC} {M s s' : Nat} {L L' : List Nat}
theorem LStr.str (h : LStr g c M s L) : Str g c s L := by
  obtain ⟨-, h1, h2, h3, b, -, h4⟩ := h
  exact ⟨h1, h2, h3, b, h4⟩
theorem C_equals (h : Str g c s L) (h' : Str g c s' L') (hl : lts L) (hl' : lts L') : f_c_J6_equals g s s' c = some (b32 (decide (L = L')), c) := by
  obtain ⟨a1, a2, a3, b, a4, a5, a6, a7⟩ := h
  obtain ⟨d1, d2, d3, b', d4, d5, d6, d7⟩ := h'
  unfold f_c_J6_equals
  by_cases e : s = s'
  · subst e
    have eb : b = b' := by rw [a4] at d4; exact Option.some.inj d4
    subst eb
    have hll : L.length = L'.length := by rw [← a6, d6]
    have eL : L = L' := lts_eq hl hl' hll (fun i hi => by rw [← a7 i hi]; exact d7 i (by omega))
    rw [if_pos rfl, decide_eq_true eL]; rfl
  · rw [if_neg e, if_pos d1, if_pos a1, a2, d2, if_pos rfl]
    unfold Jc_J6_equals_36 f_c_J9_equals
    rw [if_pos a1, a4, Option.bind_some, if_pos d1, d4, Option.bind_some, if_pos a5, if_pos d5, a6, d6, show Int32.ofNat L.length = nI L.length from rfl, show Int32.ofNat L'.length = nI L'.length from rfl]
    by_cases el : L.length = L'.length
    · rw [if_pos (by rw [el])]
      have key : OK (itr (fun s_ : Int32 × CC => Bc_J9_equals_9 g b b' s_.1 s_.2) 4096 (0, c)) (fun o => (o = .inl c ∧ L = L') ∨ (o = .inr (0, c) ∧ L ≠ L')) := by
        refine itr_for (fun i st => st = (nI i, c) ∧ ∀ j, j < i → nI (L.getD j 0) = nI (L'.getD j 0)) _ 0 L.length ?_ ?_ (by omega) (by omega) ⟨rfl, fun j hj => absurd hj (Nat.not_lt_zero j)⟩
        · rintro i st - hi ⟨rfl, hj⟩
          show OK (Bc_J9_equals_9 g b b' (nI i) c) _
          unfold Bc_J9_equals_9
          rw [if_pos a5, a6, show Int32.ofNat L.length = nI L.length from rfl, if_neg (by rw [nI_leI (by omega) (by omega)]; omega), if_pos (xin_nI hi (by omega)), if_pos d5, d6, if_pos (xin_nI (show i < L'.length by omega) (by omega)), nI_clamp (show i < 2 ^ 31 by omega), a7 i hi, d7 i (by omega), nl_1, nI_add]
          by_cases e2 : nI (L.getD i 0) = nI (L'.getD i 0)
          · rw [if_pos e2]
            refine OK_some (Or.inl ⟨_, rfl, rfl, fun j hj2 => ?_⟩)
            by_cases ej : j = i
            · rw [ej]; exact e2
            · exact hj j (by omega)
          · rw [if_neg e2]
            exact OK_some (Or.inr ⟨_, rfl, Or.inr ⟨rfl, fun z => e2 (by rw [z])⟩⟩)
        · rintro st ⟨rfl, hj⟩
          show OK (Bc_J9_equals_9 g b b' (nI L.length) c) _
          unfold Bc_J9_equals_9
          rw [if_pos a5, a6, show Int32.ofNat L.length = nI L.length from rfl, if_pos (by rw [nI_leI (by omega) (by omega)]; omega)]
          exact OK_some ⟨_, rfl, Or.inl ⟨rfl, lts_eq hl hl' el hj⟩⟩
      obtain ⟨o, eo, ho⟩ := key
      rw [eo, Option.bind_some]
      rcases ho with ⟨rfl, hz⟩ | ⟨rfl, hz⟩
      · rw [Sum.elim_inl, xbd_some, if_neg (show ¬ (1 : Int32) = 0 by decide), decide_eq_true hz]; rfl
      · rw [Sum.elim_inr, xbd_some, if_pos rfl, decide_eq_false hz]; rfl
    · rw [if_neg (by rw [nI_eq (by omega) (by omega)]; exact el), xbd_some, if_pos rfl, decide_eq_false (fun z => el (by rw [z]))]; rfl
/-- a word is looked up in a table -/
def fndR (W : List (List Nat)) (L : List Nat) (r : Int32) : Prop := (∃ k, k < W.length ∧ r = nI k ∧ W.getD k [] = L ∧ ∀ j, j < k → W.getD j [] ≠ L) ∨ (r = -1 ∧ ∀ k, k < W.length → W.getD k [] ≠ L)
theorem C_find {k : Nat} {W : List (List Nat)} (hT : TAB g c M k W) (hW : okWs W = true) (hn : W.length < 100) (h : Str g c s L) (hl : lts L) : OK (f_c_X0_find g s (gA g 0 k) c) (fun o => o.2 = c ∧ fndR W L o.1) := by
  obtain ⟨-, t1, t2, t3⟩ := hT
  have key : OK (itr (fun s_ : Int32 × CC => Bc_X0_find_2 g s (gA g 0 k) s_.1 s_.2) 4096 (0, c)) (fun o => (o = .inl c ∧ ∀ k, k < W.length → W.getD k [] ≠ L) ∨ ∃ i, i < W.length ∧ o = .inr (nI i, c) ∧ W.getD i [] = L ∧ ∀ j, j < i → W.getD j [] ≠ L) := by
    refine itr_for (fun i st => st = (nI i, c) ∧ ∀ j, j < i → W.getD j [] ≠ L) _ 0 W.length ?_ ?_ (by omega) (by omega) ⟨rfl, fun j hj => absurd hj (Nat.not_lt_zero j)⟩
    · rintro i st - hi ⟨rfl, hj⟩
      obtain ⟨s2, q1, q2⟩ := t3 i hi
      obtain ⟨w1, w2⟩ := okWs_g hW hi
      show OK (Bc_X0_find_2 g s (gA g 0 k) (nI i) c) _
      unfold Bc_X0_find_2
      rw [if_pos t1, t2, show Int32.ofNat W.length = nI W.length from rfl, if_neg (by rw [nI_leI (by omega) (by omega)]; omega), if_pos (xin_nI hi (by omega)), nI_clamp (show i < 2 ^ 31 by omega), q1, Option.bind_some, if_pos q2.str.1, C_equals q2.str h w1 hl, xbd_some, nl_1, nI_add]
      by_cases e : W.getD i [] = L
      · rw [decide_eq_true e, if_neg (show ¬ b32 true = 0 by decide)]
        exact OK_some (Or.inr ⟨_, rfl, Or.inr ⟨i, hi, rfl, e, hj⟩⟩)
      · rw [decide_eq_false e, if_pos (show b32 false = 0 by decide)]
        refine OK_some (Or.inl ⟨_, rfl, rfl, fun j hj2 => ?_⟩)
        by_cases ej : j = i
        · rw [ej]; exact e
        · exact hj j (by omega)
    · rintro st ⟨rfl, hj⟩
      show OK (Bc_X0_find_2 g s (gA g 0 k) (nI W.length) c) _
      unfold Bc_X0_find_2
      rw [if_pos t1, t2, show Int32.ofNat W.length = nI W.length from rfl, if_pos (by rw [nI_leI (by omega) (by omega)]; omega)]
      exact OK_some ⟨_, rfl, Or.inl ⟨rfl, hj⟩⟩
  obtain ⟨o, eo, ho⟩ := key
  unfold f_c_X0_find
  rw [eo, Option.bind_some]
  rcases ho with ⟨rfl, hz⟩ | ⟨i, hi, rfl, e, hj⟩
  · rw [Sum.elim_inl]; exact OK_some ⟨rfl, Or.inr ⟨rfl, hz⟩⟩
  · rw [Sum.elim_inr]; exact OK_some ⟨rfl, Or.inl ⟨i, hi, rfl, e, hj⟩⟩
end ZZD
theorem LStr.pf {X M a : Nat} {τ τ' : CS} {L : List Nat} (h : LStr τ.1 τ.2 M a L) (hM : M ≤ X) (hX : X + 30 ≤ gz τ.1) (p : PF X τ τ') : LStr τ'.1 τ'.2 M a L := by
  obtain ⟨h0, h1, h2, h3, b, h4, h5, h6, h7, h8⟩ := h
  have q1 := p.2.1 a (by omega) (by omega)
  have q2 := p.2.1 b (by omega) (by omega)
  refine ⟨h0, ?_, ?_, h3, b, h4, by rw [q1.2.2.1]; exact h5, ?_, by rw [q2.2.1]; exact h7, fun i hi => ?_⟩
  · show gT τ'.1 a % 1000 = 19
    rw [q1.1]; exact h1
  · rw [(p.2.2.1 a (by omega) (by omega) (by omega)).1]; exact h2
  · show gT τ'.1 b % 1000 = 103
    rw [q2.1]; exact h6
  · rw [(p.2.2.1 b (by omega) (by omega) (by omega)).2.2.2.1]; exact h8 i hi
theorem TAB.pf {X M k : Nat} {τ τ' : CS} {W : List (List Nat)} (h : TAB τ.1 τ.2 M k W) (hM : M ≤ X) (hX : X + 30 ≤ gz τ.1) (p : PF X τ τ') : TAB τ'.1 τ'.2 M k W := by
  have e0 : gA τ'.1 0 k = gA τ.1 0 k := (p.2.1 0 (by omega) (by omega)).2.2.2 k
  obtain ⟨h0, h1, h2, h3⟩ := h
  have q1 := p.2.1 (gA τ.1 0 k) (by omega) (by omega)
  unfold TAB
  rw [e0]
  refine ⟨h0, ?_, by rw [q1.2.1]; exact h2, fun i hi => ?_⟩
  · show gT τ'.1 _ % 1000 = 110
    rw [q1.1]; exact h1
  · obtain ⟨s, s1, s2⟩ := h3 i hi
    exact ⟨s, by rw [(p.2.2.1 _ (by omega) (by omega) (by omega)).2.2.2.2.2]; exact s1, s2.pf hM hX p⟩
theorem LIT.pf {X M : Nat} {τ τ' : CS} (h : LIT τ.1 τ.2 M) (hM : M ≤ X) (hX : X + 30 ≤ gz τ.1) (p : PF X τ τ') : LIT τ'.1 τ'.2 M := by
  obtain ⟨h1, h2, h3, h4, h5⟩ := h
  refine ⟨fun i hi => ?_, h2.pf hM hX p, h3.pf hM hX p, h4.pf hM hX p, h5.pf hM hX p⟩
  rw [(p.2.1 0 (by omega) (by omega)).2.2.2 (100 + i)]
  exact (h1 i hi).pf hM hX p
