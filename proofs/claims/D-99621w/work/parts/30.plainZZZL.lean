/-! PLAIN LAW: the component reads facts -/
set_option maxRecDepth 100000
section ZZL0
variable {B : Nat → Nat} {n kx : Nat}
/-- a sum that begins with a word takes the word -/
def weQ (B : Nat → Nat) (n : Nat) : PRel := fun m _ p _ r => m ≤ 4 → p ≤ n → ∀ cs p', r = .inr (cs, p') → p ≤ p' ∧ p' ≤ n ∧ ((m = 0 ∨ m = 2 ∨ m = 4) → okW B n (sk B n p) = true → we B n (sk B n p) ≤ p')
theorem Parse_we {m o p : Nat} {acc : List Nat} {r : Res} (z : Parse B n kx m o p acc r) : weQ B n m o p acc r := by
  refine Parse.ind (Q := weQ B n) (fun m o p acc r z => ?_) z
  intro hm hp cs p' hr
  have g := sk_g (B := B) hp
  have ih : ∀ {m o p acc cs p1}, (Parse B n kx m o p acc (.inr (cs, p1)) ∧ weQ B n m o p acc (.inr (cs, p1))) → m ≤ 4 → p ≤ n → p ≤ p1 ∧ p1 ≤ n ∧ ((m = 0 ∨ m = 2 ∨ m = 4) → okW B n (sk B n p) = true → we B n (sk B n p) ≤ p1) := fun k h1 h2 => k.2 h1 h2 _ _ rfl
  have rows : ∀ m mr x y c1 c2 (o : Nat), m ≤ 4 → mr ≤ 4 → x < 256 → y < 256 → rst B n (fun m o p acc r => Parse B n kx m o p acc r ∧ weQ B n m o p acc r) m mr x y c1 c2 o p acc r → p ≤ p' ∧ p' ≤ n := by
    intro m mr x y c1 c2 o h1 h2 hx hy z
    rcases z with ⟨hc, ⟨f, -, e⟩ | ⟨cs1, p1, z1, z2⟩⟩ | ⟨-, -, e⟩
    · rw [hr] at e; cases e
    · have hlt : sk B n p < n := by rcases hc with e | e <;> exact (cur_lt e (by omega)).1
      rw [hr] at z2
      have q1 := ih z1 h1 (by omega)
      have q2 := ih z2 h2 q1.2.1
      omega
    · rw [hr] at e
      have e : (cs, p') = (acc, sk B n p) := by injection e
      have e : p' = sk B n p := by injection e
      omega
  unfold PStp at z
  rcases z with ⟨rfl, z⟩ | ⟨rfl, z⟩ | ⟨rfl, z⟩ | ⟨rfl, z⟩ | ⟨rfl, z⟩ | ⟨rfl, z⟩ | ⟨rfl, z⟩ | ⟨rfl, z⟩ | ⟨rfl, z⟩ | ⟨rfl, z⟩
  · rcases z with ⟨f, -, e⟩ | ⟨cs1, p1, z1, z2⟩
    · rw [hr] at e; cases e
    · rw [hr] at z2
      have q1 := ih z1 (by omega) hp
      have q2 := ih z2 (by omega) q1.2.1
      exact ⟨by omega, q2.2.1, fun _ h => by have := q1.2.2 (by omega) h; omega⟩
  · obtain ⟨q1, q2⟩ := rows 2 1 43 45 1 2 o (by omega) (by omega) (by omega) (by omega) z
    exact ⟨q1, q2, fun h => by omega⟩
  · rcases z with ⟨f, -, e⟩ | ⟨cs1, p1, z1, z2⟩
    · rw [hr] at e; cases e
    · rw [hr] at z2
      have q1 := ih z1 (by omega) hp
      have q2 := ih z2 (by omega) q1.2.1
      exact ⟨by omega, q2.2.1, fun _ h => by have := q1.2.2 (by omega) h; omega⟩
  · obtain ⟨q1, q2⟩ := rows 4 3 42 47 3 4 o (by omega) (by omega) (by omega) (by omega) z
    exact ⟨q1, q2, fun h => by omega⟩
  · rcases z with ⟨hc, z⟩ | ⟨hd, e⟩ | ⟨-, -, -, e⟩ | ⟨ho, z⟩
    · have c := cur_lt hc (by omega)
      rcases z with ⟨-, e⟩ | ⟨-, ⟨f, -, e⟩ | ⟨cs1, p1, z1, ⟨hc2, e⟩ | ⟨-, e⟩⟩⟩
      · rw [hr] at e; cases e
      · rw [hr] at e; cases e
      · rw [hr] at e
        have e : (cs, p') = (cs1, sk B n p1 + 1) := by injection e
        have e : p' = sk B n p1 + 1 := by injection e
        have q1 := ih z1 (by omega) (by omega)
        have g1 := sk_g (B := B) q1.2.1
        have c2 := cur_lt hc2 (by omega)
        refine ⟨by omega, by omega, fun _ h => ?_⟩
        exact absurd hc (okW_40 h).1
      · rw [hr] at e; cases e
    · rw [hr] at e
      unfold numA at e
      cases hh : numR B n (sk B n p) 0 9999 with
      | inl f => rw [hh] at e; cases e
      | inr f =>
        obtain ⟨v, e2⟩ := f
        rw [hh] at e
        have e : (cs, p') = ([1000 + v], e2) := by injection e
        have e : p' = e2 := by injection e
        obtain ⟨-, -, v3, v4⟩ := numR_in hh
        exact ⟨by omega, by omega, fun _ h => by rw [(dg_lt hd).2] at h; cases h⟩
    · rw [hr] at e; cases e
    · obtain ⟨w1, w2, -⟩ := okW_gt ho
      rcases z with ⟨k, -, -, -, e⟩ | ⟨-, j, -, -, z⟩ | ⟨t, -, -, z⟩ | ⟨-, -, -, e⟩
      · rw [hr] at e
        have e : (cs, p') = ([40 + k], we B n (sk B n p)) := by injection e
        have e : p' = we B n (sk B n p) := by injection e
        exact ⟨by omega, by omega, fun _ _ => by omega⟩
      · rcases z with ⟨-, e⟩ | ⟨-, ⟨f, -, e⟩ | ⟨cs1, p1, z1, e⟩⟩
        · rw [hr] at e; cases e
        · rw [hr] at e; cases e
        · rw [hr] at e
          have e : (cs, p') = (cs1 ++ [60 + j], p1) := by injection e
          have e : p' = p1 := by injection e
          have q1 := ih z1 (by omega) w2
          exact ⟨by omega, by omega, fun _ _ => by omega⟩
      · have gw := sk_g (B := B) w2
        rcases z with ⟨-, e⟩ | ⟨hc, ⟨-, e⟩ | ⟨-, ⟨f, -, e⟩ | ⟨cs1, p1, z1, ⟨hc2, ⟨f, -, e⟩ | ⟨cs2, p3, z2, ⟨hc3, e⟩ | ⟨-, e⟩⟩⟩ | ⟨-, e⟩⟩⟩⟩
        · rw [hr] at e; cases e
        · rw [hr] at e; cases e
        · rw [hr] at e; cases e
        · rw [hr] at e; cases e
        · rw [hr] at e
          have e : (cs, p') = (cs1 ++ cs2 ++ [5 + t], sk B n p3 + 1) := by injection e
          have e : p' = sk B n p3 + 1 := by injection e
          have c := cur_lt hc (by omega)
          have q1 := ih z1 (by omega) (by omega)
          have g1 := sk_g (B := B) q1.2.1
          have c2 := cur_lt hc2 (by omega)
          have q2 := ih z2 (by omega) (by omega)
          have g2 := sk_g (B := B) q2.2.1
          have c3 := cur_lt hc3 (by omega)
          exact ⟨by omega, by omega, fun _ _ => by omega⟩
        · rw [hr] at e; cases e
        · rw [hr] at e; cases e
      · rw [hr] at e; cases e
  all_goals omega
end ZZL0
section ZZL1
variable {kx X h : Nat} {g : CG} {c : CC}
theorem bV_le {b : Bool} {x y : Int64} (hx : x = if b = true then 1 else 0) (hy : y = bV b) : x = y := by rw [hx, hy]; rfl
/-- two sums against each other -/
theorem TVAL_than {z e1 e2 l1 h1 l2 h2 lo hi x : Nat} {cs1 cs2 : List Nat} (hx : x = 60 ∨ x = 62 ∨ x = 61) (hT : gT g z = 16) (hR1 : gR g 1600 z = some e1) (hR2 : gR g 1601 z = some e2) (hI : cI c 1602 z = nI x) (v1 : VAL kx X h l1 h1 g c e1 cs1) (v2 : VAL kx X h l2 h2 g c e2 cs2) (b0 : lo ≤ z ∧ z < hi) (b1 : lo ≤ l1 ∧ h1 ≤ hi) (b2 : lo ≤ l2 ∧ h2 ≤ hi) : TVAL kx X (h + 1) lo hi g c z (cs1 ++ cs2 ++ [cmpC x]) := by
  have hk : ∀ g' : CG, gT g' z = 16 → gK g' z = 16 := fun g' q => by show gT g' z % 1000 = 16; rw [q]
  obtain ⟨p1, p2, p3, G1, p4, p5, p6, p7⟩ := v1
  obtain ⟨q1, q2, q3, G2, q4, q5, q6, q7⟩ := v2
  have hcm : cmpC x < 12 := by rcases hx with rfl | rfl | rfl <;> decide
  refine ⟨by rw [hk g hT]; rfl, b0.1, b0.2, fun env lk => if x = 60 then decide (G1 env lk < G2 env lk) else if x = 62 then decide (G2 env lk < G1 env lk) else decide (G1 env lk = G2 env lk), fun env lk p => ?_, fun k hk => ?_, fun g' c' hg hc hX m arr hm lk hl hlb d hd => ?_⟩
  · rw [run_append, run_append, p4, Option.bind_some, q4, Option.bind_some, run_op hcm]
    congr 2
    show join (cmpC x) (G1 env lk) (G2 env lk) = bV (if x = 60 then decide (G1 env lk < G2 env lk) else if x = 62 then decide (G2 env lk < G1 env lk) else decide (G1 env lk = G2 env lk))
    unfold bV
    rcases hx with rfl | rfl | rfl
    · rw [show cmpC 60 = 7 by decide, join_7, if_pos rfl]; simp only [decide_eq_true_eq]
    · rw [show cmpC 62 = 8 by decide, join_8, if_neg (show ¬ 62 = 60 by decide), if_pos (show 62 = 62 from rfl)]; simp only [decide_eq_true_eq]
    · rw [show cmpC 61 = 9 by decide, join_9, if_neg (show ¬ 61 = 60 by decide), if_neg (show ¬ 61 = 62 by decide)]; simp only [decide_eq_true_eq]
  · simp only [List.mem_append, List.mem_singleton] at hk
    rcases hk with (hk | hk) | hk
    · exact p6 k hk
    · exact q6 k hk
    · exact Or.inl (by omega)
  · obtain ⟨d', rfl⟩ : ∃ d', d = d' + 1 := ⟨d - 1, by omega⟩
    have hT' : gT g' z = 16 := by rw [(hg z b0.1 b0.2).1]; exact hT
    have a1 := p7 g' c' (fun a a1 a2 => hg a (by omega) (by omega)) (fun a a1 a2 => hc a (by omega) (by omega)) hX m arr hm lk hl hlb d' (by omega)
    have a2 := q7 g' c' (fun a a1 a2 => hg a (by omega) (by omega)) (fun a a1 a2 => hc a (by omega) (by omega)) hX m arr hm lk hl hlb d' (by omega)
    show (if gK g' z = 15 then _ else if gK g' z = 16 then f_c_X18_holds g' (d_at d') z m c' else _) = _
    rw [if_neg (by rw [hk g' hT']; decide), if_pos (hk g' hT')]
    unfold f_c_X18_holds
    rw [if_pos hT', (hg z b0.1 b0.2).2.2.1, hR1, Option.bind_some, a1, xbd_some, (hg z b0.1 b0.2).2.2.1, hR2, Option.bind_some, a2, xbd_some, (hc z b0.1 b0.2).1, hI]
    show _ = some (b32 (if x = 60 then decide (G1 (fun k => clip (cM c' arr k)) lk < G2 (fun k => clip (cM c' arr k)) lk) else if x = 62 then decide (G2 (fun k => clip (cM c' arr k)) lk < G1 (fun k => clip (cM c' arr k)) lk) else decide (G1 (fun k => clip (cM c' arr k)) lk = G2 (fun k => clip (cM c' arr k)) lk)), c')
    generalize G1 (fun k => clip (cM c' arr k)) lk = u
    generalize G2 (fun k => clip (cM c' arr k)) lk = w
    have e1 : (0 ≤ lg_cmp u w) ↔ ¬ u < w := by rw [lg_cmp_ge, Int64.le_iff_toInt_le, Int64.lt_iff_toInt_lt]; omega
    have e2 : (lg_cmp u w ≤ 0) ↔ ¬ w < u := by rw [lg_cmp_le, Int64.le_iff_toInt_le, Int64.lt_iff_toInt_lt]; omega
    have e3 := lg_cmp_eq u w
    rcases hx with rfl | rfl | rfl
    · rw [if_pos (show nI 60 = 60 from rfl), if_pos rfl]
      by_cases hh : u < w
      · rw [if_neg (fun q => (e1.mp q) hh), decide_eq_true hh]; rfl
      · rw [if_pos (e1.mpr hh), decide_eq_false hh]; rfl
    · rw [if_neg (show ¬ nI 62 = 60 by decide), if_pos (show nI 62 = 62 from rfl), if_neg (show ¬ 62 = 60 by decide), if_pos (show 62 = 62 from rfl)]
      by_cases hh : w < u
      · rw [if_neg (fun q => (e2.mp q) hh), decide_eq_true hh]; rfl
      · rw [if_pos (e2.mpr hh), decide_eq_false hh]; rfl
    · rw [if_neg (show ¬ nI 61 = 60 by decide), if_neg (show ¬ nI 61 = 62 by decide), if_neg (show ¬ 61 = 60 by decide), if_neg (show ¬ 61 = 62 by decide)]
      by_cases hh : u = w
      · rw [if_pos (e3.mpr hh), decide_eq_true hh]; rfl
      · rw [if_neg (fun q => hh (e3.mp q)), decide_eq_false hh]; rfl
theorem TVAL_not {z e1 l1 h1 lo hi : Nat} {cs1 : List Nat} (hT : gT g z = 14) (hR1 : gR g 1400 z = some e1) (v1 : TVAL kx X h l1 h1 g c e1 cs1) (b0 : lo ≤ z ∧ z < hi) (b1 : lo ≤ l1 ∧ h1 ≤ hi) : TVAL kx X (h + 1) lo hi g c z (cs1 ++ [12]) := by
  have hk : ∀ g' : CG, gT g' z = 14 → gK g' z = 14 := fun g' q => by show gT g' z % 1000 = 14; rw [q]
  obtain ⟨p1, p2, p3, H1, p4, p6, p7⟩ := v1
  refine ⟨by rw [hk g hT]; rfl, b0.1, b0.2, fun env lk => !(H1 env lk), fun env lk p => ?_, fun k hk => ?_, fun g' c' hg hc hX m arr hm lk hl hlb d hd => ?_⟩
  · rw [run_append, p4, Option.bind_some]
    show (run1 env lk 12 (bV (H1 env lk) :: p)).bind (run env lk []) = some (bV (!(H1 env lk)) :: p)
    unfold run1
    rw [if_neg (by decide), if_neg (by decide), if_neg (by decide), if_neg (by decide), if_pos rfl]
    cases H1 env lk
    · show some ((1 - bV false) :: p) = some (bV true :: p)
      rw [show (1 : Int64) - bV false = bV true by decide]
    · show some ((1 - bV true) :: p) = some (bV false :: p)
      rw [show (1 : Int64) - bV true = bV false by decide]
  · simp only [List.mem_append, List.mem_singleton] at hk
    rcases hk with hk | hk
    · exact p6 k hk
    · exact Or.inl (by omega)
  · obtain ⟨d', rfl⟩ : ∃ d', d = d' + 1 := ⟨d - 1, by omega⟩
    have hT' : gT g' z = 14 := by rw [(hg z b0.1 b0.2).1]; exact hT
    have a1 := p7 g' c' (fun a a1 a2 => hg a (by omega) (by omega)) (fun a a1 a2 => hc a (by omega) (by omega)) hX m arr hm lk hl hlb d' (by omega)
    show (if gK g' z = 15 then _ else if gK g' z = 16 then _ else if gK g' z = 14 then f_c_X16_holds g' (d_ho d') z m c' else _) = _
    rw [if_neg (by rw [hk g' hT']; decide), if_neg (by rw [hk g' hT']; decide), if_pos (hk g' hT')]
    unfold f_c_X16_holds
    rw [if_pos hT', (hg z b0.1 b0.2).2.2.1, hR1, Option.bind_some, a1, xbd_some]
    show _ = some (b32 (!(H1 (fun k => clip (cM c' arr k)) lk)), c')
    cases H1 (fun k => clip (cM c' arr k)) lk
    · rw [if_pos (show b32 false = 0 by decide)]; rfl
    · rw [if_neg (show ¬ b32 true = 0 by decide)]; rfl
theorem TVAL_all {z hi : Nat} (hT : gT g z = 15) (hh : z < hi) : TVAL kx X 1 z hi g c z [13] := by
  have hk : ∀ g' : CG, gT g' z = 15 → gK g' z = 15 := fun g' q => by show gT g' z % 1000 = 15; rw [q]
  refine ⟨by rw [hk g hT]; rfl, Nat.le_refl _, hh, fun _ _ => true, fun env lk p => ?_, fun k hk => ?_, fun g' c' hg hc hX m arr hm lk hl hlb d hd => ?_⟩
  · show (run1 env lk 13 p).bind (run env lk []) = _
    unfold run1
    rw [if_neg (by decide), if_neg (by decide), if_neg (by decide), if_pos rfl]; rfl
  · simp only [List.mem_singleton] at hk
    exact Or.inl (by omega)
  · obtain ⟨d', rfl⟩ : ∃ d', d = d' + 1 := ⟨d - 1, by omega⟩
    have hT' : gT g' z = 15 := by rw [(hg z (Nat.le_refl _) hh).1]; exact hT
    show (if gK g' z = 15 then f_c_X17_holds g' z m c' else _) = _
    rw [if_pos (hk g' hT')]; rfl
end ZZL1
