set_option maxRecDepth 100000
/-! a line of the class in the heap. z: the addresses: z.1 0 the line, 1 its list, 2 the list's elements, 3 the boxes, 4 the far row, 5 where bodies go, 6.. the boxes' rows; z.2.1 l i: a box; z.2.2 b: a body -/
abbrev zW : Type := (Nat → Nat) × (Nat → Nat → Nat) × (Nat → Nat)
abbrev zAr : Type := Nat → Option Nat
/-- whether a body may move, and its class -/
def zmv (a : Nat → Int32) (b : Nat) : Int32 := if a (7 + 4 * b + 2) = 1 then 0 else 1
def zkd (a : Nat → Int32) (b : Nat) : Nat := if a (7 + 4 * b + 2) = 1 then 6 else 7
def zl_obj (h : zw_H) (z : zW) (a : Nat → Int32) (fm : Int32) : Prop := h (z.1 0) = some (.inr (2, [.ref (z.1 1), .ref (z.1 3), .int (a 3), .int (a 4), .int (a 5), .int (a 6), .int (a 1), .ref (z.1 4), .ref (z.1 5), .int fm]))
def zl_lst (h : zw_H) (z : zW) (n : Nat) : Prop := ∃ (mc : Int32) (te cap : Nat) (fe : zAr), h (z.1 1) = some (.inr (9, [.int mc, .ref (z.1 2), .int (Int32.ofNat n)])) ∧ h (z.1 2) = some (.inl (te, cap, .inr (.inr (.inr (.inr fe))))) ∧ (te = 5 ∨ te = 12) ∧ n ≤ cap ∧ cap ≤ 40 ∧ (te = 12 → cap = 0) ∧ ∀ b, b < n → fe b = some (z.2.2 b)
def zl_bod (h : zw_H) (z : zW) (a : Nat → Int32) (n : Nat) : Prop := ∀ b, b < n → h (z.2.2 b) = some (.inr (zkd a b, [.int (a (7 + 4 * b)), .int (a (7 + 4 * b + 1)), .int (a (7 + 4 * b + 3)), .int (zmv a b)]))
def zl_box (h : zw_H) (z : zW) : Prop := (∃ fr : zAr, h (z.1 3) = some (.inl (7, 6, .inr (.inr (.inr (.inr fr))))) ∧ ∀ l, l < 6 → fr l = some (z.1 (6 + l))) ∧ (∀ l, l < 6 → ∃ fb : zAr, h (z.1 (6 + l)) = some (.inl (6, 2 ^ l, .inr (.inr (.inr (.inr fb))))) ∧ ∀ i, i < 2 ^ l → fb i = some (z.2.1 l i)) ∧ ∀ l, l < 6 → ∀ i, i < 2 ^ l → h (z.2.1 l i) = some (.inr (4, [.int (Int32.ofNat l), .int (Int32.ofNat i), .int (sp_wide (Int32.ofNat l)), .int (sp_centre (Int32.ofNat l) (Int32.ofNat i))]))
def zl_far (h : zw_H) (z : zW) (f : zAr) : Prop := h (z.1 4) = some (.inl (6, 20, .inr (.inr (.inr (.inr f)))))
def zl_to (h : zw_H) (z : zW) : Prop := ∃ f : Nat → Int32, h (z.1 5) = some (.inl (0, 24, .inl f))
def zl_inj (z : zW) (n : Nat) : Prop := ∀ b c, b < n → c < n → z.2.2 b = z.2.2 c → b = c
/-- the line stands in the heap, with this far list -/
def zLn (h : zw_H) (z : zW) (a : Nat → Int32) (n : Nat) (fm : Int32) (f : zAr) : Prop := zl_obj h z a fm ∧ zl_lst h z n ∧ zl_bod h z a n ∧ zl_box h z ∧ zl_far h z f ∧ zl_to h z ∧ zl_inj z n
def zLine (h : zw_H) (z : zW) (a : Nat → Int32) (n : Nat) : Prop := ∃ fm f, zLn h z a n fm f
/-- what a line's addresses are -/
def zFt (z : zW) (n q : Nat) : Prop := (∃ k, k < 12 ∧ q = z.1 k) ∨ (∃ l i, l < 6 ∧ i < 2 ^ l ∧ q = z.2.1 l i) ∨ ∃ b, b < n ∧ q = z.2.2 b
theorem zLn.frame {h h' : zw_H} {z : zW} {a : Nat → Int32} {n : Nat} {fm : Int32} {f : zAr} (g : zLn h z a n fm f) (e : ∀ q, zFt z n q → h' q = h q) : zLn h' z a n fm f := by
  have e1 : ∀ k, k < 12 → h' (z.1 k) = h (z.1 k) := fun k hk => e _ (Or.inl ⟨k, hk, rfl⟩)
  obtain ⟨g1, ⟨mc, te, cap, fe, g2, g3, g4⟩, g5, ⟨⟨fr, g6, g7⟩, g8, g9⟩, g10, ⟨ft, g11⟩, g12⟩ := g
  refine ⟨(e1 0 (by decide)).trans g1, ⟨mc, te, cap, fe, (e1 1 (by decide)).trans g2, (e1 2 (by decide)).trans g3, g4⟩, fun b hb => (e _ (Or.inr (Or.inr ⟨b, hb, rfl⟩))).trans (g5 b hb), ⟨⟨fr, (e1 3 (by decide)).trans g6, g7⟩, fun l hl => ?_, fun l hl i hi => (e _ (Or.inr (Or.inl ⟨l, i, hl, hi, rfl⟩))).trans (g9 l hl i hi)⟩, (e1 4 (by decide)).trans g10, ⟨ft, (e1 5 (by decide)).trans g11⟩, g12⟩
  obtain ⟨fb, k1, k2⟩ := g8 l hl
  exact ⟨fb, (e1 (6 + l) (by omega)).trans k1, k2⟩
/-- every address of a line is known -/
theorem zLn.dom {h : zw_H} {z : zW} {a : Nat → Int32} {n : Nat} {fm : Int32} {f : zAr} (g : zLn h z a n fm f) {q : Nat} (hq : zFt z n q) : h q ≠ none := by
  obtain ⟨g1, ⟨mc, te, cap, fe, g2, g3, g4⟩, g5, ⟨⟨fr, g6, g7⟩, g8, g9⟩, g10, ⟨ft, g11⟩, g12⟩ := g
  have k : ∀ {c : zw_C}, h q = some c → h q ≠ none := fun e => by rw [e]; exact Option.some_ne_none _
  rcases hq with ⟨j, hj, rfl⟩ | ⟨l, i, hl, hi, rfl⟩ | ⟨b, hb, rfl⟩
  · have hj2 : j = 0 ∨ j = 1 ∨ j = 2 ∨ j = 3 ∨ j = 4 ∨ j = 5 ∨ ∃ l, l < 6 ∧ j = 6 + l := by
      by_cases e : j < 6
      · omega
      · exact Or.inr (Or.inr (Or.inr (Or.inr (Or.inr (Or.inr ⟨j - 6, by omega, by omega⟩)))))
    rcases hj2 with rfl | rfl | rfl | rfl | rfl | rfl | ⟨l, hl, rfl⟩
    · exact k g1
    · exact k g2
    · exact k g3
    · exact k g6
    · exact k g10
    · exact k g11
    · obtain ⟨fb, k1, k2⟩ := g8 l hl
      exact k k1
  · exact k (g9 l hl i hi)
  · exact k (g5 b hb)
theorem z_ne {h : zw_H} {p q : Nat} {x y : zw_C} (h1 : h p = some x) (h2 : h q = some y) (e : x ≠ y) : p ≠ q := fun g => e (Option.some.inj ((g ▸ h1).symm.trans h2))
abbrev zAs : Type := (Nat → Int32) ⊕ (Nat → Int64) ⊕ (Nat → UInt32) ⊕ (Nat → UInt64) ⊕ (Nat → Option Nat)
theorem zn_rr {c d : Nat} {fs gs : List Value} (e : c ≠ d) : (Sum.inr (c, fs) : zw_C) ≠ .inr (d, gs) := fun g => e (congrArg Prod.fst (Sum.inr.inj g))
theorem zn_ll {t u n m : Nat} {x y : zAs} (e : t ≠ u ∨ n ≠ m) : (Sum.inl (t, n, x) : zw_C) ≠ .inl (u, m, y) := fun g => by
  have g := Sum.inl.inj g
  rcases e with e | e
  · exact e (congrArg (fun p => p.1) g)
  · exact e (congrArg (fun p => p.2.1) g)
theorem zn_lr {a : Nat × vp_A} {b : Nat × List Value} : (Sum.inl a : zw_C) ≠ .inr b := fun g => by cases g
theorem zn_rl {a : Nat × vp_A} {b : Nat × List Value} : (Sum.inr b : zw_C) ≠ .inl a := fun g => by cases g
theorem zkd_cases (a : Nat → Int32) (b : Nat) : zkd a b = 6 ∨ zkd a b = 7 := by
  unfold zkd
  split
  · exact Or.inl rfl
  · exact Or.inr rfl
theorem zkd_in (a : Nat → Int32) (b : Nat) : zkd a b ∈ [6, 7] := by
  rcases zkd_cases a b with e | e <;> rw [e] <;> decide
theorem z_20 {l : Nat} (h : l < 6) : 2 ^ l ≠ 20 := by
  have h9 : l = 0 ∨ l = 1 ∨ l = 2 ∨ l = 3 ∨ l = 4 ∨ l = 5 := by omega
  rcases h9 with rfl | rfl | rfl | rfl | rfl | rfl <;> decide
/-- the line's own number changed: its numbers and how many are on its far list -/
theorem zLn.obj {h : zw_H} {z : zW} {a a' : Nat → Int32} {n : Nat} {fm fm' : Int32} {f : zAr} (g : zLn h z a n fm f) (e : ∀ b, b < n → a' (7 + 4 * b) = a (7 + 4 * b) ∧ a' (7 + 4 * b + 1) = a (7 + 4 * b + 1) ∧ a' (7 + 4 * b + 2) = a (7 + 4 * b + 2) ∧ a' (7 + 4 * b + 3) = a (7 + 4 * b + 3)) {h' : zw_H} (hu : h' = zw_up h (z.1 0) (.inr (2, [.ref (z.1 1), .ref (z.1 3), .int (a' 3), .int (a' 4), .int (a' 5), .int (a' 6), .int (a' 1), .ref (z.1 4), .ref (z.1 5), .int fm']))) : zLn h' z a' n fm' f := by
  obtain ⟨g1, ⟨mc, te, cap, fe, g2, g3, g4⟩, g5, ⟨⟨fr, g6, g7⟩, g8, g9⟩, g10, ⟨ft, g11⟩, g12⟩ := g
  have key : ∀ {q : Nat} {c : zw_C}, h q = some c → c ≠ .inr (2, [.ref (z.1 1), .ref (z.1 3), .int (a 3), .int (a 4), .int (a 5), .int (a 6), .int (a 1), .ref (z.1 4), .ref (z.1 5), .int fm]) → h' q = some c := by
    intro q c hq hc
    rw [hu, k_u2 (z_ne hq g1 hc)]
    exact hq
  refine ⟨by unfold zl_obj; rw [hu]; exact k_u1 _ _ _, ⟨mc, te, cap, fe, key g2 (zn_rr (by decide)), key g3 zn_lr, g4⟩, fun b hb => ?_, ⟨⟨fr, key g6 zn_lr, g7⟩, fun l hl => ?_, fun l hl i hi => key (g9 l hl i hi) (zn_rr (show 4 ≠ 2 by decide))⟩, key g10 zn_lr, ⟨ft, key g11 zn_lr⟩, g12⟩
  · obtain ⟨e1, e2, e3, e4⟩ := e b hb
    have hk : zkd a' b = zkd a b := by unfold zkd; rw [e3]
    have hm : zmv a' b = zmv a b := by unfold zmv; rw [e3]
    rw [e1, e2, e4, hk, hm]
    refine key (g5 b hb) (zn_rr ?_)
    rcases zkd_cases a b with e | e <;> rw [e] <;> decide
  · obtain ⟨fb, k1, k2⟩ := g8 l hl
    exact ⟨fb, key k1 zn_lr, k2⟩
/-- a place of the far row written -/
theorem zLn.fr {h : zw_H} {z : zW} {a : Nat → Int32} {n : Nat} {fm : Int32} {f f' : zAr} (g : zLn h z a n fm f) {h' : zw_H} (hu : h' = zw_up h (z.1 4) (.inl (6, 20, .inr (.inr (.inr (.inr f')))))) : zLn h' z a n fm f' := by
  obtain ⟨g1, ⟨mc, te, cap, fe, g2, g3, g4⟩, g5, ⟨⟨fr, g6, g7⟩, g8, g9⟩, g10, ⟨ft, g11⟩, g12⟩ := g
  have key : ∀ {q : Nat} {c : zw_C}, h q = some c → c ≠ .inl (6, 20, .inr (.inr (.inr (.inr f)))) → h' q = some c := by
    intro q c hq hc
    rw [hu, k_u2 (z_ne hq g10 hc)]
    exact hq
  refine ⟨key g1 zn_rl, ⟨mc, te, cap, fe, key g2 zn_rl, key g3 (zn_ll (Or.inl ?_)), g4⟩, fun b hb => key (g5 b hb) zn_rl, ⟨⟨fr, key g6 (zn_ll (Or.inl (by decide))), g7⟩, fun l hl => ?_, fun l hl i hi => key (g9 l hl i hi) zn_rl⟩, by unfold zl_far; rw [hu]; exact k_u1 _ _ _, ⟨ft, key g11 (zn_ll (Or.inl (by decide)))⟩, g12⟩
  · rcases g4.1 with e | e <;> rw [e] <;> decide
  · obtain ⟨fb, k1, k2⟩ := g8 l hl
    exact ⟨fb, key k1 (zn_ll (Or.inr (z_20 hl))), k2⟩
section ZC1
variable {K : Nat → Option Nat} {X : String → Nat → zw_H → Prop} {h : zw_H} {z : zW} {a : Nat → Int32} {n : Nat} {fm : Int32} {f : zAr}
theorem l_c (g : zLn h z a n fm f) (P : Prop) : oc_ h (some (z.1 0)) [2] P = P := k_c g.1 (by decide) P
theorem l_lev (g : zLn h z a n fm f) (F : Int32 → Prop) : og_I h (some (z.1 0)) [2] 2 F = F (a 3) := k_gI g.1 (by decide) rfl F
theorem l_ord (g : zLn h z a n fm f) (F : Int32 → Prop) : og_I h (some (z.1 0)) [2] 3 F = F (a 4) := k_gI g.1 (by decide) rfl F
theorem l_fri (g : zLn h z a n fm f) (F : Int32 → Prop) : og_I h (some (z.1 0)) [2] 4 F = F (a 5) := k_gI g.1 (by decide) rfl F
theorem l_tim (g : zLn h z a n fm f) (F : Int32 → Prop) : og_I h (some (z.1 0)) [2] 5 F = F (a 6) := k_gI g.1 (by decide) rfl F
theorem l_mov (g : zLn h z a n fm f) (F : Int32 → Prop) : og_I h (some (z.1 0)) [2] 6 F = F (a 1) := k_gI g.1 (by decide) rfl F
theorem l_far (g : zLn h z a n fm f) (F : Option Nat → Prop) : og_A h (some (z.1 0)) [2] 7 F = F (some (z.1 4)) := k_gA g.1 (by decide) rfl F
theorem l_to (g : zLn h z a n fm f) (F : Option Nat → Prop) : og_A h (some (z.1 0)) [2] 8 F = F (some (z.1 5)) := k_gA g.1 (by decide) rfl F
theorem l_fm (g : zLn h z a n fm f) (F : Int32 → Prop) : og_I h (some (z.1 0)) [2] 9 F = F fm := k_gI g.1 (by decide) rfl F
theorem l_size (g : zLn h z a n fm f) {Q : Int32 → zw_H → Prop} : f_X4_size K (some (z.1 0)) h Q X = Q (Int32.ofNat n) h := by
  obtain ⟨mc, te, cap, fe, g2, g3, g4⟩ := g.2.1
  unfold f_X4_size f_J12_size
  rw [k_gA g.1 (by decide) rfl, k_c g2 (by decide), k_gI g2 (by decide) rfl]
theorem l_at (g : zLn h z a n fm f) (h24 : n ≤ 24) {b : Nat} (hb : b < n) {Q : Option Nat → zw_H → Prop} : f_X4_at K (some (z.1 0)) (Int32.ofNat b) h Q X = Q (some (z.2.2 b)) h := by
  obtain ⟨mc, te, cap, fe, g2, g3, g4, g5, g6, g7, g8⟩ := g.2.1
  unfold f_X4_at f_J12_get f_J12_elementData f_J21_checkIndex
  rw [k_gA g.1 (by decide) rfl, k_c g2 (by decide), k_gI g2 (by decide) rfl, e_chk (by omega) hb]
  try dsimp only
  rw [k_c g2 (by decide), k_gA g2 (by decide) rfl, k_rA g3 (by rcases g4 with e | e <;> rw [e] <;> decide) (zi_inn (by omega) (by omega)), zi_clamp (by omega), g8 b hb]
  exact k_n (g.2.2.1 b hb) (zkd_in a b) _
theorem l_x (g : zLn h z a n fm f) {b : Nat} (hb : b < n) (F : Int32 → Prop) : og_I h (some (z.2.2 b)) [6, 7] 0 F = F (a (7 + 4 * b)) := k_gI (g.2.2.1 b hb) (zkd_in a b) rfl F
theorem l_ch (g : zLn h z a n fm f) {b : Nat} (hb : b < n) (F : Int32 → Prop) : og_I h (some (z.2.2 b)) [6, 7] 1 F = F (a (7 + 4 * b + 1)) := k_gI (g.2.2.1 b hb) (zkd_in a b) rfl F
theorem l_mo (g : zLn h z a n fm f) {b : Nat} (hb : b < n) (F : Int32 → Prop) : og_I h (some (z.2.2 b)) [6, 7] 2 F = F (a (7 + 4 * b + 3)) := k_gI (g.2.2.1 b hb) (zkd_in a b) rfl F
theorem l_mv (g : zLn h z a n fm f) {b : Nat} (hb : b < n) (F : Int32 → Prop) : og_I h (some (z.2.2 b)) [6, 7] 3 F = F (zmv a b) := k_gI (g.2.2.1 b hb) (zkd_in a b) rfl F
theorem l_od (g : zLn h z a n fm f) {b : Nat} (hb : b < n) (P : Prop) : od_ h (some (z.2.2 b)) [6] [7] P P = P := by
  have h1 := g.2.2.1 b hb
  unfold od_
  simp only [h1]
  rcases zkd_cases a b with e | e <;> simp [e]
theorem l_box (g : zLn h z a n fm f) {l i : Nat} (hl : l < 6) (hi : i < 2 ^ l) {Q : Option Nat → zw_H → Prop} : f_X4_box K (some (z.1 0)) (Int32.ofNat l) (Int32.ofNat i) h Q X = Q (some (z.2.1 l i)) h := by
  obtain ⟨⟨fr, g6, g7⟩, g8, g9⟩ := g.2.2.2.1
  obtain ⟨fb, k1, k2⟩ := g8 l hl
  have hp := zi_p5 (show l ≤ 5 by omega)
  unfold f_X4_box
  rw [k_gA g.1 (by decide) rfl, k_rA g6 (by decide) (zi_inn hl (by decide)), zi_clamp (by omega), g7 l hl, k_rA k1 (by decide) (zi_inn hi (by omega)), zi_clamp (by omega), k2 i hi]
theorem l_around (g : zLn h z a n fm f) {l y : Nat} (hl : l < 6) (hy : y < 256) {Q : Option Nat → zw_H → Prop} : f_X4_around K (some (z.1 0)) (Int32.ofNat l) (Int32.ofNat y) h Q X = Q (some (z.2.1 l (zbx l y))) h := by
  obtain ⟨⟨fr, g6, g7⟩, g8, g9⟩ := g.2.2.2.1
  obtain ⟨fb, k1, k2⟩ := g8 l hl
  have hi := zbx_lt (l := l) (by omega) hy
  have hp := zi_p5 (show l ≤ 5 by omega)
  have hw : ((256 : Int32) >>> (Int32.ofNat l &&& 31)) = sp_wide (Int32.ofNat l) := rfl
  unfold f_X4_around
  rw [k_gA g.1 (by decide) rfl, k_rA g6 (by decide) (zi_inn hl (by decide)), zi_clamp (by omega), g7 l hl, hw, zi_box (by omega) hy, k_rA k1 (by decide) (zi_inn hi (by omega)), zi_clamp (by omega), k2 _ hi]
  exact propext ⟨fun g => g.2, fun g => ⟨zi_wide0 (by omega), g⟩⟩
theorem l_leaf (g : zLn h z a n fm f) {l y : Nat} (hl : l < 6) (ha : a 3 = Int32.ofNat l) (hy : y < 256) {Q : Option Nat → zw_H → Prop} : f_X4_leaf K (some (z.1 0)) (Int32.ofNat y) h Q X = Q (some (z.2.1 l (zbx l y))) h := by
  unfold f_X4_leaf
  rw [l_lev g, ha, l_c g, l_around g hl hy]
theorem b_c (g : zLn h z a n fm f) {l i : Nat} (hl : l < 6) (hi : i < 2 ^ l) (P : Prop) : oc_ h (some (z.2.1 l i)) [4] P = P := k_c (g.2.2.2.1.2.2 l hl i hi) (by decide) P
theorem b_lv (g : zLn h z a n fm f) {l i : Nat} (hl : l < 6) (hi : i < 2 ^ l) (F : Int32 → Prop) : og_I h (some (z.2.1 l i)) [4] 0 F = F (Int32.ofNat l) := k_gI (g.2.2.2.1.2.2 l hl i hi) (by decide) rfl F
theorem b_no (g : zLn h z a n fm f) {l i : Nat} (hl : l < 6) (hi : i < 2 ^ l) (F : Int32 → Prop) : og_I h (some (z.2.1 l i)) [4] 1 F = F (Int32.ofNat i) := k_gI (g.2.2.2.1.2.2 l hl i hi) (by decide) rfl F
theorem b_wd (g : zLn h z a n fm f) {l i : Nat} (hl : l < 6) (hi : i < 2 ^ l) (F : Int32 → Prop) : og_I h (some (z.2.1 l i)) [4] 2 F = F (sp_wide (Int32.ofNat l)) := k_gI (g.2.2.2.1.2.2 l hl i hi) (by decide) rfl F
theorem b_ct (g : zLn h z a n fm f) {l i : Nat} (hl : l < 6) (hi : i < 2 ^ l) (F : Int32 → Prop) : og_I h (some (z.2.1 l i)) [4] 3 F = F (sp_centre (Int32.ofNat l) (Int32.ofNat i)) := k_gI (g.2.2.2.1.2.2 l hl i hi) (by decide) rfl F
theorem b_has (g : zLn h z a n fm f) {l i : Nat} (hl : l < 6) (hi : i < 2 ^ l) {x : Int32} {Q : Int32 → zw_H → Prop} : f_X5_has K (some (z.2.1 l i)) x h Q X = Q (sp_b (x / sp_wide (Int32.ofNat l) = Int32.ofNat i)) h := by
  unfold f_X5_has
  rw [b_wd g hl hi, b_no g hl hi]
  by_cases e : x / sp_wide (Int32.ofNat l) = Int32.ofNat i
  · rw [if_neg (fun g => g e), sp_bt e]
    exact propext ⟨fun g => g.2, fun g => ⟨zi_wide0 (by omega), g⟩⟩
  · rw [if_pos e, sp_bf e]
    exact propext ⟨fun g => g.2, fun g => ⟨zi_wide0 (by omega), g⟩⟩
theorem b_first (g : zLn h z a n fm f) {l i : Nat} (hl : l < 6) (hi : i < 2 ^ l) {Q : Int32 → zw_H → Prop} : f_X5_first K (some (z.2.1 l i)) h Q X = Q (Int32.ofNat i * sp_wide (Int32.ofNat l)) h := by
  unfold f_X5_first
  rw [b_no g hl hi, b_wd g hl hi]
theorem b_isFar (g : zLn h z a n fm f) {l i o : Nat} (hl : l < 6) (hi : i < 2 ^ l) (ho : o < 2 ^ 30) {Q : Int32 → zw_H → Prop} : f_X5_isFarFrom K (some (z.2.1 l i)) (Int32.ofNat o) h Q X = Q (sp_b (1 < zdi i o ∧ zdi (i / 2) (o / 2) ≤ 1)) h := by
  have hp := zi_p5 (show l ≤ 5 by omega)
  unfold f_X5_isFarFrom
  rw [b_no g hl hi, e1_in]
  have e1 := zi_in1 (i := o) (j := i) ho (by omega)
  have hz : ∀ p q : Nat, zdi p q = zdi q p := fun p q => by unfold zdi; omega
  by_cases c1 : zdi i o ≤ 1
  · rw [sp_bt (e1.mpr (by rw [hz]; exact c1)), if_pos (by decide), sp_bf (fun e => by omega)]
  · rw [sp_bf (fun e => c1 (by rw [hz]; exact e1.mp e)), if_neg (by decide), b_no g hl hi, show Int32.ofNat o / 2 = Int32.ofNat (o / 2) from zi_div (b := 2) (by omega) (by omega) (by omega), show Int32.ofNat i / 2 = Int32.ofNat (i / 2) from zi_div (b := 2) (by omega) (by omega) (by omega), e1_in]
    have e2 := zi_in1 (i := o / 2) (j := i / 2) (by omega) (by omega)
    by_cases c2 : zdi (i / 2) (o / 2) ≤ 1
    · rw [sp_bt (e2.mpr (by rw [hz]; exact c2)), if_neg (by decide), sp_bt ⟨by omega, c2⟩]
      exact propext ⟨fun g => g.2.2, fun g => ⟨by decide, by decide, g⟩⟩
    · rw [sp_bf (fun e => c2 (by rw [hz]; exact e2.mp e)), if_pos rfl, sp_bf (fun e => c2 e.2)]
      exact propext ⟨fun g => g.2.2, fun g => ⟨by decide, by decide, g⟩⟩
theorem l_dist (g : zLn h z a n fm f) {b : Nat} (hb : b < n) {x : Int32} {Q : Int32 → zw_H → Prop} : f_X7_distance K (some (z.2.2 b)) x h Q X = Q (sp_far (a (7 + 4 * b)) x) h := by
  unfold f_X7_distance sp_far
  rw [l_x g hb]
  split
  · rename_i e
    rw [l_x g hb]
  · rename_i e
    rw [l_x g hb]
theorem l_near (g : zLn h z a n fm f) {l b x y : Nat} (hl : l < 6) (ha : a 3 = Int32.ofNat l) (hb : b < n) (hx : x < 256) (hxb : a (7 + 4 * b) = Int32.ofNat x) (hy : y < 256) {Q : Int32 → zw_H → Prop} : f_X4_isNear K (some (z.1 0)) (some (z.2.2 b)) (Int32.ofNat y) h Q X = Q (sp_b (sp_far (a (7 + 4 * b) / sp_wide (a 3)) (Int32.ofNat y / sp_wide (a 3)) ≤ 1)) h := by
  have h1 := zbx_lt (l := l) (y := x) (by omega) hx
  have h2 := zbx_lt (l := l) (y := y) (by omega) hy
  have hp := zi_p5 (show l ≤ 5 by omega)
  unfold f_X4_isNear
  rw [l_x g hb, hxb, l_c g, l_leaf g hl ha hx]
  try dsimp only
  rw [b_no g hl h1, l_c g, l_leaf g hl ha hy]
  try dsimp only
  rw [b_no g hl h2, e1_in, sp_b01, true_and, ha, zi_box (by omega) hx, zi_box (by omega) hy, zi_far (by omega) (by omega)]
  congr 1
  refine sp_cong ((zi_in1 (by omega) (by omega)).trans ?_)
  exact (zi_le (b := 1) (by unfold zdi; omega) (by omega)).symm
end ZC1
