set_option maxRecDepth 100000
/-! the row of past lines -/
def zDq (h : zw_H) (p E hd u : Nat) (P : Nat → Nat) : Prop := ∃ fe : zAr, h p = some (.inr (8, [.ref E, .int (Int32.ofNat hd), .int (Int32.ofNat ((hd + u) % 17))])) ∧ h E = some (zAA 5 17 fe) ∧ hd < 17 ∧ u ≤ 8 ∧ ∀ k, k < u → fe ((hd + k) % 17) = some (P k)
def zDm (p E q : Nat) : Prop := q = p ∨ q = E
theorem zi_19 {c : Nat} (h : c < 19) : c ∈ [0, 1, 2, 3, 4, 5, 6, 7, 8, 9, 10, 11, 12, 13, 14, 15, 16, 17, 18] := by
  have h19 : ∀ c : Nat, c < 19 → c ∈ [0, 1, 2, 3, 4, 5, 6, 7, 8, 9, 10, 11, 12, 13, 14, 15, 16, 17, 18] := by decide
  exact h19 c h
section ZC10
variable {K : Nat → Option Nat} {X : String → Nat → zw_H → Prop} {h : zw_H} {p E hd u : Nat} {P : Nat → Nat}
theorem d_c (g : zDq h p E hd u P) (A : Prop) : oc_ h (some p) [8] A = A := by
  obtain ⟨fe, g1, -⟩ := g
  exact k_c g1 (by decide) A
theorem d_size (g : zDq h p E hd u P) {Q : Int32 → zw_H → Prop} : f_J1_size K (some p) h Q X = Q (Int32.ofNat u) h := by
  obtain ⟨fe, g1, g2, g3, g4, g5⟩ := g
  unfold f_J1_size f_J1_sub
  rw [k_gI g1 (by decide) rfl, k_gI g1 (by decide) rfl, k_gA g1 (by decide) rfl, k_l g2 (by decide)]
  simp only [olet_iff]
  have e := zi_subI (i := (hd + u) % 17) (j := hd) (by omega) (by omega)
  have h0 : (0 : Int32).toInt = 0 := rfl
  by_cases k : hd + u < 17
  · rw [if_pos (by rw [Int32.le_iff_toInt_le, e, h0]; omega), ← Int32.ofNat_sub _ _ (by omega), show (hd + u) % 17 - hd = u by omega]
  · rw [if_neg (by rw [Int32.le_iff_toInt_le, e, h0]; omega)]
    have e2 : Int32.ofNat ((hd + u) % 17) - Int32.ofNat hd + Int32.ofNat 17 = Int32.ofNat u := by
      rw [← Int32.toInt_inj, Int32.toInt_add, e, zi_nat (by decide), zi_nat (by omega)]
      have e3 : (((hd + u) % 17 : Nat) : Int) - hd + (17 : Nat) = u := by omega
      rw [e3]
      exact Int.bmod_eq_of_le (by omega) (by omega)
    rw [e2]
theorem d_inc {x : Nat} (hx : x < 17) {Q : Int32 → zw_H → Prop} : f_J1_inc K (Int32.ofNat x) (Int32.ofNat 17) h Q X = Q (Int32.ofNat ((x + 1) % 17)) h := by
  unfold f_J1_inc
  simp only [olet_iff, zi_succ]
  by_cases k : x + 1 < 17
  · rw [if_pos ((zi_lt (by omega) (by omega)).mpr k), show (x + 1) % 17 = x + 1 by omega]
  · rw [if_neg (fun e => k ((zi_lt (by omega) (by omega)).mp e)), show (x + 1) % 17 = 0 by omega]
    rfl
theorem d_add (g : zDq h p E hd u P) (hu : u < 8) {v c : Nat} {fs : List Value} (hv : h v = some (.inr (c, fs))) (hc : c < 19) {Q : zw_H → Prop} (hQ : ∀ h', zFr (zDm p E) h h' → zDq h' p E hd (u + 1) (fun k => if k = u then v else P k) → Q h') : f_J1_addLast K (some p) (some v) h Q X := by
  obtain ⟨fe, g1, g2, g3, g4, g5⟩ := g
  unfold f_J1_addLast
  rw [if_pos (Option.some_ne_none _), k_gA g1 (by decide) rfl, k_gI g1 (by decide) rfl]
  refine g_setA g2 (zi_inn (by omega) (by decide)) (k_ok hv (zi_19 hc)) (fun h1 f1 c1 => ?_)
  rw [zi_clamp (by omega)] at c1
  have p1 := f1.at1 g1 g2 zn_rl
  rw [k_gI p1 (by decide) rfl, k_gI p1 (by decide) rfl, k_l c1 (by decide), d_inc (by omega)]
  refine g_put p1 (by decide) (show 2 < 3 by decide) (fun h2 f2 c2 => ?_)
  simp only [List.set_cons_succ, List.set_cons_zero] at c2
  have e2 := f2.at1 c1 p1 zn_lr
  have em : ((hd + u) % 17 + 1) % 17 = (hd + (u + 1)) % 17 := by omega
  rw [em] at c2 ⊢
  rw [if_pos (show Int32.ofNat hd ≠ Int32.ofNat ((hd + (u + 1)) % 17) from fun k => by have := (zi_inj (by omega) (by omega)).mp k; omega)]
  refine hQ h2 ((f1.mono (fun q k => Or.inr k)).trans (f2.mono (fun q k => Or.inl k))) ⟨_, c2, e2, g3, by omega, fun k hk => ?_⟩
  show (if (hd + k) % 17 = (hd + u) % 17 then some v else fe ((hd + k) % 17)) = some (if k = u then v else P k)
  by_cases e : k = u
  · rw [if_pos (by rw [e]), if_pos e]
  · rw [if_neg (by omega), if_neg e]
    exact g5 k (by omega)
theorem d_rem1 (g : zDq h p E hd u P) (hu : 0 < u) {Q : Option Nat → zw_H → Prop} (hQ : ∀ h', zFr (zDm p E) h h' → zDq h' p E ((hd + 1) % 17) (u - 1) (fun k => P (k + 1)) → Q (some (P 0)) h') : f_J1_removeFirst K (some p) h Q X := by
  obtain ⟨fe, g1, g2, g3, g4, g5⟩ := g
  have h0 := g5 0 hu
  rw [Nat.add_zero, Nat.mod_eq_of_lt g3] at h0
  unfold f_J1_removeFirst f_J1_pollFirst f_J1_elementAt
  rw [k_c g1 (by decide), k_gA g1 (by decide) rfl, k_gI g1 (by decide) rfl, k_rA g2 (by decide) (zi_inn g3 (by decide)), zi_clamp (by omega), h0]
  try dsimp only
  rw [if_neg (Option.some_ne_none _)]
  refine g_setA g2 (zi_inn g3 (by decide)) trivial (fun h1 f1 c1 => ?_)
  rw [zi_clamp (by omega)] at c1
  have p1 := f1.at1 g1 g2 zn_rl
  rw [k_l c1 (by decide), d_inc g3]
  refine g_put p1 (by decide) (show 1 < 3 by decide) (fun h2 f2 c2 => ?_)
  simp only [List.set_cons_succ, List.set_cons_zero] at c2
  have e2 := f2.at1 c1 p1 zn_lr
  rw [if_pos (Option.some_ne_none _)]
  refine hQ h2 ((f1.mono (fun q k => Or.inr k)).trans (f2.mono (fun q k => Or.inl k))) ⟨_, by rw [show ((hd + 1) % 17 + (u - 1)) % 17 = (hd + u) % 17 by omega]; exact c2, e2, by omega, by omega, fun k hk => ?_⟩
  show (if ((hd + 1) % 17 + k) % 17 = hd then none else fe (((hd + 1) % 17 + k) % 17)) = some (P (k + 1))
  rw [if_neg (by omega), show ((hd + 1) % 17 + k) % 17 = (hd + (k + 1)) % 17 by omega]
  exact g5 (k + 1) (by omega)
theorem d_empty (g : zDq h p E hd u P) {Q : Int32 → zw_H → Prop} : f_J1_isEmpty K (some p) h Q X = Q (sp_b (u = 0)) h := by
  obtain ⟨fe, g1, g2, g3, g4, g5⟩ := g
  unfold f_J1_isEmpty
  rw [k_gI g1 (by decide) rfl, k_gI g1 (by decide) rfl]
  by_cases k : u = 0
  · rw [if_neg (show ¬ Int32.ofNat hd ≠ Int32.ofNat ((hd + u) % 17) from fun e => e (by rw [k, Nat.add_zero, Nat.mod_eq_of_lt g3])), sp_bt k]
  · rw [if_pos (show Int32.ofNat hd ≠ Int32.ofNat ((hd + u) % 17) from fun e => by have := (zi_inj (by omega) (by omega)).mp e; omega), sp_bf k]
theorem d_rem (g : zDq h p E hd u P) (hu : 0 < u) {Q : Option Nat → zw_H → Prop} (hQ : ∀ h', zFr (zDm p E) h h' → zDq h' p E hd (u - 1) P → Q (some (P (u - 1))) h') : f_J1_removeLast K (some p) h Q X := by
  obtain ⟨fe, g1, g2, g3, g4, g5⟩ := g
  have h0 := g5 (u - 1) (by omega)
  unfold f_J1_removeLast f_J1_pollLast f_J1_elementAt f_J1_dec
  rw [k_c g1 (by decide), k_gA g1 (by decide) rfl, k_gI g1 (by decide) rfl, k_l g2 (by decide)]
  simp only [olet_iff]
  have key : ∀ t : Nat, t = (hd + (u - 1)) % 17 → (fun v4 h1 => oa_A h1 (some E) [5, 12] v4 (fun v5 => if v5 = none then (fun v1 h1 => if v1 ≠ none then Q v1 h1 else False) v5 h1 else op_V h1 (some p) [8] 2 (.int v4) (fun h3 => os_A h3 (some E) 5 [0, 1, 2, 3, 4, 5, 6, 7, 8, 9, 10, 11, 12, 13, 14, 15, 16, 17, 18] [] v4 none (fun h4 => (fun v1 h1 => if v1 ≠ none then Q v1 h1 else False) v5 h4)))) (Int32.ofNat t) h := by
    intro t ht
    have ht17 : t < 17 := by omega
    dsimp only
    rw [k_rA g2 (by decide) (zi_inn ht17 (by decide)), zi_clamp (by omega), ht, h0, if_neg (Option.some_ne_none _)]
    refine g_put g1 (by decide) (show 2 < 3 by decide) (fun h1 f1 c1 => ?_)
    simp only [List.set_cons_succ, List.set_cons_zero] at c1
    have e1 := f1.at1 g2 g1 zn_lr
    refine g_setA e1 (zi_inn (by omega) (by decide)) trivial (fun h2 f2 c2 => ?_)
    rw [zi_clamp (by omega)] at c2
    have p2 := f2.at1 c1 e1 zn_rl
    rw [if_pos (Option.some_ne_none _)]
    refine hQ h2 ((f1.mono (fun q k => Or.inl k)).trans (f2.mono (fun q k => Or.inr k))) ⟨_, p2, c2, g3, by omega, fun k hk => ?_⟩
    show (if (hd + k) % 17 = (hd + (u - 1)) % 17 then none else fe ((hd + k) % 17)) = some (P k)
    rw [if_neg (by omega)]
    exact g5 k (by omega)
  have h00 : (0 : Int32).toInt = 0 := rfl
  have em : Int32.ofNat ((hd + u) % 17) + -1 = Int32.ofNat ((hd + u) % 17) - 1 := (Int32.sub_eq_add_neg _ _).symm
  rw [em]
  have e := zi_subI (i := (hd + u) % 17) (j := 1) (by omega) (by decide)
  have e : (Int32.ofNat ((hd + u) % 17) - 1).toInt = (((hd + u) % 17 : Nat) : Int) - 1 := e
  by_cases k : 1 ≤ (hd + u) % 17
  · rw [if_pos (by rw [Int32.le_iff_toInt_le, e, h00]; omega), show Int32.ofNat ((hd + u) % 17) - 1 = Int32.ofNat ((hd + u) % 17 - 1) from (Int32.ofNat_sub _ 1 k).symm]
    exact key _ (by omega)
  · rw [if_neg (by rw [Int32.le_iff_toInt_le, e, h00]; omega), show Int32.ofNat 17 - 1 = Int32.ofNat 16 from rfl]
    exact key _ (by omega)
theorem d_clear (g : zDq h p E hd u P) {Q : zw_H → Prop} (hQ : ∀ h' P', zFr (zDm p E) h h' → zDq h' p E 0 0 P' → Q h') : f_J1_clear K (some p) h Q X := by
  obtain ⟨fe, g1, g2, g3, g4, g5⟩ := g
  have fin : ∀ h1, zFr (zDm p E) h h1 → (∃ f1, h1 E = some (zAA 5 17 f1)) → h1 p = h p → op_V h1 (some p) [8] 2 (.int 0) (fun h2 => op_V h2 (some p) [8] 1 (.int 0) (fun h3 => Q h3)) := by
    intro h1 f1 ⟨fe1, e1⟩ p1
    rw [g1] at p1
    refine g_put p1 (by decide) (show 2 < 3 by decide) (fun h2 f2 c2 => ?_)
    simp only [List.set_cons_succ, List.set_cons_zero] at c2
    refine g_put c2 (by decide) (show 1 < 3 by decide) (fun h3 f3 c3 => ?_)
    simp only [List.set_cons_succ, List.set_cons_zero] at c3
    exact hQ h3 P ((f1.trans (f2.mono (fun q k => Or.inl k))).trans (f3.mono (fun q k => Or.inl k))) ⟨fe1, c3, f3.at1 (f2.at1 e1 p1 zn_lr) c2 zn_lr, by decide, by decide, fun k hk => absurd hk (Nat.not_lt_zero k)⟩
  have hB : ∀ (QQ : zw_H → Prop), (∀ h1, zFr (zDm p E) h h1 → (∃ f1, h1 E = some (zAA 5 17 f1)) → h1 p = h p → QQ h1) → f_J1_circularClear K (some E) (Int32.ofNat hd) (Int32.ofNat ((hd + u) % 17)) h QQ X := by
    intro QQ hQQ
    have htl : (hd + u) % 17 < 17 := Nat.mod_lt _ (by decide)
    generalize (hd + u) % 17 = tl at htl
    unfold f_J1_circularClear f_J1_circularClear_J11
    have hst : ∀ (R : Int32 → Int32 → zw_H → Prop) (kk : zw_H → Prop) (x t : Nat) (h1 : zw_H), x < t → t ≤ 17 → zFr (zDm p E) h h1 → (∃ f1, h1 E = some (zAA 5 17 f1)) → h1 p = h p → (∀ h2, zFr (zDm p E) h h2 → (∃ f1, h2 E = some (zAA 5 17 f1)) → h2 p = h p → R (Int32.ofNat (x + 1)) (Int32.ofNat t) h2) → f_J1_circularClear_B12 K QQ X kk (some E) (Int32.ofNat tl) R (Int32.ofNat x) (Int32.ofNat t) h1 := by
      intro R kk x t h1 hx ht f1 ⟨fe1, e1⟩ p1 hR
      unfold f_J1_circularClear_B12
      rw [if_neg (by rw [zi_le (by omega) (by omega)]; omega)]
      refine g_setA e1 (zi_inn (by omega) (by decide)) trivial (fun h2 f2 c2 => ?_)
      simp only [olet_iff, zi_succ]
      refine hR h2 (f1.trans (f2.mono (fun q k => Or.inr k))) ⟨_, c2⟩ ?_
      rw [g1] at p1 ⊢
      exact f2.at1 p1 e1 zn_rl
    by_cases k : tl < hd
    · rw [if_pos ((zi_lt (by omega) (by omega)).mpr k), k_l g2 (by decide)]
      refine zl3_inv (B := f_J1_circularClear_B12 K QQ X _ (some E) (Int32.ofNat tl)) (fun c x t hh => (if c ≤ 17 - hd then x = Int32.ofNat (hd + c) ∧ t = Int32.ofNat 17 else x = Int32.ofNat (c - (17 - hd) - 1) ∧ t = Int32.ofNat tl) ∧ zFr (zDm p E) h hh ∧ (∃ f1, hh E = some (zAA 5 17 f1)) ∧ hh p = h p) (n := 17 - hd + 1 + tl) (fun R c hc x t hh hp hR => ?_) (fun R x t hh hp => ?_) (17 - hd + 1 + tl) zfu 0 (by omega) (Nat.lt_of_le_of_lt (show 17 - hd + 1 + tl ≤ 40 by omega) (by decide)) _ _ _ ⟨by rw [if_pos (Nat.zero_le _)]; exact ⟨rfl, rfl⟩, zFr.refl _ _, ⟨fe, g2⟩, rfl⟩
      · obtain ⟨hxt, f1, e1, p1⟩ := hp
        by_cases k1 : c < 17 - hd
        · rw [if_pos (show c ≤ 17 - hd by omega)] at hxt
          rw [hxt.1, hxt.2]
          exact hst R _ (hd + c) 17 hh (by omega) (by omega) f1 e1 p1 (fun h2 f2 e2 p2 => hR _ _ _ ⟨by rw [if_pos (show c + 1 ≤ 17 - hd by omega)]; exact ⟨rfl, rfl⟩, f2, e2, p2⟩)
        · by_cases k2 : c = 17 - hd
          · rw [if_pos (show c ≤ 17 - hd by omega)] at hxt
            rw [hxt.1, hxt.2]
            unfold f_J1_circularClear_B12
            rw [if_pos (by rw [zi_le (by omega) (by omega)]; omega), if_pos (show Int32.ofNat 17 ≠ Int32.ofNat tl from fun e => by have := (zi_inj (by omega) (by omega)).mp e; omega)]
            exact hR _ _ _ ⟨by rw [if_neg (show ¬ c + 1 ≤ 17 - hd by omega), show c + 1 - (17 - hd) - 1 = 0 by omega]; exact ⟨rfl, rfl⟩, f1, e1, p1⟩
          · rw [if_neg (show ¬ c ≤ 17 - hd by omega)] at hxt
            rw [hxt.1, hxt.2]
            exact hst R _ (c - (17 - hd) - 1) tl hh (by omega) (by omega) f1 e1 p1 (fun h2 f2 e2 p2 => hR _ _ _ ⟨by rw [if_neg (show ¬ c + 1 ≤ 17 - hd by omega), show c + 1 - (17 - hd) - 1 = c - (17 - hd) - 1 + 1 by omega]; exact ⟨rfl, rfl⟩, f2, e2, p2⟩)
      · obtain ⟨hxt, f1, e1, p1⟩ := hp
        rw [if_neg (show ¬ 17 - hd + 1 + tl ≤ 17 - hd by omega), show 17 - hd + 1 + tl - (17 - hd) - 1 = tl by omega] at hxt
        rw [hxt.1, hxt.2]
        unfold f_J1_circularClear_B12
        rw [if_pos (Int32.le_refl _), if_neg (fun e => e rfl)]
        exact hQQ hh f1 e1 p1
    · rw [if_neg (fun e => k ((zi_lt (by omega) (by omega)).mp e))]
      refine zl3_inv (B := f_J1_circularClear_B12 K QQ X _ (some E) (Int32.ofNat tl)) (fun c x t hh => (x = Int32.ofNat (hd + c) ∧ t = Int32.ofNat tl) ∧ zFr (zDm p E) h hh ∧ (∃ f1, hh E = some (zAA 5 17 f1)) ∧ hh p = h p) (n := tl - hd) (fun R c hc x t hh hp hR => ?_) (fun R x t hh hp => ?_) (tl - hd) zfu 0 (by omega) (Nat.lt_of_le_of_lt (show tl - hd ≤ 40 by omega) (by decide)) _ _ _ ⟨⟨rfl, rfl⟩, zFr.refl _ _, ⟨fe, g2⟩, rfl⟩
      · obtain ⟨hxt, f1, e1, p1⟩ := hp
        rw [hxt.1, hxt.2]
        exact hst R _ (hd + c) tl hh (by omega) (by omega) f1 e1 p1 (fun h2 f2 e2 p2 => hR _ _ _ ⟨⟨rfl, rfl⟩, f2, e2, p2⟩)
      · obtain ⟨hxt, f1, e1, p1⟩ := hp
        rw [show hd + (tl - hd) = tl by omega] at hxt
        rw [hxt.1, hxt.2]
        unfold f_J1_circularClear_B12
        rw [if_pos (Int32.le_refl _), if_neg (fun e => e rfl)]
        exact hQQ hh f1 e1 p1
  unfold f_J1_clear
  rw [k_gA g1 (by decide) rfl, k_gI g1 (by decide) rfl, k_gI g1 (by decide) rfl]
  exact hB _ fin
end ZC10
