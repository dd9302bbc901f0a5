set_option maxRecDepth 100000
/-! the class's loops over the bodies: what they read -/
section ZC2
variable {K : Nat → Option Nat} {X : String → Nat → zw_H → Prop} {h : zw_H} {z : zW} {a : Nat → Int32} {n l o : Nat} {fm : Int32} {f : zAr}
theorem k_bodiesIn (g : zLn h z a n fm f) (h24 : n ≤ 24) {lv i : Nat} (hl : lv < 6) (hi : i < 2 ^ lv) {Q : Int32 → zw_H → Prop} (hQ : Q (sp_bodiesIn a n (Int32.ofNat lv) (Int32.ofNat i)) h) : f_X4_bodiesIn K (some (z.1 0)) (some (z.2.1 lv i)) h Q X := by
  unfold f_X4_bodiesIn
  refine zl3_run (B := f_X4_bodiesIn_B4 K Q X _ (some (z.1 0)) (some (z.2.1 lv i))) (fun b => sp_bodiesIn a b (Int32.ofNat lv) (Int32.ofNat i)) (fun b => Int32.ofNat b) (fun _ => h) (n := n) (fun R b hb hR => ?_) (fun R => ?_) n zfu 0 (by omega) (Nat.lt_of_le_of_lt h24 (by decide))
  · unfold f_X4_bodiesIn_B4
    simp only [l_c g, l_size g, l_at g h24 hb, l_x g hb, b_c g hl hi, b_has g hl hi, e1_flag, olet_iff, zi_succ]
    rw [if_neg (by rw [zi_le (by omega) (by omega)]; omega), sp_cong (sp_bne _)]
    exact hR
  · unfold f_X4_bodiesIn_B4
    simp only [l_c g, l_size g]
    rw [if_pos (by rw [zi_le (by omega) (by omega)]; omega)]
    exact hQ
theorem k_moment (g : zLn h z a n fm f) (h24 : n ≤ 24) {lv i k : Nat} (hl : lv < 6) (hi : i < 2 ^ lv) (hk : k < 900) {Q : Int64 → zw_H → Prop} (hQ : Q (sp_moment a n (Int32.ofNat lv) (Int32.ofNat i) k) h) : f_X4_moment K (some (z.1 0)) (some (z.2.1 lv i)) (Int32.ofNat k) h Q X := by
  unfold f_X4_moment
  refine zl3_run (B := f_X4_moment_B5 K Q X _ (some (z.1 0)) (some (z.2.1 lv i)) (Int32.ofNat k)) (fun b => sp_moment a b (Int32.ofNat lv) (Int32.ofNat i) k) (fun b => Int32.ofNat b) (fun _ => h) (n := n) (fun R b hb hR => ?_) (fun R => ?_) n zfu 0 (by omega) (Nat.lt_of_le_of_lt h24 (by decide))
  · unfold f_X4_moment_B5 f_X4_moment_J59
    simp only [l_c g, l_size g, l_at g h24 hb, l_x g hb, l_ch g hb, b_c g hl hi, b_has g hl hi, b_ct g hl hi, olet_iff, zi_succ]
    rw [if_neg (by rw [zi_le (by omega) (by omega)]; omega)]
    by_cases e : a (7 + 4 * b) / sp_wide (Int32.ofNat lv) = Int32.ofNat i
    · have es : sp_moment a (b + 1) (Int32.ofNat lv) (Int32.ofNat i) k = sp_moment a b (Int32.ofNat lv) (Int32.ofNat i) k + (a (7 + 4 * b + 1)).toInt64 * sp_power ((a (7 + 4 * b) - sp_centre (Int32.ofNat lv) (Int32.ofNat i)).toInt64) k := if_pos e
      rw [es] at hR
      rw [sp_bt e, if_neg (by decide)]
      exact c4_raised hk hR
    · have es : sp_moment a (b + 1) (Int32.ofNat lv) (Int32.ofNat i) k = sp_moment a b (Int32.ofNat lv) (Int32.ofNat i) k := if_neg e
      rw [es] at hR
      rw [sp_bf e, if_pos rfl]
      exact hR
  · unfold f_X4_moment_B5
    simp only [l_c g, l_size g]
    rw [if_pos (by rw [zi_le (by omega) (by omega)]; omega)]
    exact hQ
theorem k_weightsIn (g : zLn h z a n fm f) (h24 : n ≤ 24) {lv i : Nat} (hl : lv < 6) (hi : i < 2 ^ lv) {Q : Int32 → zw_H → Prop} (hQ : Q (sp_charge a n (Int32.ofNat lv) (Int32.ofNat i) 1) h) : f_X4_weightsIn K (some (z.1 0)) (some (z.2.1 lv i)) h Q X := by
  unfold f_X4_weightsIn
  refine zl3_run (B := f_X4_weightsIn_B4 K Q X _ (some (z.1 0)) (some (z.2.1 lv i))) (fun b => sp_charge a b (Int32.ofNat lv) (Int32.ofNat i) 1) (fun b => Int32.ofNat b) (fun _ => h) (n := n) (fun R b hb hR => ?_) (fun R => ?_) n zfu 0 (by omega) (Nat.lt_of_le_of_lt h24 (by decide))
  · unfold f_X4_weightsIn_B4 f_X4_weightsIn_J43
    simp only [l_c g, l_size g, l_at g h24 hb, l_x g hb, l_ch g hb, b_c g hl hi, b_has g hl hi, e_abs, olet_iff, zi_succ]
    rw [if_neg (by rw [zi_le (by omega) (by omega)]; omega)]
    by_cases e : a (7 + 4 * b) / sp_wide (Int32.ofNat lv) = Int32.ofNat i
    · have es : sp_charge a (b + 1) (Int32.ofNat lv) (Int32.ofNat i) 1 = sp_charge a b (Int32.ofNat lv) (Int32.ofNat i) 1 + sp_far (a (7 + 4 * b + 1)) 0 := if_pos e
      rw [es] at hR
      rw [sp_bt e, if_neg (by decide), sp_iab_far]
      exact hR
    · have es : sp_charge a (b + 1) (Int32.ofNat lv) (Int32.ofNat i) 1 = sp_charge a b (Int32.ofNat lv) (Int32.ofNat i) 1 := if_neg e
      rw [es] at hR
      rw [sp_bf e, if_pos rfl, Int32.add_zero]
      exact hR
  · unfold f_X4_weightsIn_B4
    simp only [l_c g, l_size g]
    rw [if_pos (by rw [zi_le (by omega) (by omega)]; omega)]
    exact hQ
/-- all bodies are in the one box of level 0 -/
theorem sp_charge0 {c : Int32} (hr : zRow a n l o) : ∀ k, k ≤ n → sp_charge a k 0 0 c = zacc (fun b s => s + (if c = 0 then a (7 + 4 * b + 1) else sp_far (a (7 + 4 * b + 1)) 0)) 0 k
  | 0, _ => rfl
  | k + 1, hk => by
    obtain ⟨⟨x, hx, hx2⟩, -⟩ := hr.2.2.2.2.2.2.2.2 k (by omega)
    have e2 : a (7 + 4 * k) / sp_wide 0 = 0 := by
      rw [hx2, show (0 : Int32) = Int32.ofNat 0 from rfl, zi_box (by decide) hx]
      unfold zbx
      rw [Nat.div_eq_of_lt hx]
    have es : sp_charge a (k + 1) 0 0 c = sp_charge a k 0 0 c + (if c = 0 then a (7 + 4 * k + 1) else sp_far (a (7 + 4 * k + 1)) 0) := if_pos e2
    rw [es, sp_charge0 hr k (by omega)]
    rfl
theorem k_charges (g : zLn h z a n fm f) (hr : zRow a n l o) {Q : Int32 → zw_H → Prop} (hQ : Q (sp_charge a n 0 0 0) h) : f_X4_charges K (some (z.1 0)) h Q X := by
  have h24 := hr.2.1
  unfold f_X4_charges
  rw [sp_charge0 hr n (Nat.le_refl n)] at hQ
  refine zl3_run (B := f_X4_charges_B4 K Q X _ (some (z.1 0))) (fun b => zacc (fun b s => s + (if (0 : Int32) = 0 then a (7 + 4 * b + 1) else sp_far (a (7 + 4 * b + 1)) 0)) 0 b) (fun b => Int32.ofNat b) (fun _ => h) (n := n) (fun R b hb hR => ?_) (fun R => ?_) n zfu 0 (by omega) (Nat.lt_of_le_of_lt h24 (by decide))
  · unfold f_X4_charges_B4
    simp only [l_c g, l_size g, l_at g h24 hb, l_ch g hb, olet_iff, zi_succ]
    rw [if_neg (by rw [zi_le (by omega) (by omega)]; omega)]
    exact hR
  · unfold f_X4_charges_B4
    simp only [l_c g, l_size g]
    rw [if_pos (by rw [zi_le (by omega) (by omega)]; omega)]
    exact hQ
theorem k_weights (g : zLn h z a n fm f) (hr : zRow a n l o) {Q : Int32 → zw_H → Prop} (hQ : Q (sp_charge a n 0 0 1) h) : f_X4_weights K (some (z.1 0)) h Q X := by
  have h24 := hr.2.1
  unfold f_X4_weights
  rw [sp_charge0 hr n (Nat.le_refl n)] at hQ
  refine zl3_run (B := f_X4_weights_B4 K Q X _ (some (z.1 0))) (fun b => zacc (fun b s => s + (if (1 : Int32) = 0 then a (7 + 4 * b + 1) else sp_far (a (7 + 4 * b + 1)) 0)) 0 b) (fun b => Int32.ofNat b) (fun _ => h) (n := n) (fun R b hb hR => ?_) (fun R => ?_) n zfu 0 (by omega) (Nat.lt_of_le_of_lt h24 (by decide))
  · unfold f_X4_weights_B4
    simp only [l_c g, l_size g, l_at g h24 hb, l_ch g hb, e_abs, sp_iab_far, olet_iff, zi_succ]
    rw [if_neg (by rw [zi_le (by omega) (by omega)]; omega)]
    exact hR
  · unfold f_X4_weights_B4
    simp only [l_c g, l_size g]
    rw [if_pos (by rw [zi_le (by omega) (by omega)]; omega)]
    exact hQ
theorem sp_fixed_sum (hr : zRow a n l o) : ∀ k, k ≤ n → ∃ c, c ≤ k ∧ sp_fixedMany a k = Int32.ofNat c ∧ zacc (fun b s => s + sp_b (zmv a b ≠ 0)) 0 k = Int32.ofNat (k - c)
  | 0, _ => ⟨0, Nat.le_refl _, rfl, rfl⟩
  | k + 1, hk => by
    obtain ⟨c, h1, h2, h3⟩ := sp_fixed_sum hr k (by omega)
    have e1 : sp_fixedMany a (k + 1) = sp_fixedMany a k + a (7 + 4 * k + 2) := rfl
    have e2 : zacc (fun b s => s + sp_b (zmv a b ≠ 0)) 0 (k + 1) = zacc (fun b s => s + sp_b (zmv a b ≠ 0)) 0 k + sp_b (zmv a k ≠ 0) := rfl
    rcases (hr.2.2.2.2.2.2.2.2 k (by omega)).2.2 with g | g
    · refine ⟨c, by omega, ?_, ?_⟩
      · rw [e1, h2, g, Int32.add_zero]
      · rw [e2, h3, sp_bt (by unfold zmv; rw [if_neg (by rw [g]; decide)]; decide), zi_succ, show k - c + 1 = k + 1 - c by omega]
    · refine ⟨c + 1, by omega, ?_, ?_⟩
      · rw [e1, h2, g, zi_succ]
      · rw [e2, h3, sp_bf (by unfold zmv; rw [if_pos g]; decide), Int32.add_zero, show k + 1 - (c + 1) = k - c by omega]
theorem k_freeMany (g : zLn h z a n fm f) (hr : zRow a n l o) {Q : Int32 → zw_H → Prop} (hQ : Q (a 0 - sp_fixedMany a n) h) : f_X4_freeMany K (some (z.1 0)) h Q X := by
  have h24 := hr.2.1
  obtain ⟨c, h1, h2, h3⟩ := sp_fixed_sum hr n (Nat.le_refl n)
  rw [h2, hr.1, ← Int32.ofNat_sub _ _ h1, ← h3] at hQ
  unfold f_X4_freeMany
  refine zl3_run (B := f_X4_freeMany_B4 K Q X _ (some (z.1 0))) (fun b => zacc (fun b s => s + sp_b (zmv a b ≠ 0)) 0 b) (fun b => Int32.ofNat b) (fun _ => h) (n := n) (fun R b hb hR => ?_) (fun R => ?_) n zfu 0 (by omega) (Nat.lt_of_le_of_lt h24 (by decide))
  · unfold f_X4_freeMany_B4
    simp only [l_c g, l_size g, l_at g h24 hb, l_mv g hb, e1_flag, olet_iff, zi_succ]
    rw [if_neg (by rw [zi_le (by omega) (by omega)]; omega)]
    exact hR
  · unfold f_X4_freeMany_B4
    simp only [l_c g, l_size g]
    rw [if_pos (by rw [zi_le (by omega) (by omega)]; omega)]
    exact hQ
theorem k_hasFixed (g : zLn h z a n fm f) (hr : zRow a n l o) {x : Int32} {Q : Int32 → zw_H → Prop} (hQ : Q (sp_b (sp_fixedAt a n x < n)) h) : f_X4_hasFixed K (some (z.1 0)) x h Q X := by
  have h24 := hr.2.1
  unfold f_X4_hasFixed
  refine zl3_run (B := f_X4_hasFixed_B4 K Q X _ (some (z.1 0)) x) (fun b => sp_b (sp_fixedAt a n x < b)) (fun b => Int32.ofNat b) (fun _ => h) (n := n) (fun R b hb hR => ?_) (fun R => ?_) n zfu 0 (by omega) (Nat.lt_of_le_of_lt h24 (by decide))
  · unfold f_X4_hasFixed_B4 f_X4_hasFixed_J39 f_X4_hasFixed_J43 f_X4_hasFixed_J44
    simp only [l_c g, l_size g, l_at g h24 hb, l_x g hb, l_mv g hb, olet_iff, zi_succ]
    rw [if_neg (by rw [zi_le (by omega) (by omega)]; omega)]
    by_cases e : sp_fixedAt a n x < b
    · rw [sp_bt (show sp_fixedAt a n x < b + 1 by omega)] at hR
      rw [sp_bt e, if_pos (by decide)]
      exact hR
    · rw [sp_bf e, if_neg (by decide)]
      by_cases e2 : a (7 + 4 * b + 2) = 1 ∧ a (7 + 4 * b) = x
      · have e3 : sp_fixedAt a n x = b := by
          rcases Nat.lt_or_ge b (sp_fixedAt a n x) with k | k
          · exact absurd e2 (of_decide_eq_false (zfirst_no (fun b => decide (a (7 + 4 * b + 2) = 1 ∧ a (7 + 4 * b) = x)) n b k))
          · omega
        rw [sp_bt (by omega)] at hR
        rw [if_neg (fun k => k e2.2), if_neg (fun k => k (by unfold zmv; rw [if_pos e2.1]))]
        exact hR
      · have e3 : sp_fixedAt a n x ≠ b := fun k => e2 (of_decide_eq_true (by have := zfirst_yes (fun b => decide (a (7 + 4 * b + 2) = 1 ∧ a (7 + 4 * b) = x)) n (show sp_fixedAt a n x < n by omega); rw [show zfirst (fun b => decide (a (7 + 4 * b + 2) = 1 ∧ a (7 + 4 * b) = x)) n = b from k] at this; exact this))
        rw [sp_bf (by omega)] at hR
        by_cases e4 : a (7 + 4 * b) = x
        · rw [if_neg (fun k => k e4), if_pos (by unfold zmv; rw [if_neg (fun k => e2 ⟨k, e4⟩)]; decide)]
          exact hR
        · rw [if_pos e4]
          exact hR
  · unfold f_X4_hasFixed_B4
    simp only [l_c g, l_size g]
    rw [if_pos (by rw [zi_le (by omega) (by omega)]; omega)]
    exact ⟨sp_b_cases _, hQ⟩
theorem k_sum (g : zLn h z a n fm f) (hr : zRow a n l o) {y : Nat} (hy : y < 256) {nr but : Int32} {Q : UInt64 → zw_H → Prop} (hQ : Q (sp_sumOf a (Int32.ofNat y) (if nr = 0 then 1 else 0) but n) h) : f_X4_sum K (some (z.1 0)) (Int32.ofNat y) nr but h Q X := by
  have h24 := hr.2.1
  have hl := hr.2.2.1
  have h5 := hr.2.2.2.2.1
  have hb0 := hr.2.2.2.2.2.2.2.2
  unfold f_X4_sum
  refine zl3_run (B := f_X4_sum_B6 K Q X _ (some (z.1 0)) (Int32.ofNat y) nr but) (fun b => sp_sumOf a (Int32.ofNat y) (if nr = 0 then 1 else 0) but b) (fun b => Int32.ofNat b) (fun _ => h) (n := n) (fun R b hb hR => ?_) (fun R => ?_) n zfu 0 (by omega) (Nat.lt_of_le_of_lt h24 (by decide))
  · obtain ⟨⟨x, hx, hx2⟩, -⟩ := hb0 b hb
    have es : sp_sumOf a (Int32.ofNat y) (if nr = 0 then 1 else 0) but (b + 1) = (if Int32.ofNat b = but then sp_sumOf a (Int32.ofNat y) (if nr = 0 then 1 else 0) but b else if a (7 + 4 * b) = Int32.ofNat y then sp_sumOf a (Int32.ofNat y) (if nr = 0 then 1 else 0) but b else if (if nr = 0 then (1 : Int32) else 0) ≠ 0 then FP.dadd (sp_sumOf a (Int32.ofNat y) (if nr = 0 then 1 else 0) but b) (sp_share a (Int32.ofNat y) b) else if sp_far (a (7 + 4 * b) / sp_wide (a 3)) (Int32.ofNat y / sp_wide (a 3)) ≤ 1 then FP.dadd (sp_sumOf a (Int32.ofNat y) (if nr = 0 then 1 else 0) but b) (sp_share a (Int32.ofNat y) b) else sp_sumOf a (Int32.ofNat y) (if nr = 0 then 1 else 0) but b) := rfl
    rw [es] at hR
    unfold f_X4_sum_B6 f_X4_sum_J55 f_X4_sum_J74
    simp only [l_c g, l_size g, l_at g h24 hb, l_x g hb, l_ch g hb, l_od g hb, l_dist g hb, l_near g (show l < 6 by omega) hl hb hx hx2 hy, olet_iff, zi_succ]
    rw [if_neg (by rw [zi_le (by omega) (by omega)]; omega)]
    by_cases g1 : Int32.ofNat b = but
    · rw [if_pos g1] at hR ⊢
      exact hR
    · rw [if_neg g1] at hR ⊢
      by_cases g2 : a (7 + 4 * b) = Int32.ofNat y
      · rw [if_pos g2] at hR ⊢
        exact hR
      · rw [if_neg g2] at hR ⊢
        have n1 : vf_n64 (sp_share a (Int32.ofNat y) b) := (zb_share g2).n64
        have n2 : vf_n64 (FP.dadd (sp_sumOf a (Int32.ofNat y) (if nr = 0 then 1 else 0) but b) (sp_share a (Int32.ofNat y) b)) := (zBd_add (K := 1108 + 2 * b) (zb_sumOf (by omega)) (zBd.mono (zb_share g2) (by omega)) (by omega)).n64
        by_cases g3 : nr = 0
        · rw [if_pos (by rw [if_pos g3]; decide)] at hR
          rw [if_pos g3]
          exact ⟨n1, n2, hR⟩
        · rw [if_neg (by rw [if_neg g3]; decide)] at hR
          rw [if_neg g3]
          by_cases g4 : sp_far (a (7 + 4 * b) / sp_wide (a 3)) (Int32.ofNat y / sp_wide (a 3)) ≤ 1
          · rw [if_pos g4] at hR
            rw [sp_bt g4, if_pos (by decide)]
            exact ⟨n1, n2, hR⟩
          · rw [if_neg g4] at hR
            rw [sp_bf g4, if_neg (by decide)]
            exact hR
  · unfold f_X4_sum_B6
    simp only [l_c g, l_size g]
    rw [if_pos (by rw [zi_le (by omega) (by omega)]; omega)]
    exact hQ
theorem k_value (g : zLn h z a n fm f) (hr : zRow a n l o) {lv i : Nat} {x : Int32} (hl : lv < 6) (hi : i < 2 ^ lv) (hx : x - sp_centre (Int32.ofNat lv) (Int32.ofNat i) ≠ 0) {Q : UInt64 → zw_H → Prop} (hQ : Q (sp_value a n (Int32.ofNat lv) (Int32.ofNat i) (x - sp_centre (Int32.ofNat lv) (Int32.ofNat i)) o) h) : f_X4_value K (some (z.1 0)) (some (z.2.1 lv i)) x h Q X := by
  have h24 := hr.2.1
  have ho := hr.2.2.2.2.2.1
  have h4 := hr.2.2.2.2.2.2.1
  unfold f_X4_value
  rw [b_ct g hl hi]
  simp only [olet_iff]
  generalize x - sp_centre (Int32.ofNat lv) (Int32.ofNat i) = y at hx hQ
  have hy := zBd_i2d y
  have ly := zLb_i2d hx
  refine zl4_run (B := f_X4_value_B17 K Q X _ (some (z.1 0)) (some (z.2.1 lv i)) (FP.i2d y)) (fun b => sp_valS a n (Int32.ofNat lv) (Int32.ofNat i) (FP.i2d y) b) (fun b => sp_times (FP.i2d y) (FP.i2d y) b) (fun b => Int32.ofNat b) (fun _ => h) (n := o + 1) (fun R b hb hR => ?_) (fun R => ?_) (o + 1) zfu 0 (by omega) (Nat.lt_of_le_of_lt (show o + 1 ≤ 5 by omega) (by decide))
  · unfold f_X4_value_B17
    rw [l_ord g, ho, if_neg (by rw [zi_lt (by omega) (by omega)]; omega), l_c g]
    refine k_moment g h24 hl hi (by omega) ?_
    simp only [olet_iff, zi_succ]
    have h1 : zBd (FP.ddiv (FP.l2d (sp_moment a n (Int32.ofNat lv) (Int32.ofNat i) b)) (sp_times (FP.i2d y) (FP.i2d y) b)) 1140 := zBd_div (K := 1139) (zBd_l2d _) (zb_times hy hy (k := b) (by omega)) (zl_times hy hy ly ly (k := b) (by omega)) (by decide)
    exact ⟨h1.n64, (zb_valS (a := a) (n := n) (l := Int32.ofNat lv) (i := Int32.ofNat i) hy ly (o := b + 1) (by omega)).n64, (zb_times hy hy (k := b + 1) (by omega)).n64, hR⟩
  · unfold f_X4_value_B17
    rw [l_ord g, ho, if_pos (by rw [zi_lt (by omega) (by omega)]; omega)]
    try dsimp only
    unfold sp_value at hQ
    by_cases e : 0 ≤ y
    · rw [if_pos e] at hQ
      rw [if_pos ((zf_ge0 y).mpr e)]
      exact hQ
    · rw [if_neg e] at hQ
      rw [if_neg (fun k => e ((zf_ge0 y).mp k))]
      have hz := zb_value (a := a) (n := n) (l := Int32.ofNat lv) (i := Int32.ofNat i) hx h4
      unfold sp_value at hz
      rw [if_neg e] at hz
      exact ⟨hz.n64, hQ⟩
end ZC2
