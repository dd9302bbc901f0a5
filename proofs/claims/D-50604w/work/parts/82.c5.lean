set_option maxRecDepth 100000
/-! shifted moments of the class; pairs and zeros -/
section ZC5
variable {K : Nat → Option Nat} {X : String → Nat → zw_H → Prop} {h : zw_H} {z : zW} {a : Nat → Int32} {n l o : Nat} {fm : Int32} {f : zAr}
theorem k_shd5 (g : zLn h z a n fm f) (hr : zRow a n l o) {r lev i k : Nat} (hl : lev + r = l) (hd : r ≤ 0) (hi : i < 2 ^ lev) (hk : k ≤ 4) {Q : Int64 → zw_H → Prop} (hQ : Q (sp_shd a n l r i k) h) : f_X4_shifteds5 K (some (z.1 0)) (some (z.2.1 lev i)) (Int32.ofNat k) h Q X := by
  have h5 := hr.2.2.2.2.1
  have hp := zi_p5 (show lev ≤ 5 by omega)
  unfold f_X4_shifteds5
  rw [b_lv g (by omega) hi, l_lev g, hr.2.2.1]
  cases r with
  | zero =>
    have el : lev = l := by omega
    rw [if_neg (show ¬ Int32.ofNat lev ≠ Int32.ofNat l from fun e => e (by rw [el])), l_c g]
    have hQ2 : Q (sp_moment a n (Int32.ofNat lev) (Int32.ofNat i) k) h := by rw [el]; exact hQ
    exact k_moment g hr.2.1 (by omega) hi (by omega) hQ2
  | succ r => omega
theorem k_shift4 (g : zLn h z a n fm f) (hr : zRow a n l o) {r lev i bel k : Nat} (hl : lev + 1 + r = l) (hd : r ≤ 0) (hi : i < 2 ^ lev) (hb : bel < 2 ^ (lev + 1)) (hk : k ≤ 4) {Q : Int64 → zw_H → Prop} (hQ : Q (sp_sh1 (fun j => sp_shd a n l r bel j) (sp_by lev i bel) k (k + 1)) h) : f_X4_shifts4 K (some (z.1 0)) (some (z.2.1 (lev + 1) bel)) (some (z.2.1 lev i)) (Int32.ofNat k) h Q X := by
  have h5 := hr.2.2.2.2.1
  unfold f_X4_shifts4
  refine zl3_run (B := f_X4_shifts4_B6 K Q X _ (some (z.1 0)) (some (z.2.1 (lev + 1) bel)) (some (z.2.1 lev i)) (Int32.ofNat k)) (fun j => sp_sh1 (fun j => sp_shd a n l r bel j) (sp_by lev i bel) k j) (fun j => Int32.ofNat j) (fun _ => h) (n := k + 1) (fun R j hj hR => ?_) (fun R => ?_) (k + 1) zfu 0 (by omega) (Nat.lt_of_le_of_lt (show k + 1 ≤ 5 by omega) (by decide))
  · unfold f_X4_shifts4_B6
    rw [if_neg (by rw [zi_lt (by omega) (by omega)]; omega)]
    refine c1_choose (by omega) ?_
    rw [l_c g, sp_chl_eq (by omega) (by omega)]
    refine k_shd5 g hr (r := r) (lev := lev + 1) hl (by omega) hb (by omega) ?_
    rw [b_ct g (by omega) hb, b_ct g (by omega) hi, ← Int32.ofNat_sub _ _ (show j ≤ k by omega)]
    have e : sp_centre (Int32.ofNat (lev + 1)) (Int32.ofNat bel) - sp_centre (Int32.ofNat lev) (Int32.ofNat i) = sp_by lev i bel := by
      unfold sp_by
      rw [zi_succ]
    rw [e]
    refine c4_raised (by omega) ?_
    simp only [olet_iff, zi_succ]
    exact hR
  · unfold f_X4_shifts4_B6
    rw [if_pos (by rw [zi_lt (by omega) (by omega)]; omega)]
    exact hQ
theorem k_shd4 (g : zLn h z a n fm f) (hr : zRow a n l o) {r lev i k : Nat} (hl : lev + r = l) (hd : r ≤ 1) (hi : i < 2 ^ lev) (hk : k ≤ 4) {Q : Int64 → zw_H → Prop} (hQ : Q (sp_shd a n l r i k) h) : f_X4_shifteds4 K (some (z.1 0)) (some (z.2.1 lev i)) (Int32.ofNat k) h Q X := by
  have h5 := hr.2.2.2.2.1
  have hp := zi_p5 (show lev ≤ 5 by omega)
  unfold f_X4_shifteds4
  rw [b_lv g (by omega) hi, l_lev g, hr.2.2.1]
  cases r with
  | zero =>
    have el : lev = l := by omega
    rw [if_neg (show ¬ Int32.ofNat lev ≠ Int32.ofNat l from fun e => e (by rw [el])), l_c g]
    have hQ2 : Q (sp_moment a n (Int32.ofNat lev) (Int32.ofNat i) k) h := by rw [el]; exact hQ
    exact k_moment g hr.2.1 (by omega) hi (by omega) hQ2
  | succ r =>
    have hi2 : 2 * i < 2 ^ (lev + 1) := by rw [Nat.pow_succ]; omega
    have hi3 : 2 * i + 1 < 2 ^ (lev + 1) := by rw [Nat.pow_succ]; omega
    have e2 : (2 : Int32) * Int32.ofNat i = Int32.ofNat (2 * i) := (Int32.ofNat_mul 2 i).symm
    have el : l - (r + 1) = lev := by omega
    have es : sp_shd a n l (r + 1) i k = sp_sh1 (fun j => sp_shd a n l r (2 * i) j) (sp_by (l - (r + 1)) i (2 * i)) k (k + 1) + sp_sh1 (fun j => sp_shd a n l r (2 * i + 1) j) (sp_by (l - (r + 1)) i (2 * i + 1)) k (k + 1) := rfl
    rw [es, el] at hQ
    rw [if_pos (show Int32.ofNat lev ≠ Int32.ofNat l from fun e => by have := (zi_inj (by omega) (by omega)).mp e; omega), b_lv g (by omega) hi, b_no g (by omega) hi, l_c g, zi_succ, e2, l_box g (by omega) hi2]
    try dsimp only
    rw [l_c g]
    refine k_shift4 g hr (r := r) (by omega) (by omega) hi hi2 hk ?_
    rw [b_lv g (by omega) hi, b_no g (by omega) hi, l_c g, zi_succ, e2, zi_succ, l_box g (by omega) hi3]
    try dsimp only
    rw [l_c g]
    exact k_shift4 g hr (r := r) (by omega) (by omega) hi hi3 hk hQ
theorem k_shift3 (g : zLn h z a n fm f) (hr : zRow a n l o) {r lev i bel k : Nat} (hl : lev + 1 + r = l) (hd : r ≤ 1) (hi : i < 2 ^ lev) (hb : bel < 2 ^ (lev + 1)) (hk : k ≤ 4) {Q : Int64 → zw_H → Prop} (hQ : Q (sp_sh1 (fun j => sp_shd a n l r bel j) (sp_by lev i bel) k (k + 1)) h) : f_X4_shifts3 K (some (z.1 0)) (some (z.2.1 (lev + 1) bel)) (some (z.2.1 lev i)) (Int32.ofNat k) h Q X := by
  have h5 := hr.2.2.2.2.1
  unfold f_X4_shifts3
  refine zl3_run (B := f_X4_shifts3_B6 K Q X _ (some (z.1 0)) (some (z.2.1 (lev + 1) bel)) (some (z.2.1 lev i)) (Int32.ofNat k)) (fun j => sp_sh1 (fun j => sp_shd a n l r bel j) (sp_by lev i bel) k j) (fun j => Int32.ofNat j) (fun _ => h) (n := k + 1) (fun R j hj hR => ?_) (fun R => ?_) (k + 1) zfu 0 (by omega) (Nat.lt_of_le_of_lt (show k + 1 ≤ 5 by omega) (by decide))
  · unfold f_X4_shifts3_B6
    rw [if_neg (by rw [zi_lt (by omega) (by omega)]; omega)]
    refine c1_choose (by omega) ?_
    rw [l_c g, sp_chl_eq (by omega) (by omega)]
    refine k_shd4 g hr (r := r) (lev := lev + 1) hl (by omega) hb (by omega) ?_
    rw [b_ct g (by omega) hb, b_ct g (by omega) hi, ← Int32.ofNat_sub _ _ (show j ≤ k by omega)]
    have e : sp_centre (Int32.ofNat (lev + 1)) (Int32.ofNat bel) - sp_centre (Int32.ofNat lev) (Int32.ofNat i) = sp_by lev i bel := by
      unfold sp_by
      rw [zi_succ]
    rw [e]
    refine c4_raised (by omega) ?_
    simp only [olet_iff, zi_succ]
    exact hR
  · unfold f_X4_shifts3_B6
    rw [if_pos (by rw [zi_lt (by omega) (by omega)]; omega)]
    exact hQ
theorem k_shd3 (g : zLn h z a n fm f) (hr : zRow a n l o) {r lev i k : Nat} (hl : lev + r = l) (hd : r ≤ 2) (hi : i < 2 ^ lev) (hk : k ≤ 4) {Q : Int64 → zw_H → Prop} (hQ : Q (sp_shd a n l r i k) h) : f_X4_shifteds3 K (some (z.1 0)) (some (z.2.1 lev i)) (Int32.ofNat k) h Q X := by
  have h5 := hr.2.2.2.2.1
  have hp := zi_p5 (show lev ≤ 5 by omega)
  unfold f_X4_shifteds3
  rw [b_lv g (by omega) hi, l_lev g, hr.2.2.1]
  cases r with
  | zero =>
    have el : lev = l := by omega
    rw [if_neg (show ¬ Int32.ofNat lev ≠ Int32.ofNat l from fun e => e (by rw [el])), l_c g]
    have hQ2 : Q (sp_moment a n (Int32.ofNat lev) (Int32.ofNat i) k) h := by rw [el]; exact hQ
    exact k_moment g hr.2.1 (by omega) hi (by omega) hQ2
  | succ r =>
    have hi2 : 2 * i < 2 ^ (lev + 1) := by rw [Nat.pow_succ]; omega
    have hi3 : 2 * i + 1 < 2 ^ (lev + 1) := by rw [Nat.pow_succ]; omega
    have e2 : (2 : Int32) * Int32.ofNat i = Int32.ofNat (2 * i) := (Int32.ofNat_mul 2 i).symm
    have el : l - (r + 1) = lev := by omega
    have es : sp_shd a n l (r + 1) i k = sp_sh1 (fun j => sp_shd a n l r (2 * i) j) (sp_by (l - (r + 1)) i (2 * i)) k (k + 1) + sp_sh1 (fun j => sp_shd a n l r (2 * i + 1) j) (sp_by (l - (r + 1)) i (2 * i + 1)) k (k + 1) := rfl
    rw [es, el] at hQ
    rw [if_pos (show Int32.ofNat lev ≠ Int32.ofNat l from fun e => by have := (zi_inj (by omega) (by omega)).mp e; omega), b_lv g (by omega) hi, b_no g (by omega) hi, l_c g, zi_succ, e2, l_box g (by omega) hi2]
    try dsimp only
    rw [l_c g]
    refine k_shift3 g hr (r := r) (by omega) (by omega) hi hi2 hk ?_
    rw [b_lv g (by omega) hi, b_no g (by omega) hi, l_c g, zi_succ, e2, zi_succ, l_box g (by omega) hi3]
    try dsimp only
    rw [l_c g]
    exact k_shift3 g hr (r := r) (by omega) (by omega) hi hi3 hk hQ
theorem k_shift2 (g : zLn h z a n fm f) (hr : zRow a n l o) {r lev i bel k : Nat} (hl : lev + 1 + r = l) (hd : r ≤ 2) (hi : i < 2 ^ lev) (hb : bel < 2 ^ (lev + 1)) (hk : k ≤ 4) {Q : Int64 → zw_H → Prop} (hQ : Q (sp_sh1 (fun j => sp_shd a n l r bel j) (sp_by lev i bel) k (k + 1)) h) : f_X4_shifts2 K (some (z.1 0)) (some (z.2.1 (lev + 1) bel)) (some (z.2.1 lev i)) (Int32.ofNat k) h Q X := by
  have h5 := hr.2.2.2.2.1
  unfold f_X4_shifts2
  refine zl3_run (B := f_X4_shifts2_B6 K Q X _ (some (z.1 0)) (some (z.2.1 (lev + 1) bel)) (some (z.2.1 lev i)) (Int32.ofNat k)) (fun j => sp_sh1 (fun j => sp_shd a n l r bel j) (sp_by lev i bel) k j) (fun j => Int32.ofNat j) (fun _ => h) (n := k + 1) (fun R j hj hR => ?_) (fun R => ?_) (k + 1) zfu 0 (by omega) (Nat.lt_of_le_of_lt (show k + 1 ≤ 5 by omega) (by decide))
  · unfold f_X4_shifts2_B6
    rw [if_neg (by rw [zi_lt (by omega) (by omega)]; omega)]
    refine c1_choose (by omega) ?_
    rw [l_c g, sp_chl_eq (by omega) (by omega)]
    refine k_shd3 g hr (r := r) (lev := lev + 1) hl (by omega) hb (by omega) ?_
    rw [b_ct g (by omega) hb, b_ct g (by omega) hi, ← Int32.ofNat_sub _ _ (show j ≤ k by omega)]
    have e : sp_centre (Int32.ofNat (lev + 1)) (Int32.ofNat bel) - sp_centre (Int32.ofNat lev) (Int32.ofNat i) = sp_by lev i bel := by
      unfold sp_by
      rw [zi_succ]
    rw [e]
    refine c4_raised (by omega) ?_
    simp only [olet_iff, zi_succ]
    exact hR
  · unfold f_X4_shifts2_B6
    rw [if_pos (by rw [zi_lt (by omega) (by omega)]; omega)]
    exact hQ
theorem k_shd2 (g : zLn h z a n fm f) (hr : zRow a n l o) {r lev i k : Nat} (hl : lev + r = l) (hd : r ≤ 3) (hi : i < 2 ^ lev) (hk : k ≤ 4) {Q : Int64 → zw_H → Prop} (hQ : Q (sp_shd a n l r i k) h) : f_X4_shifteds2 K (some (z.1 0)) (some (z.2.1 lev i)) (Int32.ofNat k) h Q X := by
  have h5 := hr.2.2.2.2.1
  have hp := zi_p5 (show lev ≤ 5 by omega)
  unfold f_X4_shifteds2
  rw [b_lv g (by omega) hi, l_lev g, hr.2.2.1]
  cases r with
  | zero =>
    have el : lev = l := by omega
    rw [if_neg (show ¬ Int32.ofNat lev ≠ Int32.ofNat l from fun e => e (by rw [el])), l_c g]
    have hQ2 : Q (sp_moment a n (Int32.ofNat lev) (Int32.ofNat i) k) h := by rw [el]; exact hQ
    exact k_moment g hr.2.1 (by omega) hi (by omega) hQ2
  | succ r =>
    have hi2 : 2 * i < 2 ^ (lev + 1) := by rw [Nat.pow_succ]; omega
    have hi3 : 2 * i + 1 < 2 ^ (lev + 1) := by rw [Nat.pow_succ]; omega
    have e2 : (2 : Int32) * Int32.ofNat i = Int32.ofNat (2 * i) := (Int32.ofNat_mul 2 i).symm
    have el : l - (r + 1) = lev := by omega
    have es : sp_shd a n l (r + 1) i k = sp_sh1 (fun j => sp_shd a n l r (2 * i) j) (sp_by (l - (r + 1)) i (2 * i)) k (k + 1) + sp_sh1 (fun j => sp_shd a n l r (2 * i + 1) j) (sp_by (l - (r + 1)) i (2 * i + 1)) k (k + 1) := rfl
    rw [es, el] at hQ
    rw [if_pos (show Int32.ofNat lev ≠ Int32.ofNat l from fun e => by have := (zi_inj (by omega) (by omega)).mp e; omega), b_lv g (by omega) hi, b_no g (by omega) hi, l_c g, zi_succ, e2, l_box g (by omega) hi2]
    try dsimp only
    rw [l_c g]
    refine k_shift2 g hr (r := r) (by omega) (by omega) hi hi2 hk ?_
    rw [b_lv g (by omega) hi, b_no g (by omega) hi, l_c g, zi_succ, e2, zi_succ, l_box g (by omega) hi3]
    try dsimp only
    rw [l_c g]
    exact k_shift2 g hr (r := r) (by omega) (by omega) hi hi3 hk hQ
theorem k_shift1 (g : zLn h z a n fm f) (hr : zRow a n l o) {r lev i bel k : Nat} (hl : lev + 1 + r = l) (hd : r ≤ 3) (hi : i < 2 ^ lev) (hb : bel < 2 ^ (lev + 1)) (hk : k ≤ 4) {Q : Int64 → zw_H → Prop} (hQ : Q (sp_sh1 (fun j => sp_shd a n l r bel j) (sp_by lev i bel) k (k + 1)) h) : f_X4_shifts1 K (some (z.1 0)) (some (z.2.1 (lev + 1) bel)) (some (z.2.1 lev i)) (Int32.ofNat k) h Q X := by
  have h5 := hr.2.2.2.2.1
  unfold f_X4_shifts1
  refine zl3_run (B := f_X4_shifts1_B6 K Q X _ (some (z.1 0)) (some (z.2.1 (lev + 1) bel)) (some (z.2.1 lev i)) (Int32.ofNat k)) (fun j => sp_sh1 (fun j => sp_shd a n l r bel j) (sp_by lev i bel) k j) (fun j => Int32.ofNat j) (fun _ => h) (n := k + 1) (fun R j hj hR => ?_) (fun R => ?_) (k + 1) zfu 0 (by omega) (Nat.lt_of_le_of_lt (show k + 1 ≤ 5 by omega) (by decide))
  · unfold f_X4_shifts1_B6
    rw [if_neg (by rw [zi_lt (by omega) (by omega)]; omega)]
    refine c1_choose (by omega) ?_
    rw [l_c g, sp_chl_eq (by omega) (by omega)]
    refine k_shd2 g hr (r := r) (lev := lev + 1) hl (by omega) hb (by omega) ?_
    rw [b_ct g (by omega) hb, b_ct g (by omega) hi, ← Int32.ofNat_sub _ _ (show j ≤ k by omega)]
    have e : sp_centre (Int32.ofNat (lev + 1)) (Int32.ofNat bel) - sp_centre (Int32.ofNat lev) (Int32.ofNat i) = sp_by lev i bel := by
      unfold sp_by
      rw [zi_succ]
    rw [e]
    refine c4_raised (by omega) ?_
    simp only [olet_iff, zi_succ]
    exact hR
  · unfold f_X4_shifts1_B6
    rw [if_pos (by rw [zi_lt (by omega) (by omega)]; omega)]
    exact hQ
theorem k_shd1 (g : zLn h z a n fm f) (hr : zRow a n l o) {r lev i k : Nat} (hl : lev + r = l) (hd : r ≤ 4) (hi : i < 2 ^ lev) (hk : k ≤ 4) {Q : Int64 → zw_H → Prop} (hQ : Q (sp_shd a n l r i k) h) : f_X4_shifteds1 K (some (z.1 0)) (some (z.2.1 lev i)) (Int32.ofNat k) h Q X := by
  have h5 := hr.2.2.2.2.1
  have hp := zi_p5 (show lev ≤ 5 by omega)
  unfold f_X4_shifteds1
  rw [b_lv g (by omega) hi, l_lev g, hr.2.2.1]
  cases r with
  | zero =>
    have el : lev = l := by omega
    rw [if_neg (show ¬ Int32.ofNat lev ≠ Int32.ofNat l from fun e => e (by rw [el])), l_c g]
    have hQ2 : Q (sp_moment a n (Int32.ofNat lev) (Int32.ofNat i) k) h := by rw [el]; exact hQ
    exact k_moment g hr.2.1 (by omega) hi (by omega) hQ2
  | succ r =>
    have hi2 : 2 * i < 2 ^ (lev + 1) := by rw [Nat.pow_succ]; omega
    have hi3 : 2 * i + 1 < 2 ^ (lev + 1) := by rw [Nat.pow_succ]; omega
    have e2 : (2 : Int32) * Int32.ofNat i = Int32.ofNat (2 * i) := (Int32.ofNat_mul 2 i).symm
    have el : l - (r + 1) = lev := by omega
    have es : sp_shd a n l (r + 1) i k = sp_sh1 (fun j => sp_shd a n l r (2 * i) j) (sp_by (l - (r + 1)) i (2 * i)) k (k + 1) + sp_sh1 (fun j => sp_shd a n l r (2 * i + 1) j) (sp_by (l - (r + 1)) i (2 * i + 1)) k (k + 1) := rfl
    rw [es, el] at hQ
    rw [if_pos (show Int32.ofNat lev ≠ Int32.ofNat l from fun e => by have := (zi_inj (by omega) (by omega)).mp e; omega), b_lv g (by omega) hi, b_no g (by omega) hi, l_c g, zi_succ, e2, l_box g (by omega) hi2]
    try dsimp only
    rw [l_c g]
    refine k_shift1 g hr (r := r) (by omega) (by omega) hi hi2 hk ?_
    rw [b_lv g (by omega) hi, b_no g (by omega) hi, l_c g, zi_succ, e2, zi_succ, l_box g (by omega) hi3]
    try dsimp only
    rw [l_c g]
    exact k_shift1 g hr (r := r) (by omega) (by omega) hi hi3 hk hQ
theorem k_shift0 (g : zLn h z a n fm f) (hr : zRow a n l o) {r lev i bel k : Nat} (hl : lev + 1 + r = l) (hd : r ≤ 4) (hi : i < 2 ^ lev) (hb : bel < 2 ^ (lev + 1)) (hk : k ≤ 4) {Q : Int64 → zw_H → Prop} (hQ : Q (sp_sh1 (fun j => sp_shd a n l r bel j) (sp_by lev i bel) k (k + 1)) h) : f_X4_shifts0 K (some (z.1 0)) (some (z.2.1 (lev + 1) bel)) (some (z.2.1 lev i)) (Int32.ofNat k) h Q X := by
  have h5 := hr.2.2.2.2.1
  unfold f_X4_shifts0
  refine zl3_run (B := f_X4_shifts0_B6 K Q X _ (some (z.1 0)) (some (z.2.1 (lev + 1) bel)) (some (z.2.1 lev i)) (Int32.ofNat k)) (fun j => sp_sh1 (fun j => sp_shd a n l r bel j) (sp_by lev i bel) k j) (fun j => Int32.ofNat j) (fun _ => h) (n := k + 1) (fun R j hj hR => ?_) (fun R => ?_) (k + 1) zfu 0 (by omega) (Nat.lt_of_le_of_lt (show k + 1 ≤ 5 by omega) (by decide))
  · unfold f_X4_shifts0_B6
    rw [if_neg (by rw [zi_lt (by omega) (by omega)]; omega)]
    refine c1_choose (by omega) ?_
    rw [l_c g, sp_chl_eq (by omega) (by omega)]
    refine k_shd1 g hr (r := r) (lev := lev + 1) hl (by omega) hb (by omega) ?_
    rw [b_ct g (by omega) hb, b_ct g (by omega) hi, ← Int32.ofNat_sub _ _ (show j ≤ k by omega)]
    have e : sp_centre (Int32.ofNat (lev + 1)) (Int32.ofNat bel) - sp_centre (Int32.ofNat lev) (Int32.ofNat i) = sp_by lev i bel := by
      unfold sp_by
      rw [zi_succ]
    rw [e]
    refine c4_raised (by omega) ?_
    simp only [olet_iff, zi_succ]
    exact hR
  · unfold f_X4_shifts0_B6
    rw [if_pos (by rw [zi_lt (by omega) (by omega)]; omega)]
    exact hQ
theorem k_shd0 (g : zLn h z a n fm f) (hr : zRow a n l o) {r lev i k : Nat} (hl : lev + r = l) (hd : r ≤ 5) (hi : i < 2 ^ lev) (hk : k ≤ 4) {Q : Int64 → zw_H → Prop} (hQ : Q (sp_shd a n l r i k) h) : f_X4_shifteds0 K (some (z.1 0)) (some (z.2.1 lev i)) (Int32.ofNat k) h Q X := by
  have h5 := hr.2.2.2.2.1
  have hp := zi_p5 (show lev ≤ 5 by omega)
  unfold f_X4_shifteds0
  rw [b_lv g (by omega) hi, l_lev g, hr.2.2.1]
  cases r with
  | zero =>
    have el : lev = l := by omega
    rw [if_neg (show ¬ Int32.ofNat lev ≠ Int32.ofNat l from fun e => e (by rw [el])), l_c g]
    have hQ2 : Q (sp_moment a n (Int32.ofNat lev) (Int32.ofNat i) k) h := by rw [el]; exact hQ
    exact k_moment g hr.2.1 (by omega) hi (by omega) hQ2
  | succ r =>
    have hi2 : 2 * i < 2 ^ (lev + 1) := by rw [Nat.pow_succ]; omega
    have hi3 : 2 * i + 1 < 2 ^ (lev + 1) := by rw [Nat.pow_succ]; omega
    have e2 : (2 : Int32) * Int32.ofNat i = Int32.ofNat (2 * i) := (Int32.ofNat_mul 2 i).symm
    have el : l - (r + 1) = lev := by omega
    have es : sp_shd a n l (r + 1) i k = sp_sh1 (fun j => sp_shd a n l r (2 * i) j) (sp_by (l - (r + 1)) i (2 * i)) k (k + 1) + sp_sh1 (fun j => sp_shd a n l r (2 * i + 1) j) (sp_by (l - (r + 1)) i (2 * i + 1)) k (k + 1) := rfl
    rw [es, el] at hQ
    rw [if_pos (show Int32.ofNat lev ≠ Int32.ofNat l from fun e => by have := (zi_inj (by omega) (by omega)).mp e; omega), b_lv g (by omega) hi, b_no g (by omega) hi, l_c g, zi_succ, e2, l_box g (by omega) hi2]
    try dsimp only
    rw [l_c g]
    refine k_shift0 g hr (r := r) (by omega) (by omega) hi hi2 hk ?_
    rw [b_lv g (by omega) hi, b_no g (by omega) hi, l_c g, zi_succ, e2, zi_succ, l_box g (by omega) hi3]
    try dsimp only
    rw [l_c g]
    exact k_shift0 g hr (r := r) (by omega) (by omega) hi hi3 hk hQ
theorem e_abs2 {v : Int64} {Q : Int64 → zw_H → Prop} : f_J14_abs_2 K v h Q X = Q (if (0 : Int32) ≤ lg_cmp v 0 then v else -v) h := by
  unfold f_J14_abs_2
  split <;> rfl
theorem k_momentGap (g : zLn h z a n fm f) (hr : zRow a n l o) {Q : Int64 → zw_H → Prop} (hQ : Q (sp_mg a n l (l + 1)) h) : f_X4_momentGap K (some (z.1 0)) h Q X := by
  obtain ⟨hn, h24, hl, h2, h5, -⟩ := id hr
  obtain ⟨⟨fr, g6, g7⟩, g8, g9⟩ := g.2.2.2.1
  unfold f_X4_momentGap
  refine zl3_run (B := f_X4_momentGap_B4 K Q X _ (some (z.1 0))) (fun c => sp_mg a n l c) (fun c => Int32.ofNat c) (fun _ => h) (n := l + 1) (fun R c hc hR => ?_) (fun R => ?_) (l + 1) zfu 0 (by omega) (Nat.lt_of_le_of_lt (show l + 1 ≤ 6 by omega) (by decide))
  · obtain ⟨fb, k1, k2⟩ := g8 c (by omega)
    have hp := zi_p5 (show c ≤ 5 by omega)
    unfold f_X4_momentGap_B4
    rw [l_lev g, hl, if_neg (by rw [zi_lt (by omega) (by omega)]; omega), k_gA g.1 (by decide) rfl, k_rA g6 (by decide) (zi_inn (by omega) (by decide)), zi_clamp (by omega), g7 c (by omega), k_l k1 (by decide)]
    refine zl3_run (B := f_X4_momentGap_B28 K Q X _ (some (z.1 0)) (Int32.ofNat c) (some (z.1 (6 + c))) (Int32.ofNat (2 ^ c))) (fun i => sp_mg1 a n l c (sp_mg a n l c) i) (fun i => Int32.ofNat i) (fun _ => h) (n := 2 ^ c) (fun R2 i hi hR2 => ?_) (fun R2 => ?_) (2 ^ c) zfu 0 (by omega) (Nat.lt_of_le_of_lt hp (by decide))
    · unfold f_X4_momentGap_B28
      rw [if_neg (by rw [zi_le (by omega) (by omega)]; omega), k_rA k1 (by decide) (zi_inn hi (by omega)), zi_clamp (by omega), k2 i hi]
      refine zl3_run (B := f_X4_momentGap_B45 K Q X _ (some (z.1 0)) (Int32.ofNat c) (some (z.1 (6 + c))) (Int32.ofNat (2 ^ c)) (Int32.ofNat i) (some (z.2.1 c i))) (fun k => sp_mg2 a n l c i (sp_mg1 a n l c (sp_mg a n l c) i) k) (fun k => Int32.ofNat k) (fun _ => h) (n := 5) (fun R3 k hk hR3 => ?_) (fun R3 => ?_) 5 zfu 0 (by omega) (by decide)
      · unfold f_X4_momentGap_B45
        rw [if_neg (zi_c4 (by omega)), l_c g]
        refine k_moment g h24 (by omega) hi (by omega) ?_
        rw [l_c g]
        refine k_shd0 g hr (r := l - c) (by omega) (by omega) hi (by omega) ?_
        rw [e_abs2]
        simp only [olet_iff, zi_succ]
        exact hR3
      · unfold f_X4_momentGap_B45
        rw [if_pos zi_c5]
        simp only [olet_iff, zi_succ]
        exact hR2
    · unfold f_X4_momentGap_B28
      rw [if_pos (by rw [zi_le (by omega) (by omega)]; omega)]
      simp only [olet_iff, zi_succ]
      exact hR
  · unfold f_X4_momentGap_B4
    rw [l_lev g, hl, if_pos (by rw [zi_lt (by omega) (by omega)]; omega)]
    exact hQ
theorem zf_some {v : UInt64} (h : vf_n64 v) : Op.cmpValue (FP.dcmp v FP.dconst0) .g = Op.cmpValue (FP.dcmp v FP.dconst0) .l := by
  have g := zf_nan h
  have h3 : FP.Core.decode FP.Core.b64 FP.dconst0.toNat = .fin false 0 (-1074) := by decide +kernel
  have e : FP.dcmp v FP.dconst0 = FP.Core.order (FP.Core.decode FP.Core.b64 v.toNat) (.fin false 0 (-1074)) := by rw [← h3]; rfl
  rw [e]
  generalize FP.Core.decode FP.Core.b64 v.toNat = d at g
  have key : ∀ r : Ordering, Op.cmpValue (some r) .g = Op.cmpValue (some r) .l := fun r => by cases r <;> rfl
  cases d with
  | nan => exact absurd rfl g
  | inf s => exact key _
  | fin s c q => exact key _
theorem k_isZero (g : zLn h z a n fm f) (hr : zRow a n l o) {q : Nat} (hq : q < 255) {Q : Int32 → zw_H → Prop} (hQ : Q (sp_b (sp_pos (sp_pullOf a (Int32.ofNat q) 1 n) ≠ sp_pos (sp_pullOf a (Int32.ofNat (q + 1)) 1 n))) h) : f_X1_isZero K (some (z.1 0)) (Int32.ofNat q) h Q X := by
  have hb0 := hr.2.2.2.2.2.2.2.2
  have h24 := hr.2.1
  unfold f_X1_isZero f_X1_isZero_J30
  rw [l_c g]
  refine k_pull g hr (show q < 256 by omega) ?_
  rw [l_c g, zi_succ]
  refine k_pull g hr (show q + 1 < 256 by omega) ?_
  rw [if_pos rfl]
  have n1 : vf_n64 (sp_pullOf a (Int32.ofNat q) 1 n) := (zb_pullOf (show q < 256 by omega) (fun b hb => (hb0 b hb).1) (Nat.le_refl n) (by omega)).n64
  have n2 : vf_n64 (sp_pullOf a (Int32.ofNat (q + 1)) 1 n) := (zb_pullOf (show q + 1 < 256 by omega) (fun b hb => (hb0 b hb).1) (Nat.le_refl n) (by omega)).n64
  rw [zf_some n1, zf_some n2]
  unfold sp_pos at hQ
  generalize Op.cmpValue (FP.dcmp (sp_pullOf a (Int32.ofNat q) 1 n) FP.dconst0) .l = c1 at hQ
  generalize Op.cmpValue (FP.dcmp (sp_pullOf a (Int32.ofNat (q + 1)) 1 n) FP.dconst0) .l = c2 at hQ
  by_cases e1 : c1 ≤ 0
  · rw [if_pos e1] at hQ
    rw [if_pos e1, if_neg (Int32.not_lt.mpr e1)]
    by_cases e2 : c2 ≤ 0
    · rw [if_pos e2] at hQ
      rw [if_pos e2]
      exact hQ
    · rw [if_neg e2] at hQ
      rw [if_neg e2]
      exact hQ
  · rw [if_neg e1] at hQ
    rw [if_neg e1]
    by_cases e2 : c2 ≤ 0
    · rw [if_pos e2] at hQ
      rw [if_pos e2]
      exact hQ
    · rw [if_neg e2] at hQ
      rw [if_neg e2, if_pos (Int32.not_le.mp e1)]
      exact hQ
theorem sp_far_comm (x y : Int32) : sp_far x y = sp_far y x := by
  unfold sp_far
  by_cases e1 : y ≤ x
  · by_cases e2 : x ≤ y
    · have e : x = y := Int32.le_antisymm e2 e1
      rw [e]
    · rw [if_pos e1, if_neg e2]
  · rw [if_neg e1, if_pos (Int32.le_of_lt (Int32.not_le.mp e1))]
theorem sp_pair_comm (a : Nat → Int32) (i j : Nat) (k : Int32) : sp_pair a i j k = sp_pair a j i k := by
  have e3 : ∀ x y : Int32, (x = y) = (y = x) := fun x y => propext ⟨Eq.symm, Eq.symm⟩
  unfold sp_pair
  by_cases e : a (7 + 4 * i) = a (7 + 4 * j)
  · rw [if_pos e, if_pos e.symm]
  · rw [if_neg e, if_neg (show ¬ a (7 + 4 * j) = a (7 + 4 * i) from fun k => e k.symm)]
    by_cases e1 : 2 ≤ k
    · rw [if_pos e1, if_pos e1]
      by_cases e2 : k = 2
      · rw [if_pos e2, if_pos e2, sp_far_comm]
      · rw [if_neg e2, if_neg e2]
        exact sp_cong ⟨Eq.symm, Eq.symm⟩
    · rw [if_neg e1, if_neg e1]
      refine sp_cong ?_
      rw [e3 (sp_sign (a (7 + 4 * i + 1)))]
theorem zi_sgn {v : Int32} (h : v ≠ 0) : sp_sign v = (if 0 ≤ v then 1 else 0) := by
  unfold sp_sign
  by_cases e : 0 ≤ v
  · rw [if_pos e, if_neg (fun k => h (Int32.le_antisymm k e))]
  · rw [if_neg e, if_pos (Int32.le_of_lt (Int32.not_le.mp e))]
theorem k_isPair (g : zLn h z a n fm f) (hr : zRow a n l o) {i j : Nat} (hi : i < n) (hj : j < n) (hx : a (7 + 4 * i) ≠ a (7 + 4 * j)) {k : Int32} (hk : 0 ≤ k ∧ k ≤ 3) {Q : Int32 → zw_H → Prop} (hQ : Q (sp_pair a i j k) h) : f_X1_isPair K (some (z.1 0)) (some (z.2.2 i)) (some (z.2.2 j)) k h Q X := by
  have hl := hr.2.2.1
  have h5 := hr.2.2.2.2.1
  obtain ⟨⟨x, hx1, hx2⟩, ⟨ci, -⟩, -⟩ := hr.2.2.2.2.2.2.2.2 i hi
  obtain ⟨⟨y, hy1, hy2⟩, ⟨cj, -⟩, -⟩ := hr.2.2.2.2.2.2.2.2 j hj
  unfold sp_pair at hQ
  rw [if_neg hx] at hQ
  unfold f_X1_isPair f_X1_isPair_J40 f_X1_isPair_J52 f_X1_isPair_J75 f_X1_isPair_J87
  simp only [l_ch g hi, l_ch g hj]
  rw [zi_sgn ci, zi_sgn cj] at hQ
  by_cases k0 : k = 0
  · subst k0
    rw [if_neg (by decide)] at hQ
    rw [if_pos rfl]
    by_cases e1 : 0 ≤ a (7 + 4 * i + 1)
    · rw [if_pos e1] at hQ
      rw [if_pos e1]
      by_cases e2 : 0 ≤ a (7 + 4 * j + 1)
      · rw [if_pos e2] at hQ
        rw [if_pos e2]
        exact hQ
      · rw [if_neg e2] at hQ
        rw [if_neg e2]
        exact hQ
    · rw [if_neg e1] at hQ
      rw [if_neg e1]
      by_cases e2 : 0 ≤ a (7 + 4 * j + 1)
      · rw [if_pos e2] at hQ
        rw [if_pos e2]
        exact hQ
      · rw [if_neg e2] at hQ
        rw [if_neg e2]
        exact hQ
  · rw [if_neg k0]
    by_cases k1 : k = 1
    · subst k1
      rw [if_neg (by decide)] at hQ
      rw [if_pos rfl]
      by_cases e1 : 0 ≤ a (7 + 4 * i + 1)
      · rw [if_pos e1] at hQ
        rw [if_pos e1]
        by_cases e2 : 0 ≤ a (7 + 4 * j + 1)
        · rw [if_pos e2] at hQ
          rw [if_pos e2]
          exact hQ
        · rw [if_neg e2] at hQ
          rw [if_neg e2]
          exact hQ
      · rw [if_neg e1] at hQ
        rw [if_neg e1]
        by_cases e2 : 0 ≤ a (7 + 4 * j + 1)
        · rw [if_pos e2] at hQ
          rw [if_pos e2]
          exact hQ
        · rw [if_neg e2] at hQ
          rw [if_neg e2]
          exact hQ
    · rw [if_neg k1]
      have hk2 : 2 ≤ k.toInt := by
        have h1 := Int32.le_iff_toInt_le.mp hk.1
        have h0 : (0 : Int32).toInt = 0 := rfl
        have a0 : k.toInt ≠ 0 := fun e => k0 (Int32.toInt_inj.mp (e.trans rfl))
        have a1 : k.toInt ≠ 1 := fun e => k1 (Int32.toInt_inj.mp (e.trans rfl))
        omega
      have hk2' : (2 : Int32) ≤ k := Int32.le_iff_toInt_le.mpr hk2
      rw [if_pos hk2'] at hQ
      by_cases k2 : k = 2
      · rw [if_pos k2] at hQ
        rw [if_pos k2, l_x g hj, l_c g, hy2, l_near g (by omega) hl hi hx1 hx2 hy1, sp_b01, true_and, ← hy2]
        exact hQ
      · rw [if_neg k2] at hQ
        rw [if_neg k2]
        have a2 : k.toInt ≠ 2 := fun e => k2 (Int32.toInt_inj.mp (e.trans rfl))
        refine ⟨Or.inr (by omega), ?_⟩
        have hbx := zbx_lt (l := l) (y := x) (by omega) hx1
        have hby := zbx_lt (l := l) (y := y) (by omega) hy1
        have hp := zi_p5 h5
        rw [l_x g hi, l_c g, hx2, l_leaf g (by omega) hl hx1]
        try dsimp only
        rw [l_x g hj, l_c g, hy2, l_leaf g (by omega) hl hy1]
        try dsimp only
        rw [hl, hx2, hy2, zi_box (by omega) hx1, zi_box (by omega) hy1] at hQ
        have hinj : z.2.1 l (zbx l x) = z.2.1 l (zbx l y) ↔ zbx l x = zbx l y := by
          refine ⟨fun e => ?_, fun e => by rw [e]⟩
          have c1 := g.2.2.2.1.2.2 l (by omega) _ hbx
          have c2 := g.2.2.2.1.2.2 l (by omega) _ hby
          rw [e, c2] at c1
          injection c1 with c1
          injection c1 with c1
          injection c1 with c3 c1
          injection c1 with c4 c1
          injection c1 with c5 c1
          injection c5 with c5
          exact ((zi_inj (by omega) (by omega)).mp c5).symm
        by_cases e : zbx l x = zbx l y
        · rw [sp_bt (by rw [e])] at hQ
          rw [if_neg (fun k => k (by rw [e]))]
          exact hQ
        · rw [sp_bf (fun k => e ((zi_inj (by omega) (by omega)).mp k))] at hQ
          rw [if_pos (fun k => e (hinj.mp (Option.some.inj k)))]
          exact hQ
end ZC5
