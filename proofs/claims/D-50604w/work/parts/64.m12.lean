set_option maxRecDepth 100000
/-! sums over far lists -/
theorem zi_inj {a b : Nat} (ha : a < 2 ^ 31) (hb : b < 2 ^ 31) : Int32.ofNat a = Int32.ofNat b ↔ a = b := by
  rw [← Int32.toInt_inj, zi_nat ha, zi_nat hb]
  omega
def zct (l i : Nat) : Nat := i * 2 ^ (8 - l) + 2 ^ (8 - l) / 2
theorem zct_lt {l i : Nat} (hl : l ≤ 8) (hi : i < 2 ^ l) : zct l i < 512 := by
  have h1 : i * 2 ^ (8 - l) ≤ 2 ^ l * 2 ^ (8 - l) := Nat.mul_le_mul_right _ (Nat.le_of_lt hi)
  rw [← Nat.pow_add, show l + (8 - l) = 8 by omega] at h1
  have := zi_p256 l
  unfold zct
  omega
theorem zi_centre {l i : Nat} (hl : l ≤ 8) : sp_centre (Int32.ofNat l) (Int32.ofNat i) = Int32.ofNat (zct l i) := by
  have := zi_p256 l
  unfold sp_centre
  rw [zi_wide hl, ← Int32.ofNat_mul, show Int32.ofNat (2 ^ (8 - l)) / 2 = Int32.ofNat (2 ^ (8 - l) / 2) from zi_div (b := 2) (by omega) (by omega) (by omega), ← Int32.ofNat_add]
  rfl
theorem zfar_dist {l i y : Nat} (hd : 1 < zdi i (zbx l y)) : 2 ^ (8 - l) + 2 ^ (8 - l) / 2 ≤ zdi y (zct l i) := by
  unfold zbx at hd
  unfold zct
  have hpos := Nat.two_pow_pos (8 - l)
  generalize 2 ^ (8 - l) = W at hd hpos
  have h1 := Nat.div_add_mod y W
  have h2 := Nat.mod_lt y hpos
  generalize y / W = f at h1 hd
  generalize y % W = r at h1 h2
  unfold zdi at hd ⊢
  rcases Nat.lt_or_ge (f + 1) i with g | g
  · have h3 : (f + 2) * W ≤ i * W := Nat.mul_le_mul_right _ g
    rw [Nat.add_mul, Nat.mul_comm f W] at h3
    omega
  · have h3 : (i + 2) * W ≤ f * W := Nat.mul_le_mul_right _ (by omega)
    rw [Nat.add_mul, Nat.mul_comm f W] at h3
    omega
theorem zi_subne {y c : Nat} (hy : y < 2 ^ 31) (hc : c < 2 ^ 31) (h : y ≠ c) : Int32.ofNat y - Int32.ofNat c ≠ 0 := fun e => h ((zi_inj hy hc).mp (zi_sub0 e))
theorem zfar_ne {l i y : Nat} (hl : l ≤ 8) (hi : i < 2 ^ l) (hy : y < 256) (hd : 1 < zdi i (zbx l y)) : Int32.ofNat y - sp_centre (Int32.ofNat l) (Int32.ofNat i) ≠ 0 := by
  have h1 := zct_lt hl hi
  have h2 := zfar_dist hd
  have h3 := Nat.two_pow_pos (8 - l)
  rw [zi_centre hl]
  refine zi_subne (by omega) (by omega) (fun e => ?_)
  unfold zdi at h2
  omega
def sp_farS (a : Nat → Int32) (n o y : Nat) (s : zFa) (k : Nat) : UInt64 := zacc (fun k t => FP.dadd t (sp_value a n (Int32.ofNat (s.2.1 k)) (Int32.ofNat (s.2.2 k)) (Int32.ofNat y - sp_centre (Int32.ofNat (s.2.1 k)) (Int32.ofNat (s.2.2 k))) o)) FP.dconst0 k
def sp_farOf (a : Nat → Int32) (n l o y : Nat) : UInt64 := sp_farS a n o y (sp_fars a n y (l - 1)) (sp_fars a n y (l - 1)).1
theorem zb_farS {a : Nat → Int32} {n o y L : Nat} {s : zFa} (ho : o ≤ 4) (hy : y < 256) (hL : L ≤ 8) (hs : zfok y L s) : ∀ {k : Nat}, k ≤ s.1 → k ≤ 100 → zBd (sp_farS a n o y s k) (1152 + 2 * k)
  | 0, _, _ => zBd.mono zBd_0 (by decide)
  | k + 1, hk, hk2 => by
    have ih := zb_farS (a := a) (n := n) ho hy hL hs (k := k) (by omega) (by omega)
    obtain ⟨g1, g2, g3, g4⟩ := hs k (by omega)
    have h1 : zBd (sp_value a n (Int32.ofNat (s.2.1 k)) (Int32.ofNat (s.2.2 k)) (Int32.ofNat y - sp_centre (Int32.ofNat (s.2.1 k)) (Int32.ofNat (s.2.2 k))) o) 1152 := zb_value (zfar_ne (by omega) g3 hy g4) ho
    exact zBd.mono (zBd_add (K := 1152 + 2 * k) ih (zBd.mono h1 (by omega)) (by omega)) (by omega)
theorem zb_farOf {a : Nat → Int32} {n l o y : Nat} (ho : o ≤ 4) (hy : y < 256) (hl : l ≤ 5) (h2 : 2 ≤ l) : zBd (sp_farOf a n l o y) 1184 := by
  have h1 := zc_fars a n y (l - 1)
  exact zBd.mono (zb_farS ho hy (L := 1 + (l - 1)) (by omega) (zfok_fars a n y (l - 1)) (Nat.le_refl _) (by omega)) (by omega)
theorem zb_pow {y : UInt64} {B : Nat} (hB : 1074 ≤ B) (hy : zBd y B) : ∀ {k : Nat}, 1074 + (B - 1073) * k ≤ 1500 → B ≤ 1600 → zBd (sp_times FP.dconst1 y k) (1074 + (B - 1073) * k)
  | 0, _, _ => zBd_1
  | k + 1, hk, h2 => by
    rw [Nat.mul_succ] at hk
    have ih := zb_pow hB hy (k := k) (by omega) h2
    have := zBd_mul (K := 1074 + (B - 1073) * k) (K' := B) ih hy (by omega) (by omega)
    exact zBd.mono this (by rw [Nat.mul_succ]; omega)
/-- one box's part in the bound of a far sum's error -/
def sp_bndr (y l i : Nat) : UInt64 := FP.ddiv (FP.i2d (sp_wide (Int32.ofNat l) / 2)) (FP.i2d (sp_far (Int32.ofNat y) (sp_centre (Int32.ofNat l) (Int32.ofNat i))))
def sp_bnd1 (a : Nat → Int32) (n y l i ord : Nat) : UInt64 := FP.ddiv (FP.dmul (FP.i2d (sp_charge a n (Int32.ofNat l) (Int32.ofNat i) 1)) (sp_times FP.dconst1 (sp_bndr y l i) (ord + 1))) (FP.i2d (sp_far (Int32.ofNat y) (sp_centre (Int32.ofNat l) (Int32.ofNat i)) - sp_wide (Int32.ofNat l) / 2))
def sp_bndS (a : Nat → Int32) (n ord y : Nat) (s : zFa) (k : Nat) : UInt64 := zacc (fun k t => FP.dadd t (sp_bnd1 a n y (s.2.1 k) (s.2.2 k) ord)) FP.dconst0 k
def sp_bound (a : Nat → Int32) (n l ord y : Nat) : UInt64 := sp_bndS a n ord y (sp_fars a n y (l - 1)) (sp_fars a n y (l - 1)).1
theorem zfar_far {l i y : Nat} (hl : l ≤ 8) (hi : i < 2 ^ l) (hy : y < 256) (hd : 1 < zdi i (zbx l y)) : sp_far (Int32.ofNat y) (sp_centre (Int32.ofNat l) (Int32.ofNat i)) ≠ 0 ∧ sp_far (Int32.ofNat y) (sp_centre (Int32.ofNat l) (Int32.ofNat i)) - sp_wide (Int32.ofNat l) / 2 ≠ 0 := by
  have h1 := zct_lt hl hi
  have h2 := zfar_dist hd
  have h3 := Nat.two_pow_pos (8 - l)
  have h4 := zi_p256 l
  have h5 : zdi y (zct l i) < 2 ^ 31 := by unfold zdi; omega
  rw [zi_centre hl, zi_wide hl, zi_far (by omega) (by omega), show Int32.ofNat (2 ^ (8 - l)) / 2 = Int32.ofNat (2 ^ (8 - l) / 2) from zi_div (b := 2) (by omega) (by omega) (by omega)]
  refine ⟨fun e => ?_, zi_subne h5 (by omega) (by omega)⟩
  have := (zi_inj (b := 0) h5 (by omega)).mp e
  omega
theorem zb_bndr {l i y : Nat} (hl : l ≤ 8) (hi : i < 2 ^ l) (hy : y < 256) (hd : 1 < zdi i (zbx l y)) : zBd (sp_bndr y l i) 1108 := zBd_div (zBd_i2d _) (zBd_i2d _) (zLb_i2d (zfar_far hl hi hy hd).1) (by decide)
theorem zb_bnd0 {a : Nat → Int32} {n l i y ord : Nat} (hl : l ≤ 8) (hi : i < 2 ^ l) (hy : y < 256) (ho : ord ≤ 4) (hd : 1 < zdi i (zbx l y)) : zBd (FP.dmul (FP.i2d (sp_charge a n (Int32.ofNat l) (Int32.ofNat i) 1)) (sp_times FP.dconst1 (sp_bndr y l i) (ord + 1))) 1290 := by
  have h1 := zb_pow (k := ord + 1) (by decide) (zb_bndr hl hi hy hd) (by omega) (by decide)
  exact zBd.mono (zBd_mul (zBd_i2d _) h1 (by omega) (by omega)) (by omega)
theorem zb_bnd1 {a : Nat → Int32} {n l i y ord : Nat} (hl : l ≤ 8) (hi : i < 2 ^ l) (hy : y < 256) (ho : ord ≤ 4) (hd : 1 < zdi i (zbx l y)) : zBd (sp_bnd1 a n y l i ord) 1291 := zBd_div (zb_bnd0 hl hi hy ho hd) (zBd_i2d _) (zLb_i2d (zfar_far hl hi hy hd).2) (by decide)
theorem zb_bndS {a : Nat → Int32} {n ord y L : Nat} {s : zFa} (ho : ord ≤ 4) (hy : y < 256) (hL : L ≤ 8) (hs : zfok y L s) : ∀ {k : Nat}, k ≤ s.1 → k ≤ 100 → zBd (sp_bndS a n ord y s k) (1291 + 2 * k)
  | 0, _, _ => zBd.mono zBd_0 (by decide)
  | k + 1, hk, hk2 => by
    have ih := zb_bndS (a := a) (n := n) ho hy hL hs (k := k) (by omega) (by omega)
    obtain ⟨g1, g2, g3, g4⟩ := hs k (by omega)
    have h1 : zBd (sp_bnd1 a n y (s.2.1 k) (s.2.2 k) ord) 1291 := zb_bnd1 (by omega) g3 hy ho g4
    exact zBd.mono (zBd_add (K := 1291 + 2 * k) ih (zBd.mono h1 (by omega)) (by omega)) (by omega)
theorem zb_bound {a : Nat → Int32} {n l ord y : Nat} (ho : ord ≤ 4) (hy : y < 256) (hl : l ≤ 5) (h2 : 2 ≤ l) : zBd (sp_bound a n l ord y) 1323 := by
  have h1 := zc_fars a n y (l - 1)
  exact zBd.mono (zb_bndS ho hy (L := 1 + (l - 1)) (by omega) (zfok_fars a n y (l - 1)) (Nat.le_refl _) (by omega)) (by omega)
def sp_abs (v : UInt64) : UInt64 := if (0 : Int32) ≤ (Op.cmpValue (FP.dcmp v FP.dconst0) .g) then v else FP.dsub FP.dconst0 v
theorem zb_abs {v : UInt64} {k : Nat} (h : zBd v k) (h1 : 1074 ≤ k) (h2 : k ≤ 2089) : zBd (sp_abs v) (k + 2) := by
  unfold sp_abs
  split
  · exact zBd.mono h (by omega)
  · exact zBd_sub (zBd.mono zBd_0 h1) h h2
def sp_gap (a : Nat → Int32) (n l o y : Nat) : UInt64 := sp_abs (FP.dsub (sp_sumOf a (Int32.ofNat y) 1 (-1) n) (FP.dadd (sp_sumOf a (Int32.ofNat y) 0 (-1) n) (sp_farOf a n l o y)))
theorem zb_by {a : Nat → Int32} {n l o y : Nat} (hr : zRow a n l o) (hy : y < 256) : zBd (FP.dadd (sp_sumOf a (Int32.ofNat y) 0 (-1) n) (sp_farOf a n l o y)) 1186 := by
  obtain ⟨-, h24, -, h2, h5, -, h4, -⟩ := hr
  exact zBd_add (K := 1184) (zBd.mono (zb_sumOf h24) (by omega)) (zb_farOf h4 hy h5 h2) (by decide)
theorem zb_gap0 {a : Nat → Int32} {n l o y : Nat} (hr : zRow a n l o) (hy : y < 256) : zBd (FP.dsub (sp_sumOf a (Int32.ofNat y) 1 (-1) n) (FP.dadd (sp_sumOf a (Int32.ofNat y) 0 (-1) n) (sp_farOf a n l o y))) 1188 := zBd_sub (K := 1186) (zBd.mono (zb_sumOf hr.2.1) (by have := hr.2.1; omega)) (zb_by hr hy) (by decide)
theorem zb_gap {a : Nat → Int32} {n l o y : Nat} (hr : zRow a n l o) (hy : y < 256) : zBd (sp_gap a n l o y) 1190 := zb_abs (zb_gap0 hr hy) (by decide) (by decide)
def sp_cost0 (a : Nat → Int32) (n : Nat) (x all : Int32) : Int32 := zacc (fun b s => s + (if a (7 + 4 * b) = x then 0 else if all ≠ 0 then 1 else sp_b (sp_far (a (7 + 4 * b) / sp_wide (a 3)) (x / sp_wide (a 3)) ≤ 1))) 0 n
def sp_cost (a : Nat → Int32) (n l y : Nat) (all : Int32) : Int32 := if all = 0 then sp_cost0 a n (Int32.ofNat y) all + ((a 4 + 1) * Int32.ofNat (sp_fars a n y (l - 1)).1) else sp_cost0 a n (Int32.ofNat y) all
section ZM12
variable {m : Nat → Nat} {w : zM} {h : zw_H} {K : Nat → Option Nat} {X : String → Nat → zw_H → Prop}
theorem c_farOf (d : zm_d m) {a : Nat → Int32} (ha : w.2.1 1 = a) {n l o y : Nat} (hr : zRow a n l o) (hy : y < 256) {Q : UInt64 → zw_H → Prop} (hQ : ∀ v, zSf w v → Q (sp_farOf a n l o y) (zm_o m v h)) : f_X2_farOf K (some (m 0)) (Int32.ofNat y) (zm_o m w h) Q X := by
  unfold f_X2_farOf
  rw [zm_c d]
  refine c_laysFar d ha hr hy (fun v hs hf => ?_)
  obtain ⟨hn, h24, hl, h2, h5, ho, h4, -⟩ := hr
  have hrow : v.2.1 1 = a := hs.row.trans ha
  have hQ := hQ v hs
  unfold sp_farOf at hQ
  have hc := zc_fars a n y (l - 1)
  have hok := zfok_fars a n y (l - 1)
  generalize sp_fars a n y (l - 1) = s at hQ hc hok hf
  refine zl3_run (B := f_X2_farOf_B10 K Q X _ (some (m 0)) (Int32.ofNat y)) (fun k => sp_farS a n o y s k) (fun k => Int32.ofNat k) (fun _ => zm_o m v h) (n := s.1) (fun R k hk hR => ?_) (fun R => ?_) s.1 zfu 0 (by omega) (Nat.lt_of_le_of_lt (show s.1 ≤ 16 by omega) (by decide))
  · unfold f_X2_farOf_B10
    obtain ⟨g1, g2, g3, g4⟩ := hok k hk
    rw [zm_g20 d, hf.1, if_neg (by rw [zi_le (by omega) (by omega)]; omega), zm_g18 d, zm_r18 d (by decide), zi_clamp (by omega)]
    refine ⟨zi_inn (by omega) (by decide), ?_⟩
    rw [zm_g19 d, zm_r19 d (by decide), zi_clamp (by omega)]
    refine ⟨zi_inn (by omega) (by decide), ?_⟩
    rw [(hf.2 k hk).1, (hf.2 k hk).2, zm_c d]
    refine c_valueOf d (n := n) (o := o) (by rw [hrow]; exact hn) h24 (by rw [hrow]; exact ho) h4 (zi_wide0 (by omega)) (zfar_ne (by omega) g3 hy g4) ?_
    rw [hrow]
    simp only [olet_iff, zi_succ]
    exact ⟨(zb_farS (a := a) (n := n) h4 hy (by omega) hok (k := k + 1) (by omega) (by omega)).n64, hR⟩
  · unfold f_X2_farOf_B10
    rw [zm_g20 d, hf.1, if_pos (by rw [zi_le (by omega) (by omega)]; omega)]
    exact hQ
theorem c_boundOf (d : zm_d m) {a : Nat → Int32} (ha : w.2.1 1 = a) {n l o y ord : Nat} (hr : zRow a n l o) (hy : y < 256) (hord : ord ≤ 4) {Q : UInt64 → zw_H → Prop} (hQ : ∀ v, zSf w v → Q (sp_bound a n l ord y) (zm_o m v h)) : f_X2_boundOf K (some (m 0)) (Int32.ofNat y) (Int32.ofNat ord) (zm_o m w h) Q X := by
  unfold f_X2_boundOf
  rw [zm_c d]
  refine c_laysFar d ha hr hy (fun v hs hf => ?_)
  obtain ⟨hn, h24, hl, h2, h5, ho, h4, -⟩ := hr
  have hrow : v.2.1 1 = a := hs.row.trans ha
  have hQ := hQ v hs
  unfold sp_bound at hQ
  have hc := zc_fars a n y (l - 1)
  have hok := zfok_fars a n y (l - 1)
  generalize sp_fars a n y (l - 1) = s at hQ hc hok hf
  refine zl3_run (B := f_X2_boundOf_B10 K Q X _ (some (m 0)) (Int32.ofNat y) (Int32.ofNat ord)) (fun k => sp_bndS a n ord y s k) (fun k => Int32.ofNat k) (fun _ => zm_o m v h) (n := s.1) (fun R k hk hR => ?_) (fun R => ?_) s.1 zfu 0 (by omega) (Nat.lt_of_le_of_lt (show s.1 ≤ 16 by omega) (by decide))
  · unfold f_X2_boundOf_B10
    obtain ⟨g1, g2, g3, g4⟩ := hok k hk
    have hb1 := zb_bndr (l := s.2.1 k) (by omega) g3 hy g4
    rw [zm_g20 d, hf.1, if_neg (by rw [zi_le (by omega) (by omega)]; omega), zm_g18 d, zm_r18 d (by decide), zi_clamp (by omega)]
    refine ⟨zi_inn (by omega) (by decide), ?_⟩
    rw [zm_g19 d, zm_r19 d (by decide), zi_clamp (by omega)]
    refine ⟨zi_inn (by omega) (by decide), ?_⟩
    rw [(hf.2 k hk).1, (hf.2 k hk).2, e_centre, e_far, zm_g18 d, zm_r18 d (by decide), zi_clamp (by omega), (hf.2 k hk).1]
    refine ⟨zi_inn (by omega) (by decide), ?_⟩
    rw [e_wide]
    refine ⟨by decide, ?_⟩
    simp only [olet_iff]
    refine ⟨hb1.n64, ?_⟩
    refine zl3_run (B := f_X2_boundOf_B71 K Q X _ (some (m 0)) (Int32.ofNat y) (Int32.ofNat ord) _ _ _ _ (sp_bndr y (s.2.1 k) (s.2.2 k))) (fun j => sp_times FP.dconst1 (sp_bndr y (s.2.1 k) (s.2.2 k)) j) (fun j => Int32.ofNat j) (fun _ => zm_o m v h) (n := ord + 1) (fun R2 j hj hR2 => ?_) (fun R2 => ?_) (ord + 1) zfu 0 (by omega) (Nat.lt_of_le_of_lt (show ord + 1 ≤ 5 by omega) (by decide))
    · unfold f_X2_boundOf_B71
      rw [if_neg (by rw [zi_lt (by omega) (by omega)]; omega)]
      simp only [olet_iff, zi_succ]
      exact ⟨(zb_pow (k := j + 1) (by decide) hb1 (by omega) (by decide)).n64, hR2⟩
    · unfold f_X2_boundOf_B71
      rw [if_pos (by rw [zi_lt (by omega) (by omega)]; omega)]
      dsimp only
      rw [zm_g18 d, zm_r18 d (by decide), zi_clamp (by omega)]
      refine ⟨zi_inn (by omega) (by decide), ?_⟩
      rw [zm_g19 d, zm_r19 d (by decide), zi_clamp (by omega)]
      refine ⟨zi_inn (by omega) (by decide), ?_⟩
      rw [(hf.2 k hk).1, (hf.2 k hk).2, zm_c d]
      refine c_charge d (n := n) (by rw [hrow]; exact hn) h24 (zi_wide0 (by omega)) ?_
      rw [hrow]
      simp only [olet_iff, zi_succ]
      exact ⟨(zb_bnd0 (a := a) (n := n) (by omega) g3 hy hord g4).n64, (zb_bnd1 (a := a) (n := n) (by omega) g3 hy hord g4).n64, (zb_bndS (a := a) (n := n) hord hy (by omega) hok (k := k + 1) (by omega) (by omega)).n64, hR⟩
  · unfold f_X2_boundOf_B10
    rw [zm_g20 d, hf.1, if_pos (by rw [zi_le (by omega) (by omega)]; omega)]
    exact hQ
theorem c_absolute {v : UInt64} {k : Nat} (hv : zBd v k) (h1 : 1074 ≤ k) (h2 : k ≤ 2089) {Q : UInt64 → zw_H → Prop} (hQ : Q (sp_abs v) h) : f_X2_absolute K v h Q X := by
  have hb := zb_abs hv h1 h2
  unfold f_X2_absolute
  unfold sp_abs at hQ hb
  split
  · rename_i g
    rw [if_pos g] at hQ
    exact hQ
  · rename_i g
    rw [if_neg g] at hQ hb
    simp only [olet_iff]
    exact ⟨hb.n64, hQ⟩
theorem c_gapOf (d : zm_d m) {a : Nat → Int32} (ha : w.2.1 1 = a) {n l o y : Nat} (hr : zRow a n l o) (hy : y < 256) {Q : UInt64 → zw_H → Prop} (hQ : ∀ v, zSf w v → Q (sp_gap a n l o y) (zm_o m v h)) : f_X2_gapOf K (some (m 0)) (Int32.ofNat y) (zm_o m w h) Q X := by
  have hn : w.2.1 1 0 = Int32.ofNat n := by rw [ha]; exact hr.1
  have hw : sp_wide (w.2.1 1 3) ≠ 0 := by rw [ha]; exact hr.hw
  unfold f_X2_gapOf
  rw [zm_c d]
  refine c_sumOf d hn hr.2.1 hw ?_
  rw [zm_c d]
  refine c_sumOf d hn hr.2.1 hw ?_
  rw [zm_c d]
  refine c_farOf d ha hr hy (fun v hs => ?_)
  rw [ha]
  simp only [olet_iff]
  exact ⟨(zb_by hr hy).n64, (zb_gap0 hr hy).n64, c_absolute (zb_gap0 hr hy) (by decide) (by decide) (hQ v hs)⟩
theorem c_costOf (d : zm_d m) {a : Nat → Int32} (ha : w.2.1 1 = a) {n l o y : Nat} {all : Int32} (hr : zRow a n l o) (hy : y < 256) {Q : Int32 → zw_H → Prop} (hQ : ∀ v, zSf w v → Q (sp_cost a n l y all) (zm_o m v h)) : f_X2_costOf K (some (m 0)) (Int32.ofNat y) all (zm_o m w h) Q X := by
  subst ha
  have hn := hr.1
  have h24 := hr.2.1
  have hw := hr.hw
  unfold f_X2_costOf
  refine zl3_run (B := f_X2_costOf_B5 K Q X _ (some (m 0)) (Int32.ofNat y) all) (fun b => sp_cost0 (w.2.1 1) b (Int32.ofNat y) all) (fun b => Int32.ofNat b) (fun _ => zm_o m w h) (n := n) (fun R b hb hR => ?_) (fun R => ?_) n zfu 0 (by omega) (Nat.lt_of_le_of_lt h24 (by decide))
  · unfold f_X2_costOf_B5 f_X2_costOf_J46 f_X2_costOf_J42 f_X2_costOf_J47
    have es : sp_cost0 (w.2.1 1) (b + 1) (Int32.ofNat y) all = sp_cost0 (w.2.1 1) b (Int32.ofNat y) all + (if w.2.1 1 (7 + 4 * b) = Int32.ofNat y then 0 else if all ≠ 0 then 1 else sp_b (sp_far (w.2.1 1 (7 + 4 * b) / sp_wide (w.2.1 1 3)) (Int32.ofNat y / sp_wide (w.2.1 1 3)) ≤ 1)) := rfl
    rw [es] at hR
    rw [e_n d hn, if_neg (by rw [zi_le (by omega) (by omega)]; omega)]
    simp only [olet_iff, zi_succ, zm_c d, e_of0 d (show b < 24 by omega), e_isNear d (show b < 24 by omega) hw, e_one]
    by_cases g1 : w.2.1 1 (7 + 4 * b) = Int32.ofNat y
    · rw [if_pos g1] at hR ⊢
      exact hR
    · rw [if_neg g1] at hR ⊢
      by_cases g2 : all ≠ 0
      · rw [if_pos g2] at hR ⊢
        exact hR
      · rw [if_neg g2] at hR ⊢
        by_cases g3 : sp_far (w.2.1 1 (7 + 4 * b) / sp_wide (w.2.1 1 3)) (Int32.ofNat y / sp_wide (w.2.1 1 3)) ≤ 1
        · rw [sp_bt g3] at hR ⊢
          exact hR
        · rw [sp_bf g3] at hR ⊢
          exact hR
  · unfold f_X2_costOf_B5
    rw [e_n d hn, if_pos (by rw [zi_le (by omega) (by omega)]; omega)]
    dsimp only
    rw [zm_c d]
    refine c_laysFar d rfl hr hy (fun v hs hf => ?_)
    have hQ := hQ v hs
    unfold sp_cost at hQ
    by_cases g : all = 0
    · rw [if_pos g] at hQ ⊢
      rw [e_a4 d, zm_g20 d, hf.1, hs.row]
      exact hQ
    · rw [if_neg g] at hQ ⊢
      exact hQ
end ZM12
