set_option maxRecDepth 100000
/-! asking the reference: queries -/
theorem sp_lb {a : UInt64} : True := trivial
def sp_lbits (v : UInt64) : Int64 := if (Op.cmpValue (FP.dcmp v v) .l) = 0 then v.toInt64 else (9221120237041090560 : Int64)
def sp_fbits (v : UInt32) : Int32 := if (Op.cmpValue (FP.fcmp v v) .l) = 0 then v.toInt32 else (2143289344 : Int32)
theorem e_lbits {K : Nat → Option Nat} {X : String → Nat → zw_H → Prop} {h : zw_H} {v : UInt64} {Q : Int64 → zw_H → Prop} : f_J34_doubleToLongBits K v h Q X = Q (sp_lbits v) h := by
  unfold f_J34_doubleToLongBits f_J34_isNaN sp_lbits
  split
  · exact if_neg (by decide)
  · exact if_pos (by decide)
theorem e_fbits {K : Nat → Option Nat} {X : String → Nat → zw_H → Prop} {h : zw_H} {v : UInt32} {Q : Int32 → zw_H → Prop} : f_J35_floatToIntBits K v h Q X = Q (sp_fbits v) h := by
  unfold f_J35_floatToIntBits f_J35_isNaN sp_fbits
  split
  · exact if_neg (by decide)
  · exact if_pos (by decide)
def sp_farBox (a : Nat → Int32) (n l y : Nat) (k : Int32) : Int32 := if 0 ≤ k ∧ k ≤ Int32.ofNat (sp_fars a n y (l - 1)).1 - 1 then (100 : Int32) * Int32.ofNat ((sp_fars a n y (l - 1)).2.1 k.toNatClampNeg) + Int32.ofNat ((sp_fars a n y (l - 1)).2.2 k.toNatClampNeg) else -1
def sp_farBod (a : Nat → Int32) (n : Nat) (s : zFa) (k : Nat) : Int32 := zacc (fun k t => t + sp_bodiesIn a n (Int32.ofNat (s.2.1 k)) (Int32.ofNat (s.2.2 k))) 0 k
def sp_farBodies (a : Nat → Int32) (n l y : Nat) : Int32 := sp_farBod a n (sp_fars a n y (l - 1)) (sp_fars a n y (l - 1)).1
def zSM : UInt64 := 4517329193108106637
theorem zBd_sm : zBd zSM 1107 := ⟨false, 4722366482869645, -72, by decide +kernel, by unfold FP.Core.fits; decide +kernel, by decide +kernel⟩
def sp_within (a : Nat → Int32) (n l o y : Nat) : Int32 := if (0 : Int32) < (Op.cmpValue (FP.dcmp (sp_gap a n l o y) (FP.dadd (sp_bound a n l o y) zSM)) .g) then 0 else 1
def sp_locS (r : Nat → UInt64) (y : UInt64) (c : Nat) : UInt64 := zacc (fun j s => FP.dadd s (FP.dmul (r j) (sp_times FP.dconst1 y j))) FP.dconst0 c
def sp_localSum (a : Nat → Int32) (n l o y : Nat) : UInt64 := sp_locS (sp_row a n o (l - 2) (zbx l y)) (FP.i2d (Int32.ofNat y - sp_centre (Int32.ofNat l) (Int32.ofNat (zbx l y)))) (o + 1)
theorem zb_loc0 {r : Nat → UInt64} {y : UInt64} {j : Nat} (hy : zBd y 1107) (hj : j ≤ 4) (hr : zBd (r j) 1800) : zBd (FP.dmul (r j) (sp_times FP.dconst1 y j)) 1950 := zBd.mono (zBd_mul hr (zb_t1 hy (k := j) (by omega)) (by omega) (by omega)) (by omega)
theorem zb_locS {r : Nat → UInt64} {y : UInt64} {o : Nat} (hy : zBd y 1107) (ho : o ≤ 4) (hr : ∀ j, j ≤ o → zBd (r j) 1800) : ∀ {c : Nat}, c ≤ o + 1 → zBd (sp_locS r y c) (1950 + 2 * c)
  | 0, _ => zBd.mono zBd_0 (by decide)
  | c + 1, hc => by
    have ih := zb_locS hy ho hr (c := c) (by omega)
    exact zBd.mono (zBd_add (K := 1950 + 2 * c) ih ((zb_loc0 hy (show c ≤ 4 by omega) (hr c (by omega))).mono (by omega)) (by omega)) (by omega)
def sp_nearB (a : Nat → Int32) (n : Nat) (x k : Int32) : Nat := zfirst (fun b => decide (sp_far (a (7 + 4 * b) / sp_wide (a 3)) (x / sp_wide (a 3)) ≤ 1 ∧ sp_nearAll a b x = k)) n
def sp_nearBody (a : Nat → Int32) (n : Nat) (x k : Int32) : Int32 := if sp_nearB a n x k < n then Int32.ofNat (sp_nearB a n x k) else -1
def sp_empty (a : Nat → Int32) (n l : Nat) : Nat := zfirst (fun i => decide (sp_bodiesIn a n (Int32.ofNat l) (Int32.ofNat i) = 0)) (2 ^ l)
def sp_firstEmpty (a : Nat → Int32) (n l : Nat) : Int32 := if sp_empty a n l < 2 ^ l then Int32.ofNat (sp_empty a n l) else -1
def sp_dens (a : Nat → Int32) (n l : Nat) (c : Nat) : Int32 × Int32 := zacc (fun i s => if s.2 < sp_bodiesIn a n (Int32.ofNat l) (Int32.ofNat i) then (Int32.ofNat i, sp_bodiesIn a n (Int32.ofNat l) (Int32.ofNat i)) else s) (-1, 0) c
def sp_wor (a : Nat → Int32) (n l o : Nat) (c : Nat) : Int32 × UInt64 := zacc (fun c s => if (0 : Int32) < (Op.cmpValue (FP.dcmp (sp_gap a n l o (c + 1)) s.2) .g) then (Int32.ofNat (c + 1), sp_gap a n l o (c + 1)) else s) (0, sp_gap a n l o 0) c
def sp_sby (a : Nat → Int32) (n l o y : Nat) (far : Int32) : UInt64 := if far = 0 then sp_sumOf a (Int32.ofNat y) 1 (-1) n else FP.dadd (sp_sumOf a (Int32.ofNat y) 0 (-1) n) (sp_farOf a n l o y)
def sp_enS (a : Nat → Int32) (n l o : Nat) (far : Int32) (c : Nat) : UInt64 := zacc (fun b s => FP.dadd s (FP.dmul (FP.i2d (a (7 + 4 * b + 1))) (sp_sby a n l o (zpt a b) far))) FP.dconst0 c
def zTWO : UInt64 := 4611686018427387904
theorem zBd_2 : zBd zTWO 1107 := ⟨false, 4503599627370496, -51, by decide +kernel, by unfold FP.Core.fits; decide +kernel, by decide +kernel⟩
theorem zLb_2 : zLb zTWO := ⟨false, 4503599627370496, -51, by decide +kernel, by decide +kernel⟩
def sp_energy (a : Nat → Int32) (n l o : Nat) (far : Int32) : UInt64 := FP.ddiv (sp_enS a n l o far n) zTWO
theorem zb_sby {a : Nat → Int32} {n l o y : Nat} {far : Int32} (hr : zRow a n l o) (hy : y < 256) : zBd (sp_sby a n l o y far) 1186 := by
  unfold sp_sby
  split
  · exact (zb_sumOf hr.2.1).mono (by have := hr.2.1; omega)
  · exact zb_by hr hy
theorem zb_en1 {a : Nat → Int32} {n l o y : Nat} {v far : Int32} (hr : zRow a n l o) (hy : y < 256) : zBd (FP.dmul (FP.i2d v) (sp_sby a n l o y far)) 1220 := zBd_mul (zBd_i2d _) (zb_sby hr hy) (by decide) (by decide)
theorem zb_enS {a : Nat → Int32} {n l o : Nat} {far : Int32} (hr : zRow a n l o) : ∀ {c : Nat}, c ≤ n → zBd (sp_enS a n l o far c) (1220 + 2 * c)
  | 0, _ => zBd.mono zBd_0 (by decide)
  | c + 1, hc => by
    have ih := zb_enS (far := far) hr (c := c) (by omega)
    have h24 := hr.2.1
    exact zBd.mono (zBd_add (K := 1220 + 2 * c) ih ((zb_en1 (v := a (7 + 4 * c + 1)) (far := far) hr (zpt_eq hr (b := c) (by omega)).2).mono (by omega)) (by omega)) (by omega)
section ZM18
variable {m : Nat → Nat} {w : zM} {h : zw_H} {K : Nat → Option Nat} {X : String → Nat → zw_H → Prop}
theorem q_pt (d : zm_d m) {x : Int32} {A B : zw_H → Prop} (h0 : sp_cP (w.1 6) x ≠ 0 → A (zm_o m (zS w 0 (sp_cP (w.1 6) x)) h)) (h1 : sp_cP (w.1 6) x = 0 → w.1 6 ≠ 0 → ∀ y, y < 256 → x = Int32.ofNat y → B (zm_o m (zS w 0 0) h)) : oc_ (zm_o m w h) (some (m 0)) [0] (f_X2_mayPoint K (some (m 0)) x (zm_o m w h) (fun v1 h1 => if v1 = 0 then A h1 else B h1) X) := by
  rw [zm_c d, e_mayPoint d]
  by_cases g : sp_cP (w.1 6) x = 0
  · obtain ⟨g1, y, hy, e⟩ := sp_cP0 g
    rw [if_pos g, if_neg (by decide)]
    exact h1 g g1 y hy e
  · rw [if_neg g, if_pos rfl]
    exact h0 g
theorem q_ptn (d : zm_d m) {x : Int32} {A B : zw_H → Prop} (h0 : sp_cP (w.1 6) x ≠ 0 → A (zm_o m (zS w 0 (sp_cP (w.1 6) x)) h)) (h1 : sp_cP (w.1 6) x = 0 → w.1 6 ≠ 0 → ∀ y, y < 256 → x = Int32.ofNat y → B (zm_o m (zS w 0 0) h)) : oc_ (zm_o m w h) (some (m 0)) [0] (f_X2_mayPoint K (some (m 0)) x (zm_o m w h) (fun v1 h1 => if v1 ≠ 0 then B h1 else A h1) X) := by
  rw [zm_c d, e_mayPoint d]
  by_cases g : sp_cP (w.1 6) x = 0
  · obtain ⟨g1, y, hy, e⟩ := sp_cP0 g
    rw [if_pos g, if_pos (by decide)]
    exact h1 g g1 y hy e
  · rw [if_neg g, if_neg (by decide)]
    exact h0 g
theorem q_as (d : zm_d m) {A B : zw_H → Prop} (h0 : sp_cT (w.1 6) ≠ 0 → A (zm_o m (zS w 0 (sp_cT (w.1 6))) h)) (h1 : sp_cT (w.1 6) = 0 → w.1 6 ≠ 0 → B (zm_o m (zS w 0 0) h)) : oc_ (zm_o m w h) (some (m 0)) [0] (f_X2_mayAsk K (some (m 0)) (zm_o m w h) (fun v1 h1 => if v1 = 0 then A h1 else B h1) X) := by
  rw [zm_c d, e_mayAsk d]
  by_cases g : sp_cT (w.1 6) = 0
  · rw [if_pos g, if_neg (by decide)]
    exact h1 g (sp_cT0 g)
  · rw [if_neg g, if_pos rfl]
    exact h0 g
theorem q_asn (d : zm_d m) {A B : zw_H → Prop} (h0 : sp_cT (w.1 6) ≠ 0 → A (zm_o m (zS w 0 (sp_cT (w.1 6))) h)) (h1 : sp_cT (w.1 6) = 0 → w.1 6 ≠ 0 → B (zm_o m (zS w 0 0) h)) : oc_ (zm_o m w h) (some (m 0)) [0] (f_X2_mayAsk K (some (m 0)) (zm_o m w h) (fun v1 h1 => if v1 ≠ 0 then B h1 else A h1) X) := by
  rw [zm_c d, e_mayAsk d]
  by_cases g : sp_cT (w.1 6) = 0
  · rw [if_pos g, if_pos (by decide)]
    exact h1 g (sp_cT0 g)
  · rw [if_neg g, if_neg (by decide)]
    exact h0 g
theorem p_farMany (d : zm_d m) {n l o : Nat} (I : zInv w n l o) {x : Int32} {Q : Int32 → zw_H → Prop} (h0 : sp_cP (w.1 6) x ≠ 0 → Q 0 (zm_o m (zS w 0 (sp_cP (w.1 6) x)) h)) (h1 : sp_cP (w.1 6) x = 0 → ∀ y, y < 256 → x = Int32.ofNat y → ∀ v, zSq w v 0 → Q (Int32.ofNat (sp_fars (w.2.1 1) n y (l - 1)).1) (zm_o m v h)) : f_X2_farMany K (some (m 0)) x (zm_o m w h) Q X := by
  unfold f_X2_farMany
  refine q_ptn d h0 (fun g gt y hy e => ?_)
  subst e
  have hr := I gt
  have H := h1 g y hy rfl
  have ha : (zS w 0 0).2.1 1 = w.2.1 1 := rfl
  rw [zm_c d]
  refine c_laysFar d ha hr hy (fun v hs hf => ?_)
  rw [zm_g20 d, hf.1]
  exact H v (zSq.sf hs)
theorem p_farBox (d : zm_d m) {n l o : Nat} (I : zInv w n l o) {x : Int32} {k : Int32} {Q : Int32 → zw_H → Prop} (h0 : sp_cP (w.1 6) x ≠ 0 → Q 0 (zm_o m (zS w 0 (sp_cP (w.1 6) x)) h)) (h1 : sp_cP (w.1 6) x = 0 → ∀ y, y < 256 → x = Int32.ofNat y → ∀ v, zSq w v 0 → Q (sp_farBox (w.2.1 1) n l y k) (zm_o m v h)) : f_X2_farBox K (some (m 0)) x k (zm_o m w h) Q X := by
  unfold f_X2_farBox
  refine q_ptn d h0 (fun g gt y hy e => ?_)
  subst e
  have hr := I gt
  have H := h1 g y hy rfl
  have ha : (zS w 0 0).2.1 1 = w.2.1 1 := rfl
  rw [zm_c d]
  refine c_laysFar d ha hr hy (fun v hs hf => ?_)
  have H := H v (zSq.sf hs)
  have hc := zc_fars (w.2.1 1) n y (l - 1)
  have h5 := hr.2.2.2.2.1
  unfold sp_farBox at H
  generalize sp_fars (w.2.1 1) n y (l - 1) = s at hf H hc
  rw [zm_g20 d, hf.1, e_in]
  by_cases g2 : 0 ≤ k ∧ k ≤ Int32.ofNat s.1 - 1
  · rw [if_pos g2] at H
    rw [sp_bt g2, if_neg (by decide)]
    obtain ⟨q, hq, rfl⟩ := zi_bd (n := s.1) (by omega) g2
    rw [zi_clamp (by omega)] at H
    rw [zm_g18 d, zm_r18 d (by decide), zi_clamp (by omega)]
    refine ⟨zi_inn (by omega) (by decide), ?_⟩
    rw [zm_g19 d, zm_r19 d (by decide), zi_clamp (by omega)]
    refine ⟨zi_inn (by omega) (by decide), ?_⟩
    rw [(hf.2 q hq).1, (hf.2 q hq).2]
    exact H
  · rw [if_neg g2] at H
    rw [sp_bf g2, if_pos rfl]
    exact H
theorem p_farBodies (d : zm_d m) {n l o : Nat} (I : zInv w n l o) {x : Int32} {Q : Int32 → zw_H → Prop} (h0 : sp_cP (w.1 6) x ≠ 0 → Q 0 (zm_o m (zS w 0 (sp_cP (w.1 6) x)) h)) (h1 : sp_cP (w.1 6) x = 0 → ∀ y, y < 256 → x = Int32.ofNat y → ∀ v, zSq w v 0 → Q (sp_farBodies (w.2.1 1) n l y) (zm_o m v h)) : f_X2_farBodies K (some (m 0)) x (zm_o m w h) Q X := by
  unfold f_X2_farBodies
  refine q_ptn d h0 (fun g gt y hy e => ?_)
  subst e
  have hr := I gt
  have H := h1 g y hy rfl
  have ha : (zS w 0 0).2.1 1 = w.2.1 1 := rfl
  rw [zm_c d]
  refine c_laysFar d ha hr hy (fun v hs hf => ?_)
  have H := H v (zSq.sf hs)
  have hc := zc_fars (w.2.1 1) n y (l - 1)
  have hok := zfok_fars (w.2.1 1) n y (l - 1)
  obtain ⟨hn, h24, hl, h2, h5, -⟩ := hr
  have hrow : v.2.1 1 = w.2.1 1 := hs.row
  unfold sp_farBodies at H
  generalize sp_fars (w.2.1 1) n y (l - 1) = s at hf H hc hok
  refine zl3_run (B := f_X2_farBodies_B19 K Q X _ (some (m 0))) (fun k => sp_farBod (w.2.1 1) n s k) (fun k => Int32.ofNat k) (fun _ => zm_o m v h) (n := s.1) (fun R k hk hR => ?_) (fun R => ?_) s.1 zfu 0 (by omega) (Nat.lt_of_le_of_lt (show s.1 ≤ 16 by omega) (by decide))
  · unfold f_X2_farBodies_B19
    obtain ⟨g1, g2, g3, g4⟩ := hok k hk
    rw [zm_g20 d, hf.1, if_neg (by rw [zi_le (by omega) (by omega)]; omega), zm_g18 d, zm_r18 d (by decide), zi_clamp (by omega)]
    refine ⟨zi_inn (by omega) (by decide), ?_⟩
    rw [zm_g19 d, zm_r19 d (by decide), zi_clamp (by omega)]
    refine ⟨zi_inn (by omega) (by decide), ?_⟩
    rw [(hf.2 k hk).1, (hf.2 k hk).2, zm_c d]
    refine c_bodiesIn d (n := n) (by rw [hrow]; exact hn) h24 (zi_wide0 (by omega)) ?_
    rw [hrow]
    simp only [olet_iff, zi_succ]
    exact hR
  · unfold f_X2_farBodies_B19
    rw [zm_g20 d, hf.1, if_pos (by rw [zi_le (by omega) (by omega)]; omega)]
    exact H
theorem p_cost (d : zm_d m) {n l o : Nat} (I : zInv w n l o) {x : Int32} {all : Int32} {Q : Int32 → zw_H → Prop} (h0 : sp_cP (w.1 6) x ≠ 0 → Q 0 (zm_o m (zS w 0 (sp_cP (w.1 6) x)) h)) (h1 : sp_cP (w.1 6) x = 0 → ∀ y, y < 256 → x = Int32.ofNat y → ∀ v, zSq w v 0 → Q (sp_cost (w.2.1 1) n l y all) (zm_o m v h)) : f_X2_cost K (some (m 0)) x all (zm_o m w h) Q X := by
  unfold f_X2_cost
  refine q_pt d h0 (fun g gt y hy e => ?_)
  subst e
  have hr := I gt
  have H := h1 g y hy rfl
  have ha : (zS w 0 0).2.1 1 = w.2.1 1 := rfl
  rw [zm_c d]
  exact c_costOf d ha hr hy (fun v hs => H v (zSq.sf hs))
theorem p_plain (d : zm_d m) {n l o : Nat} (I : zInv w n l o) {x : Int32} {Q : UInt64 → zw_H → Prop} (h0 : sp_cP (w.1 6) x ≠ 0 → Q FP.dconst0 (zm_o m (zS w 0 (sp_cP (w.1 6) x)) h)) (h1 : sp_cP (w.1 6) x = 0 → ∀ y, y < 256 → x = Int32.ofNat y → ∀ v, zSq w v 0 → Q (sp_sumOf (w.2.1 1) (Int32.ofNat y) 1 (-1) n) (zm_o m v h)) : f_X2_plain K (some (m 0)) x (zm_o m w h) Q X := by
  unfold f_X2_plain
  refine q_pt d h0 (fun g gt y hy e => ?_)
  subst e
  have hr := I gt
  have H := h1 g y hy rfl
  have ha : (zS w 0 0).2.1 1 = w.2.1 1 := rfl
  rw [zm_c d]
  exact c_sumOf (w := zS w 0 0) d hr.1 hr.2.1 hr.hw (H _ (zSq.id w 0))
theorem p_nearSum (d : zm_d m) {n l o : Nat} (I : zInv w n l o) {x : Int32} {Q : UInt64 → zw_H → Prop} (h0 : sp_cP (w.1 6) x ≠ 0 → Q FP.dconst0 (zm_o m (zS w 0 (sp_cP (w.1 6) x)) h)) (h1 : sp_cP (w.1 6) x = 0 → ∀ y, y < 256 → x = Int32.ofNat y → ∀ v, zSq w v 0 → Q (sp_sumOf (w.2.1 1) (Int32.ofNat y) 0 (-1) n) (zm_o m v h)) : f_X2_nearSum K (some (m 0)) x (zm_o m w h) Q X := by
  unfold f_X2_nearSum
  refine q_pt d h0 (fun g gt y hy e => ?_)
  subst e
  have hr := I gt
  have H := h1 g y hy rfl
  have ha : (zS w 0 0).2.1 1 = w.2.1 1 := rfl
  rw [zm_c d]
  exact c_sumOf (w := zS w 0 0) d hr.1 hr.2.1 hr.hw (H _ (zSq.id w 0))
theorem p_farSum (d : zm_d m) {n l o : Nat} (I : zInv w n l o) {x : Int32} {Q : UInt64 → zw_H → Prop} (h0 : sp_cP (w.1 6) x ≠ 0 → Q FP.dconst0 (zm_o m (zS w 0 (sp_cP (w.1 6) x)) h)) (h1 : sp_cP (w.1 6) x = 0 → ∀ y, y < 256 → x = Int32.ofNat y → ∀ v, zSq w v 0 → Q (sp_farOf (w.2.1 1) n l o y) (zm_o m v h)) : f_X2_farSum K (some (m 0)) x (zm_o m w h) Q X := by
  unfold f_X2_farSum
  refine q_pt d h0 (fun g gt y hy e => ?_)
  subst e
  have hr := I gt
  have H := h1 g y hy rfl
  have ha : (zS w 0 0).2.1 1 = w.2.1 1 := rfl
  rw [zm_c d]
  exact c_farOf d ha hr hy (fun v hs => H v (zSq.sf hs))
theorem p_farBits (d : zm_d m) {n l o : Nat} (I : zInv w n l o) {x : Int32} {Q : Int64 → zw_H → Prop} (h0 : sp_cP (w.1 6) x ≠ 0 → Q 0 (zm_o m (zS w 0 (sp_cP (w.1 6) x)) h)) (h1 : sp_cP (w.1 6) x = 0 → ∀ y, y < 256 → x = Int32.ofNat y → ∀ v, zSq w v 0 → Q (sp_lbits (sp_farOf (w.2.1 1) n l o y)) (zm_o m v h)) : f_X2_farBits K (some (m 0)) x (zm_o m w h) Q X := by
  unfold f_X2_farBits
  refine q_pt d h0 (fun g gt y hy e => ?_)
  subst e
  have hr := I gt
  have H := h1 g y hy rfl
  have ha : (zS w 0 0).2.1 1 = w.2.1 1 := rfl
  rw [zm_c d]
  refine c_farOf d ha hr hy (fun v hs => ?_)
  rw [e_lbits]
  exact H v (zSq.sf hs)
theorem p_bound (d : zm_d m) {n l o : Nat} (I : zInv w n l o) {x : Int32} {Q : UInt64 → zw_H → Prop} (h0 : sp_cP (w.1 6) x ≠ 0 → Q FP.dconst0 (zm_o m (zS w 0 (sp_cP (w.1 6) x)) h)) (h1 : sp_cP (w.1 6) x = 0 → ∀ y, y < 256 → x = Int32.ofNat y → ∀ v, zSq w v 0 → Q (sp_bound (w.2.1 1) n l o y) (zm_o m v h)) : f_X2_bound K (some (m 0)) x (zm_o m w h) Q X := by
  unfold f_X2_bound
  refine q_pt d h0 (fun g gt y hy e => ?_)
  subst e
  have hr := I gt
  have H := h1 g y hy rfl
  have ha : (zS w 0 0).2.1 1 = w.2.1 1 := rfl
  rw [e_a4 d, ha, hr.2.2.2.2.2.1, zm_c d]
  exact c_boundOf d ha hr hy hr.2.2.2.2.2.2.1 (fun v hs => H v (zSq.sf hs))
theorem p_gapAt (d : zm_d m) {n l o : Nat} (I : zInv w n l o) {x : Int32} {Q : UInt64 → zw_H → Prop} (h0 : sp_cP (w.1 6) x ≠ 0 → Q FP.dconst0 (zm_o m (zS w 0 (sp_cP (w.1 6) x)) h)) (h1 : sp_cP (w.1 6) x = 0 → ∀ y, y < 256 → x = Int32.ofNat y → ∀ v, zSq w v 0 → Q (sp_gap (w.2.1 1) n l o y) (zm_o m v h)) : f_X2_gapAt K (some (m 0)) x (zm_o m w h) Q X := by
  unfold f_X2_gapAt
  refine q_pt d h0 (fun g gt y hy e => ?_)
  subst e
  have hr := I gt
  have H := h1 g y hy rfl
  have ha : (zS w 0 0).2.1 1 = w.2.1 1 := rfl
  rw [zm_c d]
  exact c_gapOf d ha hr hy (fun v hs => H v (zSq.sf hs))
theorem p_isWithin (d : zm_d m) {n l o : Nat} (I : zInv w n l o) {x : Int32} {Q : Int32 → zw_H → Prop} (h0 : sp_cP (w.1 6) x ≠ 0 → Q 0 (zm_o m (zS w 0 (sp_cP (w.1 6) x)) h)) (h1 : sp_cP (w.1 6) x = 0 → ∀ y, y < 256 → x = Int32.ofNat y → ∀ v, zSq w v 0 → Q (sp_within (w.2.1 1) n l o y) (zm_o m v h)) : f_X2_isWithin K (some (m 0)) x (zm_o m w h) Q X := by
  unfold f_X2_isWithin
  refine q_pt d h0 (fun g gt y hy e => ?_)
  subst e
  have hr := I gt
  have H := h1 g y hy rfl
  have ha : (zS w 0 0).2.1 1 = w.2.1 1 := rfl
  rw [zm_c d]
  refine c_gapOf d ha hr hy (fun v hs => ?_)
  have hv : v.2.1 1 = w.2.1 1 := hs.row
  rw [e_a4 d, hv, hr.2.2.2.2.2.1, zm_c d]
  refine c_boundOf d hv hr hy hr.2.2.2.2.2.2.1 (fun u hu => ?_)
  have H := H u (zSq.sf (hs.trans hu))
  have nb : vf_n64 (FP.dadd (sp_bound (w.2.1 1) n l o y) zSM) := (zBd_add (K := 1323) (zb_bound hr.2.2.2.2.2.2.1 hy hr.2.2.2.2.1 hr.2.2.2.1) (zBd_sm.mono (by decide)) (by decide)).n64
  simp only [olet_iff]
  refine ⟨nb, ?_⟩
  unfold sp_within zSM at H
  split
  · rename_i g2
    rw [if_pos g2] at H
    exact H
  · rename_i g2
    rw [if_neg g2] at H
    exact H
theorem p_localSum (d : zm_d m) {n l o : Nat} (I : zInv w n l o) {x : Int32} {Q : UInt64 → zw_H → Prop} (h0 : sp_cP (w.1 6) x ≠ 0 → Q FP.dconst0 (zm_o m (zS w 0 (sp_cP (w.1 6) x)) h)) (h1 : sp_cP (w.1 6) x = 0 → ∀ y, y < 256 → x = Int32.ofNat y → ∀ v, zSq w v 0 → Q (sp_localSum (w.2.1 1) n l o y) (zm_o m v h)) : f_X2_localSum K (some (m 0)) x (zm_o m w h) Q X := by
  unfold f_X2_localSum
  refine q_ptn d h0 (fun g gt y hy e => ?_)
  subst e
  have hr := I gt
  have H := h1 g y hy rfl
  have ha : (zS w 0 0).2.1 1 = w.2.1 1 := rfl
  have hr0 := hr
  obtain ⟨hn, h24, hl, h2, h5, ho, h4, -⟩ := hr
  have el : l = 2 + (l - 2) := by omega
  have hbx := zbx_lt (l := l) (y := y) (by omega) hy
  rw [e_a3 d, ha, hl, e_boxOf]
  refine ⟨zi_wide0 (by omega), ?_⟩
  rw [zi_box (by omega) hy, e_a3 d, ha, hl, zm_c d]
  unfold sp_localSum at H
  have hb : ∀ j, j ≤ o → zBd (sp_row (w.2.1 1) n o (l - 2) (zbx l y) j) 1800 := fun j hj => (zb_row (a := w.2.1 1) (n := n) h4 (show l - 2 ≤ 3 by omega) (by rw [← el]; exact hbx) hj).mono (by omega)
  have key : ∀ Q2 : zw_H → Prop, (∀ v, zSl (zS w 0 0) v → (∀ j, j ≤ o → v.2.2.2 21 j = sp_row (w.2.1 1) n o (l - 2) (zbx l y) j) → Q2 (zm_o m v h)) → f_X2_laysLocal K (some (m 0)) (Int32.ofNat l) (Int32.ofNat (zbx l y)) (zm_o m (zS w 0 0) h) Q2 X := by
    intro Q2 hQ2
    rw [show Int32.ofNat l = Int32.ofNat (2 + (l - 2)) by rw [← el]]
    exact c_laysLocal d ha hr0 (by omega) (by rw [← el]; exact hbx) hQ2
  refine key _ (fun v hs hrow => ?_)
  have H := H v (zSq.sl hs)
  have hv : v.2.1 1 = w.2.1 1 := hs.row
  generalize hrr : sp_row (w.2.1 1) n o (l - 2) (zbx l y) = r at H hb hrow
  have hyy : zBd (FP.i2d (Int32.ofNat y - sp_centre (Int32.ofNat l) (Int32.ofNat (zbx l y)))) 1107 := zBd_i2d _
  refine zl3_run (B := f_X2_localSum_B37 K Q X _ (some (m 0)) (Int32.ofNat y) (Int32.ofNat (zbx l y))) (fun j => sp_locS r (FP.i2d (Int32.ofNat y - sp_centre (Int32.ofNat l) (Int32.ofNat (zbx l y)))) j) (fun j => Int32.ofNat j) (fun _ => zm_o m v h) (n := o + 1) (fun R j hj hR => ?_) (fun R => ?_) (o + 1) zfu 0 (by omega) (Nat.lt_of_le_of_lt (show o + 1 ≤ 5 by omega) (by decide))
  · unfold f_X2_localSum_B37
    rw [e_a4 d, hv, ho, if_neg (by rw [zi_lt (by omega) (by omega)]; omega), zm_g21 d, zm_r21 d (by decide), zi_clamp (by omega)]
    refine ⟨zi_inn (by omega) (by decide), ?_⟩
    rw [hrow j (by omega), e_a3 d, hv, hl, e_centre]
    refine c_times (k := j) zBd_1 hyy (by omega) ?_
    simp only [olet_iff, zi_succ]
    exact ⟨(zb_loc0 hyy (show j ≤ 4 by omega) (hb j (by omega))).n64, (zb_locS hyy h4 hb (c := j + 1) (by omega)).n64, hR⟩
  · unfold f_X2_localSum_B37
    rw [e_a4 d, hv, ho, if_pos (by rw [zi_lt (by omega) (by omega)]; omega)]
    exact H
theorem p_pullPlain (d : zm_d m) {n l o : Nat} (I : zInv w n l o) {x : Int32} {Q : UInt64 → zw_H → Prop} (h0 : sp_cP (w.1 6) x ≠ 0 → Q FP.dconst0 (zm_o m (zS w 0 (sp_cP (w.1 6) x)) h)) (h1 : sp_cP (w.1 6) x = 0 → ∀ y, y < 256 → x = Int32.ofNat y → ∀ v, zSq w v 0 → Q (sp_pullOf (w.2.1 1) (Int32.ofNat y) 1 n) (zm_o m v h)) : f_X2_pullPlain K (some (m 0)) x (zm_o m w h) Q X := by
  unfold f_X2_pullPlain
  refine q_pt d h0 (fun g gt y hy e => ?_)
  subst e
  have hr := I gt
  have H := h1 g y hy rfl
  have ha : (zS w 0 0).2.1 1 = w.2.1 1 := rfl
  rw [zm_c d]
  exact c_pullOf d ha hr hy (H _ (zSq.id w 0))
theorem p_pullFar (d : zm_d m) {n l o : Nat} (I : zInv w n l o) {x : Int32} {Q : UInt64 → zw_H → Prop} (h0 : sp_cP (w.1 6) x ≠ 0 → Q FP.dconst0 (zm_o m (zS w 0 (sp_cP (w.1 6) x)) h)) (h1 : sp_cP (w.1 6) x = 0 → ∀ y, y < 256 → x = Int32.ofNat y → ∀ v, zSq w v 0 → Q (sp_farPull (w.2.1 1) n l o y) (zm_o m v h)) : f_X2_pullFar K (some (m 0)) x (zm_o m w h) Q X := by
  unfold f_X2_pullFar
  refine q_pt d h0 (fun g gt y hy e => ?_)
  subst e
  have hr := I gt
  have H := h1 g y hy rfl
  have ha : (zS w 0 0).2.1 1 = w.2.1 1 := rfl
  rw [zm_c d]
  exact c_farPull d ha hr hy (fun v hs => H v (zSq.sf hs))
theorem p_pull (d : zm_d m) {n l o : Nat} (I : zInv w n l o) {x : Int32} {Q : UInt64 → zw_H → Prop} (h0 : sp_cP (w.1 6) x ≠ 0 → Q FP.dconst0 (zm_o m (zS w 0 (sp_cP (w.1 6) x)) h)) (h1 : sp_cP (w.1 6) x = 0 → ∀ y, y < 256 → x = Int32.ofNat y → ∀ v, zSq w v 0 → Q (sp_pullAll (w.2.1 1) n l o y) (zm_o m v h)) : f_X2_pull K (some (m 0)) x (zm_o m w h) Q X := by
  unfold f_X2_pull
  refine q_pt d h0 (fun g gt y hy e => ?_)
  subst e
  have hr := I gt
  have H := h1 g y hy rfl
  have ha : (zS w 0 0).2.1 1 = w.2.1 1 := rfl
  rw [zm_c d]
  exact c_pullAll d ha hr hy (fun v hs => H v (zSq.sf hs))
theorem p_nearMany (d : zm_d m) {n l o : Nat} (I : zInv w n l o) {x : Int32} {Q : Int32 → zw_H → Prop} (h0 : sp_cP (w.1 6) x ≠ 0 → Q 0 (zm_o m (zS w 0 (sp_cP (w.1 6) x)) h)) (h1 : sp_cP (w.1 6) x = 0 → ∀ y, y < 256 → x = Int32.ofNat y → ∀ v, zSq w v 0 → Q (sp_nearAll (w.2.1 1) n (Int32.ofNat y)) (zm_o m v h)) : f_X2_nearMany K (some (m 0)) x (zm_o m w h) Q X := by
  unfold f_X2_nearMany
  refine q_pt d h0 (fun g gt y hy e => ?_)
  subst e
  have hr := I gt
  have H := h1 g y hy rfl
  have ha : (zS w 0 0).2.1 1 = w.2.1 1 := rfl
  rw [zm_c d]
  exact c_nearAll (w := zS w 0 0) d hr.1 hr.2.1 hr.hw (H _ (zSq.id w 0))
theorem p_nearBody (d : zm_d m) {n l o : Nat} (I : zInv w n l o) {x : Int32} {k : Int32} {Q : Int32 → zw_H → Prop} (h0 : sp_cP (w.1 6) x ≠ 0 → Q 0 (zm_o m (zS w 0 (sp_cP (w.1 6) x)) h)) (h1 : sp_cP (w.1 6) x = 0 → ∀ y, y < 256 → x = Int32.ofNat y → ∀ v, zSq w v 0 → Q (sp_nearBody (w.2.1 1) n (Int32.ofNat y) k) (zm_o m v h)) : f_X2_nearBody K (some (m 0)) x k (zm_o m w h) Q X := by
  unfold f_X2_nearBody
  refine q_ptn d h0 (fun g gt y hy e => ?_)
  subst e
  have hr := I gt
  have H := h1 g y hy rfl
  have ha : (zS w 0 0).2.1 1 = w.2.1 1 := rfl
  have H := H _ (zSq.id w 0)
  have hw := hr.hw
  obtain ⟨hn, h24, -⟩ := hr
  have hle : sp_nearB (w.2.1 1) n (Int32.ofNat y) k ≤ n := zfirst_le _ n
  refine zl3_run (B := f_X2_nearBody_B15 K Q X _ _ (some (m 0)) (Int32.ofNat y) k) (fun b => sp_nearAll (w.2.1 1) b (Int32.ofNat y)) (fun b => Int32.ofNat b) (fun _ => zm_o m (zS w 0 0) h) (n := sp_nearB (w.2.1 1) n (Int32.ofNat y) k) (fun R b hb hR => ?_) (fun R => ?_) (sp_nearB (w.2.1 1) n (Int32.ofNat y) k) zfu 0 (by omega) (Nat.lt_of_le_of_lt (Nat.le_trans hle h24) (by decide))
  · unfold f_X2_nearBody_B15 f_X2_nearBody_J50
    have g1 := of_decide_eq_false (zfirst_no (fun b => decide (sp_far ((w.2.1 1) (7 + 4 * b) / sp_wide ((w.2.1 1) 3)) (Int32.ofNat y / sp_wide ((w.2.1 1) 3)) ≤ 1 ∧ sp_nearAll (w.2.1 1) b (Int32.ofNat y) = k)) n b hb)
    have es : sp_nearAll (w.2.1 1) (b + 1) (Int32.ofNat y) = sp_nearAll (w.2.1 1) b (Int32.ofNat y) + sp_b (sp_far ((w.2.1 1) (7 + 4 * b) / sp_wide ((w.2.1 1) 3)) (Int32.ofNat y / sp_wide ((w.2.1 1) 3)) ≤ 1) := rfl
    rw [es] at hR
    rw [e_n (w := zS w 0 0) d (n := n) hn, if_neg (by rw [zi_le (by omega) (by omega)]; omega), zm_c d, e_isNear (w := zS w 0 0) d (by omega) hw, ha]
    simp only [olet_iff, zi_succ]
    by_cases g2 : sp_far ((w.2.1 1) (7 + 4 * b) / sp_wide ((w.2.1 1) 3)) (Int32.ofNat y / sp_wide ((w.2.1 1) 3)) ≤ 1
    · rw [sp_bt g2] at hR ⊢
      rw [if_pos (by decide), if_pos (fun e => g1 ⟨g2, e⟩)]
      exact hR
    · rw [sp_bf g2, Int32.add_zero] at hR
      rw [sp_bf g2, if_neg (by decide)]
      exact hR
  · unfold f_X2_nearBody_B15
    unfold sp_nearBody at H
    by_cases g : sp_nearB (w.2.1 1) n (Int32.ofNat y) k < n
    · have g1 := of_decide_eq_true (zfirst_yes (fun b => decide (sp_far ((w.2.1 1) (7 + 4 * b) / sp_wide ((w.2.1 1) 3)) (Int32.ofNat y / sp_wide ((w.2.1 1) 3)) ≤ 1 ∧ sp_nearAll (w.2.1 1) b (Int32.ofNat y) = k)) n g)
      rw [if_pos g] at H
      rw [e_n (w := zS w 0 0) d (n := n) hn, if_neg (by rw [zi_le (by omega) (by omega)]; omega), zm_c d, e_isNear (w := zS w 0 0) d (by omega) hw, ha]
      have g2 : sp_far ((w.2.1 1) (7 + 4 * sp_nearB (w.2.1 1) n (Int32.ofNat y) k) / sp_wide ((w.2.1 1) 3)) (Int32.ofNat y / sp_wide ((w.2.1 1) 3)) ≤ 1 := g1.1
      rw [sp_bt g2, if_pos (by decide), if_neg (fun e => e g1.2)]
      exact H
    · rw [if_neg g] at H
      rw [e_n (w := zS w 0 0) d (n := n) hn, if_pos (by rw [zi_le (by omega) (by omega)]; omega)]
      exact H
theorem p_firstEmpty (d : zm_d m) {n l o : Nat} (I : zInv w n l o) {Q : Int32 → zw_H → Prop} (h0 : sp_cT (w.1 6) ≠ 0 → Q 0 (zm_o m (zS w 0 (sp_cT (w.1 6))) h)) (h1 : sp_cT (w.1 6) = 0 → ∀ v, zSq w v 0 → Q (sp_firstEmpty (w.2.1 1) n l) (zm_o m v h)) : f_X2_firstEmpty K (some (m 0)) (zm_o m w h) Q X := by
  unfold f_X2_firstEmpty
  refine q_asn d h0 (fun g gt => ?_)
  have hr := I gt
  have H := h1 g
  have ha : (zS w 0 0).2.1 1 = w.2.1 1 := rfl
  have H := H _ (zSq.id w 0)
  obtain ⟨hn, h24, hl, h2, h5, -⟩ := hr
  have hp := zi_p5 h5
  have hle : sp_empty (w.2.1 1) n l ≤ 2 ^ l := zfirst_le _ _
  refine zl2_run (B := f_X2_firstEmpty_B11 K Q X _ _ (some (m 0))) (fun i => Int32.ofNat i) (fun _ => zm_o m (zS w 0 0) h) (n := sp_empty (w.2.1 1) n l) (fun R i hi hR => ?_) (fun R => ?_) (sp_empty (w.2.1 1) n l) zfu 0 (by omega) (Nat.lt_of_le_of_lt (Nat.le_trans hle hp) (by decide))
  · unfold f_X2_firstEmpty_B11
    have g1 := of_decide_eq_false (zfirst_no (fun i => decide (sp_bodiesIn (w.2.1 1) n (Int32.ofNat l) (Int32.ofNat i) = 0)) (2 ^ l) i hi)
    rw [e_a3 d, ha, hl, zi_shl (by omega), if_neg (by rw [zi_le (by omega) (by omega)]; omega), e_a3 d, ha, hl, zm_c d]
    refine c_bodiesIn (w := zS w 0 0) d (n := n) hn h24 (zi_wide0 (by omega)) ?_
    rw [ha, if_pos g1]
    simp only [olet_iff, zi_succ]
    exact hR
  · unfold f_X2_firstEmpty_B11
    unfold sp_firstEmpty at H
    by_cases g : sp_empty (w.2.1 1) n l < 2 ^ l
    · have g1 : sp_bodiesIn (w.2.1 1) n (Int32.ofNat l) (Int32.ofNat (sp_empty (w.2.1 1) n l)) = 0 := of_decide_eq_true (zfirst_yes (fun i => decide (sp_bodiesIn (w.2.1 1) n (Int32.ofNat l) (Int32.ofNat i) = 0)) (2 ^ l) g)
      rw [if_pos g] at H
      rw [e_a3 d, ha, hl, zi_shl (by omega), if_neg (by rw [zi_le (by omega) (by omega)]; omega), e_a3 d, ha, hl, zm_c d]
      refine c_bodiesIn (w := zS w 0 0) d (n := n) hn h24 (zi_wide0 (by omega)) ?_
      rw [ha, if_neg (fun e => e g1)]
      exact H
    · rw [if_neg g] at H
      rw [e_a3 d, ha, hl, zi_shl (by omega), if_pos (by rw [zi_le (by omega) (by omega)]; omega)]
      exact H
theorem p_densest (d : zm_d m) {n l o : Nat} (I : zInv w n l o) {Q : Int32 → zw_H → Prop} (h0 : sp_cT (w.1 6) ≠ 0 → Q 0 (zm_o m (zS w 0 (sp_cT (w.1 6))) h)) (h1 : sp_cT (w.1 6) = 0 → ∀ v, zSq w v 0 → Q ((sp_dens (w.2.1 1) n l (2 ^ l)).1) (zm_o m v h)) : f_X2_densest K (some (m 0)) (zm_o m w h) Q X := by
  unfold f_X2_densest
  refine q_asn d h0 (fun g gt => ?_)
  have hr := I gt
  have H := h1 g
  have ha : (zS w 0 0).2.1 1 = w.2.1 1 := rfl
  have H := H _ (zSq.id w 0)
  obtain ⟨hn, h24, hl, h2, h5, -⟩ := hr
  have hp := zi_p5 h5
  refine zl4_run (B := f_X2_densest_B15 K Q X _ (some (m 0))) (fun i => (sp_dens (w.2.1 1) n l i).1) (fun i => (sp_dens (w.2.1 1) n l i).2) (fun i => Int32.ofNat i) (fun _ => zm_o m (zS w 0 0) h) (n := 2 ^ l) (fun R i hi hR => ?_) (fun R => ?_) (2 ^ l) zfu 0 (by omega) (Nat.lt_of_le_of_lt hp (by decide))
  · unfold f_X2_densest_B15 f_X2_densest_J54
    rw [e_a3 d, ha, hl, zi_shl (by omega), if_neg (by rw [zi_le (by omega) (by omega)]; omega), e_a3 d, ha, hl, zm_c d]
    refine c_bodiesIn (w := zS w 0 0) d (n := n) hn h24 (zi_wide0 (by omega)) ?_
    rw [ha]
    simp only [olet_iff, zi_succ]
    have es : sp_dens (w.2.1 1) n l (i + 1) = (if (sp_dens (w.2.1 1) n l i).2 < sp_bodiesIn (w.2.1 1) n (Int32.ofNat l) (Int32.ofNat i) then (Int32.ofNat i, sp_bodiesIn (w.2.1 1) n (Int32.ofNat l) (Int32.ofNat i)) else sp_dens (w.2.1 1) n l i) := rfl
    rw [es] at hR
    split
    · rename_i g2
      rw [if_pos g2] at hR
      exact hR
    · rename_i g2
      rw [if_neg g2] at hR
      exact hR
  · unfold f_X2_densest_B15
    rw [e_a3 d, ha, hl, zi_shl (by omega), if_pos (by rw [zi_le (by omega) (by omega)]; omega)]
    exact H
theorem p_momentGap (d : zm_d m) {n l o : Nat} (I : zInv w n l o) {Q : Int64 → zw_H → Prop} (h0 : sp_cT (w.1 6) ≠ 0 → Q 0 (zm_o m (zS w 0 (sp_cT (w.1 6))) h)) (h1 : sp_cT (w.1 6) = 0 → ∀ v, zSq w v 0 → Q (sp_mg (w.2.1 1) n l (l + 1)) (zm_o m v h)) : f_X2_momentGap K (some (m 0)) (zm_o m w h) Q X := by
  unfold f_X2_momentGap
  refine q_asn d h0 (fun g gt => ?_)
  have hr := I gt
  have H := h1 g
  have ha : (zS w 0 0).2.1 1 = w.2.1 1 := rfl
  rw [zm_c d]
  refine c_laysMoments d ha hr (fun v hs hd => ?_)
  exact c_mgap d hs.row hr hd (H v (zSq.sl hs))
theorem p_worst (d : zm_d m) {n l o : Nat} (I : zInv w n l o) {Q : Int32 → zw_H → Prop} (h0 : sp_cT (w.1 6) ≠ 0 → Q 0 (zm_o m (zS w 0 (sp_cT (w.1 6))) h)) (h1 : sp_cT (w.1 6) = 0 → ∀ v, zSq w v 0 → Q ((sp_wor (w.2.1 1) n l o 255).1) (zm_o m v h)) : f_X2_worst K (some (m 0)) (zm_o m w h) Q X := by
  unfold f_X2_worst
  refine q_asn d h0 (fun g gt => ?_)
  have hr := I gt
  have H := h1 g
  have ha : (zS w 0 0).2.1 1 = w.2.1 1 := rfl
  rw [zm_c d]
  refine c_gapOf d (y := 0) ha hr (by decide) (fun v hs => ?_)
  refine zl4_inv (B := f_X2_worst_B20 K Q X _ (some (m 0))) (fun c b s x hh => b = (sp_wor (w.2.1 1) n l o c).1 ∧ s = (sp_wor (w.2.1 1) n l o c).2 ∧ x = Int32.ofNat (c + 1) ∧ ∃ u, hh = zm_o m u h ∧ zSf (zS w 0 0) u) (n := 255) (fun R c hc b s x hh hp hR => ?_) (fun R b s x hh hp => ?_) 255 zfu 0 (by omega) (by decide) _ _ _ _ ⟨rfl, rfl, rfl, v, rfl, hs⟩
  · obtain ⟨rfl, rfl, rfl, u, rfl, hu⟩ := hp
    unfold f_X2_worst_B20 f_X2_worst_J52
    rw [if_neg (by rw [show (256 : Int32) = Int32.ofNat 256 from rfl, zi_le (by omega) (by omega)]; omega), zm_c d]
    refine c_gapOf d (a := w.2.1 1) (y := c + 1) hu.row hr (by omega) (fun t ht => ?_)
    simp only [olet_iff, zi_succ]
    have es : sp_wor (w.2.1 1) n l o (c + 1) = (if (0 : Int32) < (Op.cmpValue (FP.dcmp (sp_gap (w.2.1 1) n l o (c + 1)) (sp_wor (w.2.1 1) n l o c).2) .g) then (Int32.ofNat (c + 1), sp_gap (w.2.1 1) n l o (c + 1)) else sp_wor (w.2.1 1) n l o c) := rfl
    split
    · rename_i g2
      rw [if_pos g2] at es
      exact hR _ _ _ _ ⟨by rw [es], by rw [es], rfl, t, rfl, hu.trans ht⟩
    · rename_i g2
      rw [if_neg g2] at es
      exact hR _ _ _ _ ⟨by rw [es], by rw [es], rfl, t, rfl, hu.trans ht⟩
  · obtain ⟨rfl, rfl, rfl, u, rfl, hu⟩ := hp
    unfold f_X2_worst_B20
    rw [if_pos (by decide)]
    exact H u (zSq.sf hu)
theorem p_energy (d : zm_d m) {n l o : Nat} (I : zInv w n l o) {far : Int32} {Q : UInt64 → zw_H → Prop} (h0 : sp_cT (w.1 6) ≠ 0 → Q FP.dconst0 (zm_o m (zS w 0 (sp_cT (w.1 6))) h)) (h1 : sp_cT (w.1 6) = 0 → ∀ v, zSq w v 0 → Q (sp_energy (w.2.1 1) n l o far) (zm_o m v h)) : f_X2_energy K (some (m 0)) far (zm_o m w h) Q X := by
  unfold f_X2_energy
  refine q_asn d h0 (fun g gt => ?_)
  have hr := I gt
  have H := h1 g
  have ha : (zS w 0 0).2.1 1 = w.2.1 1 := rfl
  have hn := hr.1
  have h24 := hr.2.1
  have hw := hr.hw
  refine zl3_inv (B := f_X2_energy_B14 K Q X _ (some (m 0)) far) (fun b s x hh => s = sp_enS (w.2.1 1) n l o far b ∧ x = Int32.ofNat b ∧ ∃ u, hh = zm_o m u h ∧ zSf (zS w 0 0) u) (n := n) (fun R b hb s x hh hp hR => ?_) (fun R s x hh hp => ?_) n zfu 0 (by omega) (Nat.lt_of_le_of_lt h24 (by decide)) _ _ _ ⟨rfl, rfl, _, rfl, zSf.refl _⟩
  · obtain ⟨rfl, rfl, u, rfl, hu⟩ := hp
    have hrow : u.2.1 1 = w.2.1 1 := hu.row
    obtain ⟨e1, e2⟩ := zpt_eq hr hb
    have n1 := (zb_en1 (v := (w.2.1 1) (7 + 4 * b + 1)) (far := far) hr e2).n64
    have n2 := (zb_enS (far := far) hr (c := b + 1) (by omega)).n64
    have es : sp_enS (w.2.1 1) n l o far (b + 1) = FP.dadd (sp_enS (w.2.1 1) n l o far b) (FP.dmul (FP.i2d ((w.2.1 1) (7 + 4 * b + 1))) (sp_sby (w.2.1 1) n l o (zpt (w.2.1 1) b) far)) := rfl
    rw [es] at n2
    have key : ∀ t, zSf (zS w 0 0) t → f_X2_energy_J64 K Q X R (fun v13 h7 => (vf_n64 (FP.ddiv v13 (4611686018427387904 : UInt64)) ∧ olet (FP.ddiv v13 (4611686018427387904 : UInt64) : UInt64) (fun v14 => Q v14 h7))) (some (m 0)) far (sp_enS (w.2.1 1) n l o far b) (Int32.ofNat b) (sp_sby (w.2.1 1) n l o (zpt (w.2.1 1) b) far) (zm_o m t h) := by
      intro t ht
      have ht1 : t.2.1 1 = w.2.1 1 := ht.row
      unfold f_X2_energy_J64
      rw [zm_c d, e_of1 d (by omega), ht1]
      simp only [olet_iff, zi_succ]
      exact ⟨n1, n2, hR _ _ _ ⟨es.symm, rfl, t, rfl, ht⟩⟩
    unfold f_X2_energy_B14
    rw [e_n d (n := n) (by rw [hrow]; exact hn), if_neg (by rw [zi_le (by omega) (by omega)]; omega), zm_c d, e_of0 d (by omega), hrow, e1]
    by_cases g2 : far = 0
    · rw [if_pos g2, zm_c d]
      refine c_sumOf d (n := n) (by rw [hrow]; exact hn) h24 (by rw [hrow]; exact hw) ?_
      have k := key u hu
      unfold sp_sby at k
      rw [if_pos g2] at k
      rw [hrow]
      exact k
    · rw [if_neg g2, zm_c d]
      refine c_sumOf d (n := n) (by rw [hrow]; exact hn) h24 (by rw [hrow]; exact hw) ?_
      rw [zm_c d]
      refine c_farOf d hrow hr e2 (fun t ht => ?_)
      have k := key t (hu.trans ht)
      unfold sp_sby at k
      rw [if_neg g2] at k
      rw [hrow]
      simp only [olet_iff]
      exact ⟨(zb_by hr e2).n64, k⟩
  · obtain ⟨rfl, rfl, u, rfl, hu⟩ := hp
    have hrow : u.2.1 1 = w.2.1 1 := hu.row
    unfold f_X2_energy_B14
    rw [e_n d (n := n) (by rw [hrow]; exact hn), if_pos (by rw [zi_le (by omega) (by omega)]; omega)]
    simp only [olet_iff]
    exact ⟨(zBd_div (zb_enS (far := far) hr (Nat.le_refl n)) zBd_2 zLb_2 (by omega)).n64, H u (zSq.sf hu)⟩
end ZM18
