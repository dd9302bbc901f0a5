set_option maxRecDepth 100000
/-! pulls -/
theorem zi_mulne {k : Nat} (h : k ≠ 0) (h2 : k < 256) : Int32.ofNat k * Int32.ofNat k ≠ 0 := by
  have h3 : k * k ≤ 255 * 255 := Nat.mul_le_mul (by omega) (by omega)
  have h4 : 0 < k * k := Nat.mul_pos (by omega) (by omega)
  rw [← Int32.ofNat_mul]
  intro e
  have := (zi_inj (b := 0) (by omega) (by omega)).mp e
  omega
theorem zi_fsq {x y : Nat} (hx : x < 256) (hy : y < 256) (h : Int32.ofNat x ≠ Int32.ofNat y) : sp_far (Int32.ofNat x) (Int32.ofNat y) * sp_far (Int32.ofNat x) (Int32.ofNat y) ≠ 0 := by
  rw [zi_far (by omega) (by omega)]
  refine zi_mulne (fun e => h ?_) (by unfold zdi; omega)
  unfold zdi at e
  congr 1
  omega
def sp_pshare (a : Nat → Int32) (x : Int32) (b : Nat) : UInt64 := FP.ddiv (FP.i2d (a (7 + 4 * b + 1))) (FP.i2d (sp_far (a (7 + 4 * b)) x * sp_far (a (7 + 4 * b)) x))
def sp_psum (a : Nat → Int32) (x : Int32) (b : Nat) (s : UInt64) : UInt64 := if a (7 + 4 * b) ≤ x then FP.dsub s (sp_pshare a x b) else FP.dadd s (sp_pshare a x b)
def sp_pullOf (a : Nat → Int32) (x all : Int32) (n : Nat) : UInt64 := zacc (fun b s => if a (7 + 4 * b) = x then s else if all ≠ 0 then sp_psum a x b s else if sp_far (a (7 + 4 * b) / sp_wide (a 3)) (x / sp_wide (a 3)) ≤ 1 then sp_psum a x b s else s) FP.dconst0 n
theorem zb_psum {a : Nat → Int32} {x : Int32} {b k : Nat} {s : UInt64} (e : sp_far (a (7 + 4 * b)) x * sp_far (a (7 + 4 * b)) x ≠ 0) (hs : zBd s k) (h1 : 1108 ≤ k) (h2 : k ≤ 2089) : zBd (sp_pshare a x b) 1108 ∧ zBd (sp_psum a x b s) (k + 2) := by
  have h3 : zBd (sp_pshare a x b) 1108 := zBd_div (zBd_i2d _) (zBd_i2d _) (zLb_i2d e) (by decide)
  refine ⟨h3, ?_⟩
  unfold sp_psum
  split
  · exact zBd_sub hs (h3.mono h1) h2
  · exact zBd_add hs (h3.mono h1) h2
theorem zb_pullOf {a : Nat → Int32} {y : Nat} {all : Int32} {N : Nat} (hy : y < 256) (hx : ∀ b, b < N → ∃ x, x < 256 ∧ a (7 + 4 * b) = Int32.ofNat x) : ∀ {n : Nat}, n ≤ N → n ≤ 100 → zBd (sp_pullOf a (Int32.ofNat y) all n) (1108 + 2 * n)
  | 0, _, _ => zBd.mono zBd_0 (by decide)
  | n + 1, hn, hn2 => by
    have ih := zb_pullOf (a := a) (all := all) hy hx (n := n) (by omega) (by omega)
    have hk : zBd (sp_pullOf a (Int32.ofNat y) all n) (1108 + 2 * (n + 1)) := ih.mono (by omega)
    have es : sp_pullOf a (Int32.ofNat y) all (n + 1) = (if a (7 + 4 * n) = Int32.ofNat y then sp_pullOf a (Int32.ofNat y) all n else if all ≠ 0 then sp_psum a (Int32.ofNat y) n (sp_pullOf a (Int32.ofNat y) all n) else if sp_far (a (7 + 4 * n) / sp_wide (a 3)) (Int32.ofNat y / sp_wide (a 3)) ≤ 1 then sp_psum a (Int32.ofNat y) n (sp_pullOf a (Int32.ofNat y) all n) else sp_pullOf a (Int32.ofNat y) all n) := rfl
    rw [es]
    split
    · exact hk
    · rename_i g
      obtain ⟨x, hx1, hx2⟩ := hx n (by omega)
      rw [hx2] at g
      have h3 : zBd (sp_psum a (Int32.ofNat y) n (sp_pullOf a (Int32.ofNat y) all n)) (1108 + 2 * (n + 1)) := ((zb_psum (a := a) (b := n) (by rw [hx2]; exact zi_fsq hx1 hy g) ih (by omega) (by omega)).2).mono (by omega)
      split
      · exact h3
      · split
        · exact h3
        · exact hk
def sp_pbS (a : Nat → Int32) (n : Nat) (l i : Int32) (y : UInt64) (o : Nat) : UInt64 := zacc (fun k s => FP.dadd s (FP.ddiv (FP.l2d ((Int32.ofNat (k + 1)).toInt64 * sp_moment a n l i k)) (sp_times (sp_times FP.dconst1 y 2) y k))) FP.dconst0 o
theorem zb_t2 {y : UInt64} (hy : zBd y 1107) : zBd (sp_times FP.dconst1 y 2) 1142 := zb_times (k := 2) zBd_1 hy (by decide)
theorem zl_t2 {y : UInt64} (hy : zBd y 1107) (ly : zLb y) : zLb (sp_times FP.dconst1 y 2) := zl_times (k := 2) zBd_1 hy zLb_1 ly (by decide)
theorem zb_pb1 {y : UInt64} {v : Int64} (hy : zBd y 1107) (ly : zLb y) {k : Nat} (hk : k ≤ 10) : zBd (FP.ddiv (FP.l2d v) (sp_times (sp_times FP.dconst1 y 2) y k)) 1140 := zBd_div (K := 1139) (zBd_l2d _) (zb_times (zb_t2 hy) hy (k := k) (by omega)) (zl_times (zb_t2 hy) hy (zl_t2 hy ly) ly (k := k) (by omega)) (by decide)
theorem zb_pbS {a : Nat → Int32} {n : Nat} {l i : Int32} {y : UInt64} (hy : zBd y 1107) (ly : zLb y) : ∀ {o : Nat}, o ≤ 5 → zBd (sp_pbS a n l i y o) (1140 + 2 * o)
  | 0, _ => zBd.mono zBd_0 (by decide)
  | o + 1, ho => by
    have ih := zb_pbS (a := a) (n := n) (l := l) (i := i) hy ly (o := o) (by omega)
    have h1 := zb_pb1 (v := (Int32.ofNat (o + 1)).toInt64 * sp_moment a n l i o) hy ly (k := o) (by omega)
    exact zBd.mono (zBd_add (K := 1140 + 2 * o) ih (zBd.mono h1 (by omega)) (by omega)) (by omega)
/-- a box's part in the far pull -/
def sp_fp1 (a : Nat → Int32) (n o : Nat) (x : Int32) (l i : Nat) : UInt64 := sp_pbS a n (Int32.ofNat l) (Int32.ofNat i) (FP.i2d (x - sp_centre (Int32.ofNat l) (Int32.ofNat i))) (o + 1)
def sp_fpS (a : Nat → Int32) (n o y : Nat) (s : zFa) (k : Nat) : UInt64 := zacc (fun k t => if Int32.ofNat y - sp_centre (Int32.ofNat (s.2.1 k)) (Int32.ofNat (s.2.2 k)) ≤ 0 then FP.dadd t (sp_fp1 a n o (Int32.ofNat y) (s.2.1 k) (s.2.2 k)) else FP.dsub t (sp_fp1 a n o (Int32.ofNat y) (s.2.1 k) (s.2.2 k))) FP.dconst0 k
def sp_farPull (a : Nat → Int32) (n l o y : Nat) : UInt64 := sp_fpS a n o y (sp_fars a n y (l - 1)) (sp_fars a n y (l - 1)).1
def sp_pullAll (a : Nat → Int32) (n l o y : Nat) : UInt64 := FP.dadd (sp_pullOf a (Int32.ofNat y) 0 n) (sp_farPull a n l o y)
theorem zb_fp1 {a : Nat → Int32} {n o y l i : Nat} (ho : o ≤ 4) (hl : l ≤ 8) (hi : i < 2 ^ l) (hy : y < 256) (hd : 1 < zdi i (zbx l y)) : zBd (sp_fp1 a n o (Int32.ofNat y) l i) 1150 := (zb_pbS (zBd_i2d _) (zLb_i2d (zfar_ne hl hi hy hd)) (o := o + 1) (by omega)).mono (by omega)
theorem zb_fpS {a : Nat → Int32} {n o y L : Nat} {s : zFa} (ho : o ≤ 4) (hy : y < 256) (hL : L ≤ 8) (hs : zfok y L s) : ∀ {k : Nat}, k ≤ s.1 → k ≤ 100 → zBd (sp_fpS a n o y s k) (1150 + 2 * k)
  | 0, _, _ => zBd.mono zBd_0 (by decide)
  | k + 1, hk, hk2 => by
    have ih := zb_fpS (a := a) (n := n) ho hy hL hs (k := k) (by omega) (by omega)
    obtain ⟨g1, g2, g3, g4⟩ := hs k (by omega)
    have h1 := zb_fp1 (a := a) (n := n) ho (show s.2.1 k ≤ 8 by omega) g3 hy g4
    have es : sp_fpS a n o y s (k + 1) = (if Int32.ofNat y - sp_centre (Int32.ofNat (s.2.1 k)) (Int32.ofNat (s.2.2 k)) ≤ 0 then FP.dadd (sp_fpS a n o y s k) (sp_fp1 a n o (Int32.ofNat y) (s.2.1 k) (s.2.2 k)) else FP.dsub (sp_fpS a n o y s k) (sp_fp1 a n o (Int32.ofNat y) (s.2.1 k) (s.2.2 k))) := rfl
    rw [es]
    split
    · exact zBd.mono (zBd_add (K := 1150 + 2 * k) ih (zBd.mono h1 (by omega)) (by omega)) (by omega)
    · exact zBd.mono (zBd_sub (K := 1150 + 2 * k) ih (zBd.mono h1 (by omega)) (by omega)) (by omega)
theorem zb_farPull {a : Nat → Int32} {n l o y : Nat} (ho : o ≤ 4) (hy : y < 256) (hl : l ≤ 5) (h2 : 2 ≤ l) : zBd (sp_farPull a n l o y) 1182 := by
  have h1 := zc_fars a n y (l - 1)
  exact zBd.mono (zb_fpS ho hy (L := 1 + (l - 1)) (by omega) (zfok_fars a n y (l - 1)) (Nat.le_refl _) (by omega)) (by omega)
theorem zb_pullAll {a : Nat → Int32} {n l o y : Nat} (hr : zRow a n l o) (hy : y < 256) : zBd (sp_pullAll a n l o y) 1184 := by
  obtain ⟨-, h24, -, h2, h5, -, h4, -, hb⟩ := hr
  exact zBd_add (K := 1182) (zBd.mono (zb_pullOf hy (fun b hb2 => (hb b hb2).1) (Nat.le_refl n) (by omega)) (by omega)) (zb_farPull h4 hy h5 h2) (by decide)
theorem zBd_1000 : zBd (4652007308841189376 : UInt64) 1107 := ⟨false, 8796093022208000, -43, by decide +kernel, by unfold FP.Core.fits; decide +kernel, by decide +kernel⟩
theorem zLb_1000 : zLb (4652007308841189376 : UInt64) := ⟨false, 8796093022208000, -43, by decide +kernel, by decide +kernel⟩
theorem zb_k1000 (x : Int32) : zBd (FP.ddiv (FP.i2d x) (4652007308841189376 : UInt64)) 1108 := zBd_div (zBd_i2d _) zBd_1000 zLb_1000 (by decide)
/-- where a body goes -/
def sp_goes (p f : UInt64) (x : Int32) : Int32 := if (Op.cmpValue (FP.dcmp p f) .l) ≤ 0 then (if (0 : Int32) ≤ (Op.cmpValue (FP.dcmp p (FP.dsub FP.dconst0 f)) .g) then 0 else - sp_b (0 < x)) else sp_b (x < 255)
def zpt (a : Nat → Int32) (b : Nat) : Nat := (a (7 + 4 * b)).toNatClampNeg
def sp_moves (a : Nat → Int32) (n l o b : Nat) : Int32 := if a (7 + 4 * b + 2) = 1 then 0 else sp_goes (sp_pullAll a n l o (zpt a b)) (FP.ddiv (FP.i2d (a 5)) (4652007308841189376 : UInt64)) (a (7 + 4 * b))
theorem zpt_eq {a : Nat → Int32} {n l o b : Nat} (hr : zRow a n l o) (hb : b < n) : a (7 + 4 * b) = Int32.ofNat (zpt a b) ∧ zpt a b < 256 := by
  obtain ⟨x, h1, h2⟩ := (hr.2.2.2.2.2.2.2.2 b hb).1
  unfold zpt
  rw [h2, zi_clamp (by omega)]
  exact ⟨rfl, h1⟩
section ZM13
variable {m : Nat → Nat} {w : zM} {h : zw_H} {K : Nat → Option Nat} {X : String → Nat → zw_H → Prop}
theorem c_pullOf (d : zm_d m) {a : Nat → Int32} (ha : w.2.1 1 = a) {n l o y : Nat} {all : Int32} (hr : zRow a n l o) (hy : y < 256) {Q : UInt64 → zw_H → Prop} (hQ : Q (sp_pullOf a (Int32.ofNat y) all n) (zm_o m w h)) : f_X2_pullOf K (some (m 0)) (Int32.ofNat y) all (zm_o m w h) Q X := by
  subst ha
  have hn := hr.1
  have h24 := hr.2.1
  have hw := hr.hw
  have hx := hr.2.2.2.2.2.2.2.2
  unfold f_X2_pullOf
  refine zl3_run (B := f_X2_pullOf_B5 K Q X _ (some (m 0)) (Int32.ofNat y) all) (fun b => sp_pullOf (w.2.1 1) (Int32.ofNat y) all b) (fun b => Int32.ofNat b) (fun _ => zm_o m w h) (n := n) (fun R b hb hR => ?_) (fun R => ?_) n zfu 0 (by omega) (Nat.lt_of_le_of_lt h24 (by decide))
  · unfold f_X2_pullOf_B5 f_X2_pullOf_J51 f_X2_pullOf_J90 f_X2_pullOf_J91
    have es : sp_pullOf (w.2.1 1) (Int32.ofNat y) all (b + 1) = (if w.2.1 1 (7 + 4 * b) = Int32.ofNat y then sp_pullOf (w.2.1 1) (Int32.ofNat y) all b else if all ≠ 0 then sp_psum (w.2.1 1) (Int32.ofNat y) b (sp_pullOf (w.2.1 1) (Int32.ofNat y) all b) else if sp_far (w.2.1 1 (7 + 4 * b) / sp_wide (w.2.1 1 3)) (Int32.ofNat y / sp_wide (w.2.1 1 3)) ≤ 1 then sp_psum (w.2.1 1) (Int32.ofNat y) b (sp_pullOf (w.2.1 1) (Int32.ofNat y) all b) else sp_pullOf (w.2.1 1) (Int32.ofNat y) all b) := rfl
    rw [es] at hR
    rw [e_n d hn, if_neg (by rw [zi_le (by omega) (by omega)]; omega)]
    simp only [olet_iff, zi_succ, zm_c d, e_of0 d (show b < 24 by omega), e_of1 d (show b < 24 by omega), e_isNear d (show b < 24 by omega) hw, e_far]
    obtain ⟨x, hx1, hx2⟩ := (hx b hb).1
    by_cases g1 : w.2.1 1 (7 + 4 * b) = Int32.ofNat y
    · rw [if_pos g1] at hR
      rw [if_pos (show sp_far (w.2.1 1 (7 + 4 * b)) (Int32.ofNat y) = 0 by rw [g1, zi_far (by omega) (by omega), show zdi y y = 0 by unfold zdi; omega]; rfl)]
      exact hR
    · rw [if_neg g1] at hR
      rw [if_neg (sp_far_ne g1)]
      have ih := zb_pullOf (a := w.2.1 1) (all := all) hy (fun b hb2 => (hx b hb2).1) (n := b) (by omega) (by omega)
      have hp := zb_psum (a := w.2.1 1) (b := b) (x := Int32.ofNat y) (by rw [hx2] at g1 ⊢; exact zi_fsq hx1 hy g1) ih (by omega) (by omega)
      have n1 := hp.1.n64
      have n2 := hp.2.n64
      unfold sp_pshare at n1
      unfold sp_psum sp_pshare at n2
      unfold sp_psum sp_pshare at hR
      by_cases g2 : all ≠ 0
      · rw [if_pos g2] at hR ⊢
        refine ⟨n1, ?_⟩
        by_cases g3 : w.2.1 1 (7 + 4 * b) ≤ Int32.ofNat y
        · rw [if_pos g3] at hR n2 ⊢
          exact ⟨n2, hR⟩
        · rw [if_neg g3] at hR n2 ⊢
          exact ⟨n2, hR⟩
      · rw [if_neg g2] at hR ⊢
        by_cases g4 : sp_far (w.2.1 1 (7 + 4 * b) / sp_wide (w.2.1 1 3)) (Int32.ofNat y / sp_wide (w.2.1 1 3)) ≤ 1
        · rw [if_pos g4] at hR
          rw [sp_bt g4, if_pos (by decide)]
          refine ⟨n1, ?_⟩
          by_cases g3 : w.2.1 1 (7 + 4 * b) ≤ Int32.ofNat y
          · rw [if_pos g3] at hR n2 ⊢
            exact ⟨n2, hR⟩
          · rw [if_neg g3] at hR n2 ⊢
            exact ⟨n2, hR⟩
        · rw [if_neg g4] at hR
          rw [sp_bf g4, if_neg (by decide)]
          exact hR
  · unfold f_X2_pullOf_B5
    rw [e_n d hn, if_pos (by rw [zi_le (by omega) (by omega)]; omega)]
    exact hQ
theorem c_pullBy (d : zm_d m) {n o : Nat} (hn : w.2.1 1 0 = Int32.ofNat n) (h24 : n ≤ 24) (ho : w.2.1 1 4 = Int32.ofNat o) (h4 : o ≤ 4) {l i y : Int32} (hl : sp_wide l ≠ 0) (hx : y ≠ 0) {Q : UInt64 → zw_H → Prop} (hQ : Q (sp_pbS (w.2.1 1) n l i (FP.i2d y) (o + 1)) (zm_o m w h)) : f_X2_pullBy K (some (m 0)) l i y (zm_o m w h) Q X := by
  unfold f_X2_pullBy
  have hy := zBd_i2d y
  have ly := zLb_i2d hx
  refine c_times (k := 2) zBd_1 hy (by decide) ?_
  refine zl4_run (B := f_X2_pullBy_B15 K Q X _ (some (m 0)) l i y) (fun b => sp_pbS (w.2.1 1) n l i (FP.i2d y) b) (fun b => sp_times (sp_times FP.dconst1 (FP.i2d y) 2) (FP.i2d y) b) (fun b => Int32.ofNat b) (fun _ => zm_o m w h) (n := o + 1) (fun R b hb hR => ?_) (fun R => ?_) (o + 1) zfu 0 (by omega) (Nat.lt_of_le_of_lt (show o + 1 ≤ 5 by omega) (by decide))
  · unfold f_X2_pullBy_B15
    rw [e_a4 d, ho, if_neg (by rw [zi_lt (by omega) (by omega)]; omega), zm_c d]
    refine c_momentOf d hn h24 (by omega) hl ?_
    simp only [olet_iff, zi_succ]
    exact ⟨(zb_pb1 hy ly (by omega)).n64, (zb_pbS (a := w.2.1 1) (n := n) (l := l) (i := i) hy ly (o := b + 1) (by omega)).n64, (zb_times (zb_t2 hy) hy (k := b + 1) (by omega)).n64, hR⟩
  · unfold f_X2_pullBy_B15
    rw [e_a4 d, ho, if_pos (by rw [zi_lt (by omega) (by omega)]; omega)]
    exact hQ
theorem c_farPull (d : zm_d m) {a : Nat → Int32} (ha : w.2.1 1 = a) {n l o y : Nat} (hr : zRow a n l o) (hy : y < 256) {Q : UInt64 → zw_H → Prop} (hQ : ∀ v, zSf w v → Q (sp_farPull a n l o y) (zm_o m v h)) : f_X2_farPull K (some (m 0)) (Int32.ofNat y) (zm_o m w h) Q X := by
  unfold f_X2_farPull
  rw [zm_c d]
  refine c_laysFar d ha hr hy (fun v hs hf => ?_)
  obtain ⟨hn, h24, hl, h2, h5, ho, h4, -⟩ := hr
  have hrow : v.2.1 1 = a := hs.row.trans ha
  have hQ := hQ v hs
  unfold sp_farPull at hQ
  have hc := zc_fars a n y (l - 1)
  have hok := zfok_fars a n y (l - 1)
  generalize sp_fars a n y (l - 1) = s at hQ hc hok hf
  refine zl3_run (B := f_X2_farPull_B10 K Q X _ (some (m 0)) (Int32.ofNat y)) (fun k => sp_fpS a n o y s k) (fun k => Int32.ofNat k) (fun _ => zm_o m v h) (n := s.1) (fun R k hk hR => ?_) (fun R => ?_) s.1 zfu 0 (by omega) (Nat.lt_of_le_of_lt (show s.1 ≤ 16 by omega) (by decide))
  · unfold f_X2_farPull_B10 f_X2_farPull_J78
    obtain ⟨g1, g2, g3, g4⟩ := hok k hk
    have hb := (zb_fpS (a := a) (n := n) h4 hy (by omega) hok (k := k + 1) (by omega) (by omega)).n64
    have es : sp_fpS a n o y s (k + 1) = (if Int32.ofNat y - sp_centre (Int32.ofNat (s.2.1 k)) (Int32.ofNat (s.2.2 k)) ≤ 0 then FP.dadd (sp_fpS a n o y s k) (sp_fp1 a n o (Int32.ofNat y) (s.2.1 k) (s.2.2 k)) else FP.dsub (sp_fpS a n o y s k) (sp_fp1 a n o (Int32.ofNat y) (s.2.1 k) (s.2.2 k))) := rfl
    rw [es] at hR hb
    unfold sp_fp1 at hR hb
    rw [zm_g20 d, hf.1, if_neg (by rw [zi_le (by omega) (by omega)]; omega), zm_g18 d, zm_r18 d (by decide), zi_clamp (by omega)]
    refine ⟨zi_inn (by omega) (by decide), ?_⟩
    rw [zm_g19 d, zm_r19 d (by decide), zi_clamp (by omega)]
    refine ⟨zi_inn (by omega) (by decide), ?_⟩
    rw [(hf.2 k hk).1, (hf.2 k hk).2, e_centre]
    simp only [olet_iff]
    rw [zm_g18 d, zm_r18 d (by decide), zi_clamp (by omega)]
    refine ⟨zi_inn (by omega) (by decide), ?_⟩
    rw [zm_g19 d, zm_r19 d (by decide), zi_clamp (by omega)]
    refine ⟨zi_inn (by omega) (by decide), ?_⟩
    rw [(hf.2 k hk).1, (hf.2 k hk).2, zm_c d]
    refine c_pullBy d (n := n) (o := o) (by rw [hrow]; exact hn) h24 (by rw [hrow]; exact ho) h4 (zi_wide0 (by omega)) (zfar_ne (by omega) g3 hy g4) ?_
    rw [hrow]
    simp only [zi_succ]
    split
    · rename_i g
      rw [if_pos g] at hR hb
      exact ⟨hb, hR⟩
    · rename_i g
      rw [if_neg g] at hR hb
      exact ⟨hb, hR⟩
  · unfold f_X2_farPull_B10
    rw [zm_g20 d, hf.1, if_pos (by rw [zi_le (by omega) (by omega)]; omega)]
    exact hQ
theorem c_pullAll (d : zm_d m) {a : Nat → Int32} (ha : w.2.1 1 = a) {n l o y : Nat} (hr : zRow a n l o) (hy : y < 256) {Q : UInt64 → zw_H → Prop} (hQ : ∀ v, zSf w v → Q (sp_pullAll a n l o y) (zm_o m v h)) : f_X2_pullAll K (some (m 0)) (Int32.ofNat y) (zm_o m w h) Q X := by
  unfold f_X2_pullAll
  rw [zm_c d]
  refine c_pullOf d ha hr hy ?_
  rw [zm_c d]
  refine c_farPull d ha hr hy (fun v hs => ?_)
  simp only [olet_iff]
  exact ⟨(zb_pullAll hr hy).n64, hQ v hs⟩
theorem e_a5 (d : zm_d m) (F : Int32 → Prop) : og_A (zm_o m w h) (some (m 0)) [0] 1 (fun v1 => oa_I (zm_o m w h) v1 [0, 11] 5 F) = F (w.2.1 1 5) := by
  rw [zm_g1 d, zm_r1 d (by decide), show (5 : Int32).toNatClampNeg = 5 from rfl]
  exact propext ⟨fun g => g.2, fun g => ⟨zi_inn (a := 5) (by decide) (by decide), g⟩⟩
theorem c_moves (d : zm_d m) {a : Nat → Int32} (ha : w.2.1 1 = a) {n l o b : Nat} (hr : zRow a n l o) (hb : b < n) {Q : Int32 → zw_H → Prop} (hQ : ∀ v, zSf w v → Q (sp_moves a n l o b) (zm_o m v h)) : f_X2_moves K (some (m 0)) (Int32.ofNat b) (zm_o m w h) Q X := by
  have h24 := hr.2.1
  obtain ⟨e1, e2⟩ := zpt_eq hr hb
  unfold f_X2_moves f_X2_moves_J60 f_X2_moves_J87
  rw [zm_c d, e_of2 d (by omega), ha]
  unfold sp_moves at hQ
  by_cases g : a (7 + 4 * b + 2) = 1
  · simp only [if_pos g] at hQ
    rw [if_neg (fun e => e g)]
    exact hQ w (zSf.refl w)
  · simp only [if_neg g] at hQ
    rw [if_pos g, zm_c d, e_of0 d (by omega), zm_c d, ha, e1]
    refine c_pullAll d ha hr e2 (fun v hs => ?_)
    have hQ := hQ v hs
    have hrow : v.2.1 1 = a := hs.row.trans ha
    simp only [olet_iff, zm_c d, e_of0 d (show b < 24 by omega), e_one, e_a5 d, hrow]
    have n1 := (zb_k1000 (a 5)).n64
    have n2 := (zBd_sub (K := 1108) (zBd.mono zBd_0 (by decide)) (zb_k1000 (a 5)) (by decide)).n64
    refine ⟨n1, ?_⟩
    unfold sp_goes at hQ
    by_cases g1 : (Op.cmpValue (FP.dcmp (sp_pullAll a n l o (zpt a b)) (FP.ddiv (FP.i2d (a 5)) (4652007308841189376 : UInt64))) .l) ≤ 0
    · rw [if_pos g1] at hQ ⊢
      refine ⟨n2, ?_⟩
      by_cases g2 : (0 : Int32) ≤ (Op.cmpValue (FP.dcmp (sp_pullAll a n l o (zpt a b)) (FP.dsub FP.dconst0 (FP.ddiv (FP.i2d (a 5)) (4652007308841189376 : UInt64)))) .g)
      · rw [if_pos g2] at hQ ⊢
        exact hQ
      · rw [if_neg g2] at hQ ⊢
        by_cases g3 : 0 < a (7 + 4 * b)
        · rw [sp_bt g3] at hQ
          rw [if_neg (Int32.not_le.mpr g3)]
          exact hQ
        · rw [sp_bf g3] at hQ
          rw [if_pos (Int32.not_lt.mp g3)]
          exact hQ
    · rw [if_neg g1] at hQ ⊢
      by_cases g3 : a (7 + 4 * b) < 255
      · rw [sp_bt g3] at hQ
        rw [if_neg (Int32.not_le.mpr g3)]
        exact hQ
      · rw [sp_bf g3] at hQ
        rw [if_pos (Int32.not_lt.mp g3)]
        exact hQ
end ZM13
