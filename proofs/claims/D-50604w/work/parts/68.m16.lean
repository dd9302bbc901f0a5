set_option maxRecDepth 100000
/-! local rows -/
/-- what comes from the row of the box above -/
def sp_ab (y : UInt64) (A : Nat → UInt64) (j : Nat) (c : Nat) : UInt64 := zacc (fun c s => FP.dadd s (FP.dmul (FP.dmul (FP.i2d (sp_choose (Int32.ofNat (j + c)) j)) (A (j + c))) (sp_times FP.dconst1 y c))) FP.dconst0 c
/-- .. and from a far box -/
def sp_part (a : Nat → Int32) (n : Nat) (l q : Nat) (y : Int32) (j : Nat) (c : Nat) : UInt64 := zacc (fun k s => FP.dadd s (FP.ddiv (FP.l2d ((sp_choose (Int32.ofNat (k + j)) j).toInt64 * sp_moment a n (Int32.ofNat l) (Int32.ofNat q) k)) (sp_times (sp_times FP.dconst1 (FP.i2d y) (j + 1)) (FP.i2d y) k))) FP.dconst0 c
def sp_loc1 (y : Int32) (j : Nat) (r z : UInt64) : UInt64 := if (if (0 : Int32) ≤ y then (0 : Int32) else 1) ≠ (if j % 2 ≠ 0 then (0 : Int32) else 1) then FP.dadd r z else FP.dsub r z
def sp_bb (l i q : Nat) : Int32 := sp_centre (Int32.ofNat l) (Int32.ofNat i) - sp_centre (Int32.ofNat l) (Int32.ofNat q)
def sp_takes (a : Nat → Int32) (n o l i q : Nat) (r : Nat → UInt64) : Nat → UInt64 := fun j => sp_loc1 (sp_bb l i q) j (r j) (sp_part a n l q (sp_bb l i q) j (o + 1))
def sp_rowF (a : Nat → Int32) (n o l i : Nat) (s : Nat → UInt64) (c : Nat) : Nat → UInt64 := zacc (fun q r => if zfarQ a n i l q then sp_takes a n o l i q r else r) s c
def sp_aby (l i : Nat) : UInt64 := FP.i2d (sp_centre (Int32.ofNat l) (Int32.ofNat i) - sp_centre (Int32.ofNat l - 1) (Int32.ofNat i / 2))
def sp_row (a : Nat → Int32) (n o : Nat) : Nat → Nat → Nat → UInt64
  | 0, i => sp_rowF a n o 2 i (fun _ => FP.dconst0) (2 ^ 2)
  | c + 1, i => sp_rowF a n o (2 + (c + 1)) i (fun j => sp_ab (sp_aby (2 + (c + 1)) i) (sp_row a n o c (i / 2)) j (o + 1 - j)) (2 ^ (2 + (c + 1)))
theorem zb_t1 {y : UInt64} (hy : zBd y 1107) {k : Nat} (hk : k ≤ 8) : zBd (sp_times FP.dconst1 y k) (1074 + 34 * k) := zb_times zBd_1 hy (by omega)
theorem zb_part {a : Nat → Int32} {n l q : Nat} {y : Int32} {j : Nat} (hy : y ≠ 0) (hj : j ≤ 4) : ∀ {c : Nat}, c ≤ 5 → zBd (sp_part a n l q y j c) (1140 + 2 * c)
  | 0, _ => zBd.mono zBd_0 (by decide)
  | c + 1, hc => by
    have ih := zb_part (a := a) (n := n) (l := l) (q := q) hy hj (c := c) (by omega)
    have b1 := zb_t1 (zBd_i2d y) (k := j + 1) (by omega)
    have l1 : zLb (sp_times FP.dconst1 (FP.i2d y) (j + 1)) := zl_times zBd_1 (zBd_i2d y) zLb_1 (zLb_i2d hy) (by omega)
    have h1 : zBd (FP.ddiv (FP.l2d ((sp_choose (Int32.ofNat (c + j)) j).toInt64 * sp_moment a n (Int32.ofNat l) (Int32.ofNat q) c)) (sp_times (sp_times FP.dconst1 (FP.i2d y) (j + 1)) (FP.i2d y) c)) 1140 := zBd_div (K := 1139) (zBd_l2d _) (zb_times b1 (zBd_i2d y) (k := c) (by omega)) (zl_times b1 (zBd_i2d y) l1 (zLb_i2d hy) (k := c) (by omega)) (by decide)
    exact zBd.mono (zBd_add (K := 1140 + 2 * c) ih (zBd.mono h1 (by omega)) (by omega)) (by omega)
theorem zb_part1 {a : Nat → Int32} {n l q : Nat} {y : Int32} {j : Nat} (hy : y ≠ 0) (hj : j ≤ 4) {c : Nat} (hc : c ≤ 4) : zBd (FP.ddiv (FP.l2d ((sp_choose (Int32.ofNat (c + j)) j).toInt64 * sp_moment a n (Int32.ofNat l) (Int32.ofNat q) c)) (sp_times (sp_times FP.dconst1 (FP.i2d y) (j + 1)) (FP.i2d y) c)) 1140 := by
  have b1 := zb_t1 (zBd_i2d y) (k := j + 1) (by omega)
  have l1 : zLb (sp_times FP.dconst1 (FP.i2d y) (j + 1)) := zl_times zBd_1 (zBd_i2d y) zLb_1 (zLb_i2d hy) (by omega)
  exact zBd_div (K := 1139) (zBd_l2d _) (zb_times b1 (zBd_i2d y) (k := c) (by omega)) (zl_times b1 (zBd_i2d y) l1 (zLb_i2d hy) (k := c) (by omega)) (by decide)
theorem zb_part2 {y : Int32} {j c : Nat} (hj : j ≤ 4) (hc : c ≤ 5) : zBd (sp_times (sp_times FP.dconst1 (FP.i2d y) (j + 1)) (FP.i2d y) c) (1074 + 34 * (j + 1) + 34 * c) := zb_times (zb_t1 (zBd_i2d y) (k := j + 1) (by omega)) (zBd_i2d y) (by omega)
theorem zb_loc1 {y : Int32} {j : Nat} {r z : UInt64} {k : Nat} (hr : zBd r k) (hz : zBd z k) (hk : k ≤ 2089) : zBd (sp_loc1 y j r z) (k + 2) := by
  unfold sp_loc1
  by_cases g : (if (0 : Int32) ≤ y then (0 : Int32) else 1) ≠ (if j % 2 ≠ 0 then (0 : Int32) else 1)
  · rw [if_pos g]
    exact zBd_add hr hz hk
  · rw [if_neg g]
    exact zBd_sub hr hz hk
theorem zfar_bb {l i q : Nat} (hl : l ≤ 8) (hi : i < 2 ^ l) (hq : q < 2 ^ l) (hd : 1 < zdi q i) : sp_bb l i q ≠ 0 := by
  have h1 := zct_lt hl hi
  have h2 := zct_lt hl hq
  have h3 := Nat.two_pow_pos (8 - l)
  unfold sp_bb
  rw [zi_centre hl, zi_centre hl]
  refine zi_subne (by omega) (by omega) (fun e => ?_)
  unfold zct at e
  have e2 : i * 2 ^ (8 - l) = q * 2 ^ (8 - l) := by omega
  have e3 := Nat.eq_of_mul_eq_mul_right h3 e2
  subst e3
  unfold zdi at hd
  omega
theorem zb_rowF {a : Nat → Int32} {n o l i S : Nat} {s : Nat → UInt64} (ho : o ≤ 4) (hl : l ≤ 8) (hi : i < 2 ^ l) (hS : 1150 ≤ S) (hS2 : S ≤ 2070) (hs : ∀ j, j ≤ o → zBd (s j) S) {j : Nat} (hj : j ≤ o) : ∀ {c : Nat}, c ≤ 2 ^ l → zBd (sp_rowF a n o l i s c j) (S + 2 * zcnt i c)
  | 0, _ => zBd.mono (hs j hj) (Nat.le_add_right _ _)
  | c + 1, hc => by
    have ih := zb_rowF (a := a) (n := n) ho hl hi hS hS2 hs hj (c := c) (by omega)
    have es : sp_rowF a n o l i s (c + 1) j = (if zfarQ a n i l c then sp_takes a n o l i c (sp_rowF a n o l i s c) else sp_rowF a n o l i s c) j := rfl
    rw [es]
    by_cases g : zfarQ a n i l c
    · rw [if_pos g]
      have hc1 : zcnt i c + 1 ≤ zcnt i (c + 1) := by
        obtain ⟨g1, g2, -⟩ := g
        unfold zdi at g1 g2
        unfold zcnt
        omega
      have hc2 : zcnt i (c + 1) ≤ 4 := by unfold zcnt; omega
      have hb := zfar_bb hl hi (show c < 2 ^ l by omega) g.1
      exact zBd.mono (zb_loc1 (y := sp_bb l i c) (j := j) ih ((zb_part (a := a) (n := n) (l := l) (q := c) hb (show j ≤ 4 by omega) (c := o + 1) (by omega)).mono (by omega)) (by omega)) (by omega)
    · rw [if_neg g]
      exact ih.mono (by unfold zcnt; omega)
theorem zb_ab1 {y : UInt64} {A : Nat → UInt64} {B j c : Nat} (hy : zBd y 1107) (hc : c ≤ 4) (hB : 1074 ≤ B) (hB2 : B ≤ 1850) (hA : zBd (A (j + c)) B) : zBd (FP.dmul (FP.i2d (sp_choose (Int32.ofNat (j + c)) j)) (A (j + c))) (B + 34) ∧ zBd (FP.dmul (FP.dmul (FP.i2d (sp_choose (Int32.ofNat (j + c)) j)) (A (j + c))) (sp_times FP.dconst1 y c)) (B + 171) := by
  have h1 : zBd (FP.dmul (FP.i2d (sp_choose (Int32.ofNat (j + c)) j)) (A (j + c))) (B + 34) := zBd.mono (zBd_mul (zBd_i2d _) hA (by omega) (by omega)) (by omega)
  exact ⟨h1, zBd.mono (zBd_mul h1 (zb_t1 hy (k := c) (by omega)) (by omega) (by omega)) (by omega)⟩
theorem zb_ab {y : UInt64} {A : Nat → UInt64} {B j o : Nat} (hy : zBd y 1107) (ho : o ≤ 4) (hB : 1074 ≤ B) (hB2 : B ≤ 1850) (hA : ∀ m, m ≤ o → zBd (A m) B) : ∀ {c : Nat}, j + c ≤ o + 1 → zBd (sp_ab y A j c) (B + 171 + 2 * c)
  | 0, _ => zBd.mono zBd_0 (by omega)
  | c + 1, hc => by
    have ih := zb_ab (j := j) hy ho hB hB2 hA (c := c) (by omega)
    have h1 := (zb_ab1 (j := j) (c := c) hy (by omega) hB hB2 (hA (j + c) (by omega))).2
    exact zBd.mono (zBd_add (K := B + 171 + 2 * c) ih (h1.mono (by omega)) (by omega)) (by omega)
theorem zb_row {a : Nat → Int32} {n o : Nat} (ho : o ≤ 4) : ∀ {c i : Nat}, c ≤ 3 → i < 2 ^ (2 + c) → ∀ {j : Nat}, j ≤ o → zBd (sp_row a n o c i j) (1158 + 189 * c)
  | 0, i, _, hi, j, hj => (zb_rowF (a := a) (n := n) (S := 1150) ho (by decide) hi (by decide) (by decide) (fun _ _ => zBd.mono zBd_0 (by decide)) hj (Nat.le_refl _)).mono (by unfold zcnt; omega)
  | c + 1, i, hc, hi, j, hj => by
    have hi2 : i / 2 < 2 ^ (2 + c) := by
      rw [show 2 + (c + 1) = 2 + c + 1 by omega, Nat.pow_succ] at hi
      omega
    have hA : ∀ m, m ≤ o → zBd (sp_row a n o c (i / 2) m) (1158 + 189 * c) := fun m hm => zb_row (a := a) (n := n) ho (by omega) hi2 hm
    refine (zb_rowF (a := a) (n := n) (S := 1158 + 189 * c + 181) ho (show 2 + (c + 1) ≤ 8 by omega) hi (by omega) (by omega) (fun j hj => ?_) hj (Nat.le_refl _)).mono (by unfold zcnt; omega)
    exact (zb_ab (j := j) (zBd_i2d _) ho (by omega) (by omega) hA (c := o + 1 - j) (by omega)).mono (by omega)
theorem zi_par {j : Nat} (h : j ≤ 4) : (Int32.ofNat j - Int32.ofNat j / 2 * 2 ≠ 0) ↔ j % 2 ≠ 0 := by
  have h9 : j = 0 ∨ j = 1 ∨ j = 2 ∨ j = 3 ∨ j = 4 := by omega
  rcases h9 with rfl | rfl | rfl | rfl | rfl <;> decide
theorem zi_shr {i s : Nat} (hi : i < 32) (hs : s < 4) : Int32.ofNat i >>> (Int32.ofNat s &&& 31) = Int32.ofNat (i / 2 ^ s) := by
  have key : ∀ i : Fin 32, ∀ s : Fin 4, Int32.ofNat i.val >>> (Int32.ofNat s.val &&& 31) = Int32.ofNat (i.val / 2 ^ s.val) := by decide +kernel
  exact key ⟨i, hi⟩ ⟨s, hs⟩
section ZM16
variable {m : Nat → Nat} {w : zM} {h : zw_H} {K : Nat → Option Nat} {X : String → Nat → zw_H → Prop}
theorem zSl.ad {w v : zM} (h : zSl w v) (k : Nat) (f : Nat → UInt64) : zSl w (zAD v k f) := ⟨h.1, h.2⟩
theorem c_takesAbove (d : zm_d m) {a : Nat → Int32} (ha : w.2.1 1 = a) {n l o lev i B : Nat} {A : Nat → UInt64} (hr : zRow a n l o) (hB : 1074 ≤ B) (hB2 : B ≤ 1850) (hA : ∀ q, q ≤ o → zBd (A q) B) (hv : ∀ q, q ≤ o → w.2.2.2 22 q = A q) (h0 : ∀ q, q ≤ o → w.2.2.2 21 q = FP.dconst0) {Q : zw_H → Prop} (hQ : ∀ v, zSl w v → (∀ q, q ≤ o → v.2.2.2 21 q = sp_ab (sp_aby lev i) A q (o + 1 - q)) → Q (zm_o m v h)) : f_X2_takesAbove K (some (m 0)) (Int32.ofNat lev) (Int32.ofNat i) (zm_o m w h) Q X := by
  obtain ⟨hn, h24, hl, h2, h5, ho, h4, -⟩ := hr
  unfold f_X2_takesAbove
  rw [e_centre]
  refine ⟨by decide, ?_⟩
  rw [e_centre]
  simp only [olet_iff]
  have e0 : FP.i2d (sp_centre (Int32.ofNat lev) (Int32.ofNat i) - sp_centre (Int32.ofNat lev - 1) (Int32.ofNat i / 2)) = sp_aby lev i := rfl
  have hy : zBd (sp_aby lev i) 1107 := zBd_i2d _
  rw [e0]
  generalize sp_aby lev i = y at hy hQ
  refine zl2_inv (B := f_X2_takesAbove_B20 K Q X _ (some (m 0)) y) (fun j x hh => x = Int32.ofNat j ∧ ∃ v, hh = zm_o m v h ∧ zSl w v ∧ (∀ q, q ≤ o → v.2.2.2 22 q = A q) ∧ (∀ q, q < j → v.2.2.2 21 q = sp_ab y A q (o + 1 - q)) ∧ (∀ q, j ≤ q → q ≤ o → v.2.2.2 21 q = FP.dconst0)) (n := o + 1) (fun R j hj x hh hp hR => ?_) (fun R x hh hp => ?_) (o + 1) zfu 0 (by omega) (Nat.lt_of_le_of_lt (show o + 1 ≤ 5 by omega) (by decide)) _ _ ⟨rfl, w, rfl, zSl.refl w, hv, fun q hq => absurd hq (Nat.not_lt_zero q), fun q _ hq => h0 q hq⟩
  · obtain ⟨rfl, v, rfl, hs, g1, g2, g3⟩ := hp
    have hrow : v.2.1 1 = a := hs.row.trans ha
    unfold f_X2_takesAbove_B20
    rw [e_a4 d, hrow, ho, if_neg (by rw [zi_lt (by omega) (by omega)]; omega)]
    refine zl2_inv (B := f_X2_takesAbove_B35 K Q X _ (some (m 0)) y (Int32.ofNat j)) (fun c x hh => x = Int32.ofNat (j + c) ∧ ∃ v, hh = zm_o m v h ∧ zSl w v ∧ (∀ q, q ≤ o → v.2.2.2 22 q = A q) ∧ (∀ q, q < j → v.2.2.2 21 q = sp_ab y A q (o + 1 - q)) ∧ (∀ q, j < q → q ≤ o → v.2.2.2 21 q = FP.dconst0) ∧ v.2.2.2 21 j = sp_ab y A j c) (n := o + 1 - j) (fun R2 c hc x hh hp hR2 => ?_) (fun R2 x hh hp => ?_) (o + 1 - j) zfu 0 (by omega) (Nat.lt_of_le_of_lt (show o + 1 - j ≤ 5 by omega) (by decide)) _ _ ⟨rfl, v, rfl, hs, g1, g2, fun q h1 h2 => g3 q (by omega) h2, g3 j (Nat.le_refl j) (by omega)⟩
    · obtain ⟨rfl, v, rfl, hs, g1, g2, g3, g4⟩ := hp
      have hrow : v.2.1 1 = a := hs.row.trans ha
      unfold f_X2_takesAbove_B35
      rw [e_a4 d, hrow, ho, if_neg (by rw [zi_lt (by omega) (by omega)]; omega), zm_g21 d, zm_r21 d (by decide), zi_clamp (by omega)]
      refine ⟨zi_inn (by omega) (by decide), ?_⟩
      refine c_choose (by omega) ?_
      rw [zm_g22 d, zm_r22 d (by decide), zi_clamp (by omega)]
      refine ⟨zi_inn (by omega) (by decide), ?_⟩
      rw [g1 _ (by omega), g4]
      have hb := zb_ab1 (j := j) (c := c) hy (by omega) hB hB2 (hA (j + c) (by omega))
      simp only [olet_iff]
      refine ⟨hb.1.n64, ?_⟩
      rw [← Int32.ofNat_sub _ _ (show j ≤ j + c by omega), Nat.add_sub_cancel_left]
      refine c_times (k := c) zBd_1 hy (by omega) ?_
      refine ⟨hb.2.n64, (zb_ab (j := j) hy h4 hB hB2 hA (c := c + 1) (by omega)).n64, ?_⟩
      rw [zm_s21 d (by decide), zi_clamp (by omega), zi_succ]
      refine ⟨zi_inn (by omega) (by decide), ?_⟩
      refine hR2 _ _ ⟨rfl, _, rfl, hs.ad 21 _, g1, fun q hq => ?_, fun q h1 h2 => ?_, ?_⟩
      · exact (if_neg (show q ≠ j by omega)).trans (g2 q hq)
      · exact (if_neg (show q ≠ j by omega)).trans (g3 q h1 h2)
      · exact if_pos rfl
    · obtain ⟨rfl, v, rfl, hs, g1, g2, g3, g4⟩ := hp
      have hrow : v.2.1 1 = a := hs.row.trans ha
      unfold f_X2_takesAbove_B35
      rw [e_a4 d, hrow, ho, if_pos (by rw [zi_lt (by omega) (by omega)]; omega)]
      simp only [olet_iff, zi_succ]
      refine hR _ _ ⟨rfl, v, rfl, hs, g1, fun q hq => ?_, fun q h1 h2 => g3 q (by omega) h2⟩
      rcases Nat.lt_or_ge q j with g | g
      · exact g2 q g
      · have e : q = j := by omega
        subst e
        exact g4
  · obtain ⟨rfl, v, rfl, hs, g1, g2, g3⟩ := hp
    have hrow : v.2.1 1 = a := hs.row.trans ha
    unfold f_X2_takesAbove_B20
    rw [e_a4 d, hrow, ho, if_pos (by rw [zi_lt (by omega) (by omega)]; omega)]
    exact hQ v hs (fun q hq => g2 q (by omega))
theorem c_takesFar (d : zm_d m) {a : Nat → Int32} (ha : w.2.1 1 = a) {n l o lev i q S : Nat} {r : Nat → UInt64} (hr : zRow a n l o) (hlev : lev ≤ 8) (hne : sp_bb lev i q ≠ 0) (hS : 1150 ≤ S) (hS2 : S ≤ 2089) (hb : ∀ j, j ≤ o → zBd (r j) S) (hv : ∀ j, j ≤ o → w.2.2.2 21 j = r j) {Q : zw_H → Prop} (hQ : ∀ v, zSl w v → (∀ k, k ≠ 21 → v.2.2.2 k = w.2.2.2 k) → (∀ j, j ≤ o → v.2.2.2 21 j = sp_takes a n o lev i q r j) → Q (zm_o m v h)) : f_X2_takesFar K (some (m 0)) (Int32.ofNat lev) (Int32.ofNat i) (Int32.ofNat q) (zm_o m w h) Q X := by
  obtain ⟨hn, h24, hl, h2, h5, ho, h4, -⟩ := hr
  unfold f_X2_takesFar
  rw [e_centre, e_centre]
  simp only [olet_iff]
  have e0 : sp_centre (Int32.ofNat lev) (Int32.ofNat i) - sp_centre (Int32.ofNat lev) (Int32.ofNat q) = sp_bb lev i q := rfl
  rw [e0]
  unfold sp_takes at hQ
  generalize sp_bb lev i q = y at hne hQ
  have hy := zBd_i2d y
  refine zl2_inv (B := f_X2_takesFar_B16 K Q X _ (some (m 0)) (Int32.ofNat lev) (Int32.ofNat q) y) (fun j x hh => x = Int32.ofNat j ∧ ∃ v, hh = zm_o m v h ∧ zSl w v ∧ (∀ k, k ≠ 21 → v.2.2.2 k = w.2.2.2 k) ∧ (∀ p, p < j → v.2.2.2 21 p = sp_loc1 y p (r p) (sp_part a n lev q y p (o + 1))) ∧ (∀ p, j ≤ p → p ≤ o → v.2.2.2 21 p = r p)) (n := o + 1) (fun R j hj x hh hp hR => ?_) (fun R x hh hp => ?_) (o + 1) zfu 0 (by omega) (Nat.lt_of_le_of_lt (show o + 1 ≤ 5 by omega) (by decide)) _ _ ⟨rfl, w, rfl, zSl.refl w, fun _ _ => rfl, fun p hp => absurd hp (Nat.not_lt_zero p), fun p _ hp => hv p hp⟩
  · obtain ⟨rfl, v, rfl, hs, g0, g1, g2⟩ := hp
    have hrow : v.2.1 1 = a := hs.row.trans ha
    unfold f_X2_takesFar_B16
    rw [e_a4 d, hrow, ho, if_neg (by rw [zi_lt (by omega) (by omega)]; omega), zi_succ]
    refine c_times (k := j + 1) zBd_1 hy (by omega) ?_
    refine zl4_run (B := f_X2_takesFar_B46 K Q X _ (some (m 0)) (Int32.ofNat lev) (Int32.ofNat q) y (Int32.ofNat j)) (fun k => sp_part a n lev q y j k) (fun k => sp_times (sp_times FP.dconst1 (FP.i2d y) (j + 1)) (FP.i2d y) k) (fun k => Int32.ofNat k) (fun _ => zm_o m v h) (n := o + 1) (fun R2 k hk hR2 => ?_) (fun R2 => ?_) (o + 1) zfu 0 (by omega) (Nat.lt_of_le_of_lt (show o + 1 ≤ 5 by omega) (by decide))
    · unfold f_X2_takesFar_B46
      rw [e_a4 d, hrow, ho, if_neg (by rw [zi_lt (by omega) (by omega)]; omega), ← Int32.ofNat_add]
      refine c_choose (by omega) ?_
      rw [zm_c d]
      refine c_momentOf d (n := n) (by rw [hrow]; exact hn) h24 (by omega) (zi_wide0 hlev) ?_
      rw [hrow]
      simp only [olet_iff, zi_succ]
      exact ⟨(zb_part1 (a := a) (n := n) (l := lev) (q := q) (c := k) hne (show j ≤ 4 by omega) (by omega)).n64, (zb_part (a := a) (n := n) (l := lev) (q := q) hne (show j ≤ 4 by omega) (c := k + 1) (by omega)).n64, (zb_part2 (y := y) (j := j) (c := k + 1) (by omega) (by omega)).n64, hR2⟩
    · unfold f_X2_takesFar_B46
      rw [e_a4 d, hrow, ho, if_pos (by rw [zi_lt (by omega) (by omega)]; omega)]
      have hz := zb_loc1 (y := y) (j := j) (hb j (by omega)) ((zb_part (a := a) (n := n) (l := lev) (q := q) hne (show j ≤ 4 by omega) (c := o + 1) (by omega)).mono (show 1140 + 2 * (o + 1) ≤ S by omega)) hS2
      have hfin : ∀ x, x = sp_loc1 y j (r j) (sp_part a n lev q y j (o + 1)) → R (Int32.ofNat (j + 1)) (zm_o m (zAD v 21 (vf_upd (v.2.2.2 21) j x)) h) := fun x hx => hR _ _ ⟨rfl, _, rfl, hs.ad 21 _, fun k hk => (if_neg hk).trans (g0 k hk), fun p hp => by
        show (if p = j then x else v.2.2.2 21 p) = _
        by_cases e : p = j
        · rw [if_pos e, hx, e]
        · rw [if_neg e]
          exact g1 p (by omega), fun p h1 h2 => (if_neg (show p ≠ j by omega)).trans (g2 p (by omega) h2)⟩
      have hin : vp_in (Int32.ofNat j) 5 := zi_inn (by omega) (by decide)
      have h44 : (4 : Nat) ∈ [4] := by decide
      unfold f_X2_takesFar_J110 f_X2_takesFar_J122 f_X2_takesFar_J152
      simp only [olet_iff, zi_succ, zm_g21 d, zm_r21 d h44, zm_s21 d h44, zi_clamp (show j < 2 ^ 31 by omega), hin, true_and, g2 j (Nat.le_refl j) (by omega)]
      unfold sp_loc1 at hz hfin
      by_cases c1 : (0 : Int32) ≤ y
      · simp only [if_pos c1] at hz hfin ⊢
        refine ⟨by decide, ?_⟩
        by_cases c2 : j % 2 ≠ 0
        · rw [if_pos ((zi_par (by omega)).mpr c2)]
          simp only [if_pos c2] at hz hfin
          rw [if_neg (fun e => e rfl)] at hz hfin ⊢
          exact ⟨hz.n64, hfin _ rfl⟩
        · rw [if_neg (fun e => c2 ((zi_par (by omega)).mp e))]
          simp only [if_neg c2] at hz hfin
          rw [if_pos (by decide)] at hz hfin ⊢
          exact ⟨hz.n64, hfin _ rfl⟩
      · simp only [if_neg c1] at hz hfin ⊢
        refine ⟨by decide, ?_⟩
        by_cases c2 : j % 2 ≠ 0
        · rw [if_pos ((zi_par (by omega)).mpr c2)]
          simp only [if_pos c2] at hz hfin
          rw [if_pos (by decide)] at hz hfin ⊢
          exact ⟨hz.n64, hfin _ rfl⟩
        · rw [if_neg (fun e => c2 ((zi_par (by omega)).mp e))]
          simp only [if_neg c2] at hz hfin
          rw [if_neg (fun e => e rfl)] at hz hfin ⊢
          exact ⟨hz.n64, hfin _ rfl⟩
  · obtain ⟨rfl, v, rfl, hs, g0, g1, g2⟩ := hp
    have hrow : v.2.1 1 = a := hs.row.trans ha
    unfold f_X2_takesFar_B16
    rw [e_a4 d, hrow, ho, if_pos (by rw [zi_lt (by omega) (by omega)]; omega)]
    exact hQ v hs g0 (fun j hj => g1 j (by omega))
theorem c_laysLocal (d : zm_d m) {a : Nat → Int32} (ha : w.2.1 1 = a) {n l o c i : Nat} (hr : zRow a n l o) (hc : 2 + c ≤ l) (hi : i < 2 ^ (2 + c)) {Q : zw_H → Prop} (hQ : ∀ v, zSl w v → (∀ j, j ≤ o → v.2.2.2 21 j = sp_row a n o c i j) → Q (zm_o m v h)) : f_X2_laysLocal K (some (m 0)) (Int32.ofNat (2 + c)) (Int32.ofNat i) (zm_o m w h) Q X := by
  have hr0 := hr
  obtain ⟨hn, h24, hl, h2, h5, ho, h4, -⟩ := hr
  have hi32 : i < 32 := Nat.lt_of_lt_of_le hi (zi_p5 (by omega))
  have h44 : (4 : Nat) ∈ [4] := by decide
  unfold f_X2_laysLocal
  refine zl2_inv (B := f_X2_laysLocal_B2 K Q X _ (some (m 0)) (Int32.ofNat (2 + c)) (Int32.ofNat i)) (fun j x hh => x = Int32.ofNat j ∧ ∃ v, hh = zm_o m v h ∧ zSl w v) (n := 5) (fun R j hj x hh hp hR => ?_) (fun R x hh hp => ?_) 5 zfu 0 (by omega) (by decide) _ _ ⟨rfl, w, rfl, zSl.refl w⟩
  · obtain ⟨rfl, v, rfl, hs⟩ := hp
    unfold f_X2_laysLocal_B2
    rw [if_neg (zi_c4 (by omega)), zm_g21 d, zm_s21 d h44]
    refine ⟨zi_inn (by omega) (by decide), ?_⟩
    simp only [olet_iff, zi_succ]
    exact hR _ _ ⟨rfl, _, rfl, hs.ad 21 _⟩
  · obtain ⟨rfl, v, rfl, hs⟩ := hp
    unfold f_X2_laysLocal_B2
    rw [if_pos zi_c5]
    refine zl2_inv (B := f_X2_laysLocal_B22 K Q X _ (some (m 0)) (Int32.ofNat (2 + c)) (Int32.ofNat i)) (fun e x hh => x = Int32.ofNat (2 + e) ∧ ∃ v, hh = zm_o m v h ∧ zSl w v ∧ ∀ e', e' + 1 = e → ∀ j, j ≤ o → v.2.2.2 21 j = sp_row a n o e' (i / 2 ^ (c - e')) j) (n := c + 1) (fun R e he x hh hp hR => ?_) (fun R x hh hp => ?_) (c + 1) zfu 0 (by omega) (Nat.lt_of_le_of_lt (show c + 1 ≤ 5 by omega) (by decide)) _ _ ⟨rfl, v, rfl, hs, fun e' h => absurd h (Nat.succ_ne_zero e')⟩
    · obtain ⟨rfl, v, rfl, hs, hprev⟩ := hp
      unfold f_X2_laysLocal_B22
      rw [if_neg (by rw [zi_lt (by omega) (by omega)]; omega), ← Int32.ofNat_sub _ _ (show 2 + e ≤ 2 + c by omega), show 2 + c - (2 + e) = c - e by omega, zi_shr hi32 (by omega)]
      simp only [olet_iff]
      have hbx : i / 2 ^ (c - e) < 2 ^ (2 + e) := by
        rw [Nat.div_lt_iff_lt_mul (Nat.two_pow_pos _), ← Nat.pow_add, show 2 + e + (c - e) = 2 + c by omega]
        exact hi
      have hbx2 : ∀ e', e' + 1 = e → i / 2 ^ (c - e') = i / 2 ^ (c - e) / 2 := by
        intro e' he'
        rw [Nat.div_div_eq_div_mul, ← Nat.pow_succ, show (c - e).succ = c - e' by omega]
      generalize hf : i / 2 ^ (c - e) = f at hbx hbx2
      have hp32 := zi_p5 (show 2 + e ≤ 5 by omega)
      refine zl2_inv (B := f_X2_laysLocal_B37 K Q X _ (some (m 0)) (Int32.ofNat (2 + c)) (Int32.ofNat i) (Int32.ofNat (2 + e)) (Int32.ofNat f)) (fun j x hh => x = Int32.ofNat j ∧ ∃ u, hh = zm_o m u h ∧ zSl w u ∧ u.2.2.2 21 = v.2.2.2 21 ∧ ∀ p, p < j → u.2.2.2 22 p = v.2.2.2 21 p) (n := 5) (fun R2 j hj x hh hp hR2 => ?_) (fun R2 x hh hp => ?_) 5 zfu 0 (by omega) (by decide) _ _ ⟨rfl, v, rfl, hs, rfl, fun p hp => absurd hp (Nat.not_lt_zero p)⟩
      · obtain ⟨rfl, u, rfl, hu, k1, k2⟩ := hp
        unfold f_X2_laysLocal_B37
        rw [if_neg (zi_c4 (by omega)), zm_g22 d, zm_g21 d, zm_r21 d h44, zi_clamp (by omega)]
        refine ⟨zi_inn (by omega) (by decide), ?_⟩
        rw [zm_s22 d h44, zi_clamp (by omega)]
        refine ⟨zi_inn (by omega) (by decide), ?_⟩
        simp only [olet_iff, zi_succ]
        refine hR2 _ _ ⟨rfl, _, rfl, hu.ad 22 _, k1, fun p hp => ?_⟩
        show (if p = j then u.2.2.2 21 j else u.2.2.2 22 p) = _
        by_cases e1 : p = j
        · rw [if_pos e1, k1, e1]
        · rw [if_neg e1]
          exact k2 p (by omega)
      · obtain ⟨rfl, u, rfl, hu, k1, k2⟩ := hp
        unfold f_X2_laysLocal_B37
        rw [if_pos zi_c5]
        refine zl2_inv (B := f_X2_laysLocal_B66 K Q X _ (some (m 0)) (Int32.ofNat (2 + c)) (Int32.ofNat i) (Int32.ofNat (2 + e)) (Int32.ofNat f)) (fun j x hh => x = Int32.ofNat j ∧ ∃ u, hh = zm_o m u h ∧ zSl w u ∧ (∀ p, p < 5 → u.2.2.2 22 p = v.2.2.2 21 p) ∧ ∀ p, p < j → u.2.2.2 21 p = FP.dconst0) (n := 5) (fun R3 j hj x hh hp hR3 => ?_) (fun R3 x hh hp => ?_) 5 zfu 0 (by omega) (by decide) _ _ ⟨rfl, u, rfl, hu, k2, fun p hp => absurd hp (Nat.not_lt_zero p)⟩
        · obtain ⟨rfl, u, rfl, hu, k1, k2⟩ := hp
          unfold f_X2_laysLocal_B66
          rw [if_neg (zi_c4 (by omega)), zm_g21 d, zm_s21 d h44, zi_clamp (by omega)]
          refine ⟨zi_inn (by omega) (by decide), ?_⟩
          simp only [olet_iff, zi_succ]
          refine hR3 _ _ ⟨rfl, _, rfl, hu.ad 21 _, k1, fun p hp => ?_⟩
          show (if p = j then FP.dconst0 else u.2.2.2 21 p) = _
          by_cases e1 : p = j
          · rw [if_pos e1]
          · rw [if_neg e1]
            exact k2 p (by omega)
        · obtain ⟨rfl, u, rfl, hu, k1, k2⟩ := hp
          unfold f_X2_laysLocal_B66
          rw [if_pos zi_c5]
          have key : ∀ (s : Nat → UInt64) (S : Nat), 1150 ≤ S → S ≤ 2070 → (∀ j, j ≤ o → zBd (s j) S) → sp_row a n o e f = sp_rowF a n o (2 + e) f s (2 ^ (2 + e)) → ∀ t : zM, zSl w t → (∀ j, j ≤ o → t.2.2.2 21 j = s j) → f_X2_laysLocal_J98 K Q X R (fun h11 => Q h11) (some (m 0)) (Int32.ofNat (2 + c)) (Int32.ofNat i) (Int32.ofNat (2 + e)) (Int32.ofNat f) (zm_o m t h) := by
            intro s S hS hS2 hbs hrw t ht hts
            unfold f_X2_laysLocal_J98
            refine zl2_inv (B := f_X2_laysLocal_B101 K Q X _ (some (m 0)) (Int32.ofNat (2 + c)) (Int32.ofNat i) (Int32.ofNat (2 + e)) (Int32.ofNat f)) (fun q x hh => x = Int32.ofNat q ∧ ∃ u, hh = zm_o m u h ∧ zSl w u ∧ ∀ j, j ≤ o → u.2.2.2 21 j = sp_rowF a n o (2 + e) f s q j) (n := 2 ^ (2 + e)) (fun R4 q hq x hh hp hR4 => ?_) (fun R4 x hh hp => ?_) (2 ^ (2 + e)) zfu 0 (by omega) (Nat.lt_of_le_of_lt hp32 (by decide)) _ _ ⟨rfl, t, rfl, ht, hts⟩
            · obtain ⟨rfl, u, rfl, hu, k1⟩ := hp
              have hrow : u.2.1 1 = a := hu.row.trans ha
              unfold f_X2_laysLocal_B101 f_X2_laysLocal_J130
              rw [zi_shl (by omega), if_neg (by rw [zi_le (by omega) (by omega)]; omega), zm_c d]
              refine c_isFar d (n := n) (by rw [hrow]; exact hn) h24 (zi_wide0 (by omega)) ?_
              rw [hrow]
              by_cases g : zfarQ a n f (2 + e) q
              · rw [sp_bt ((zfarq_iff (by omega) (by omega)).mpr g), if_neg (by decide), zm_c d]
                refine c_takesFar d hrow hr0 (S := S + 8) (by omega) (zfar_bb (by omega) hbx hq g.1) (by omega) (by omega) (fun j hj => (zb_rowF (a := a) (n := n) h4 (show 2 + e ≤ 8 by omega) hbx hS hS2 hbs hj (c := q) (by omega)).mono (by unfold zcnt; omega)) k1 (fun u2 hu2 _ hu3 => ?_)
                simp only [olet_iff, zi_succ]
                have es : sp_rowF a n o (2 + e) f s (q + 1) = sp_takes a n o (2 + e) f q (sp_rowF a n o (2 + e) f s q) := if_pos g
                exact hR4 _ _ ⟨rfl, u2, rfl, hu.trans hu2, by rw [es]; exact hu3⟩
              · rw [sp_bf (fun e => g ((zfarq_iff (by omega) (by omega)).mp e)), if_pos rfl]
                simp only [olet_iff, zi_succ]
                have es : sp_rowF a n o (2 + e) f s (q + 1) = sp_rowF a n o (2 + e) f s q := if_neg g
                exact hR4 _ _ ⟨rfl, u, rfl, hu, by rw [es]; exact k1⟩
            · obtain ⟨rfl, u, rfl, hu, k1⟩ := hp
              unfold f_X2_laysLocal_B101
              rw [zi_shl (by omega), if_pos (by rw [zi_le (by omega) (by omega)]; omega)]
              simp only [olet_iff]
              refine hR _ _ ⟨by rw [zi_succ]; rfl, u, rfl, hu, fun e' he' j hj => ?_⟩
              have e3 : e' = e := by omega
              subst e3
              rw [hf, hrw]
              exact k1 j hj
          cases e with
          | zero =>
            dsimp only
            rw [if_pos (by decide)]
            exact key (fun _ => FP.dconst0) 1150 (by decide) (by decide) (fun _ _ => zBd.mono zBd_0 (by decide)) rfl u hu (fun j hj => k2 j (by omega))
          | succ e' =>
            have hf2 : f / 2 < 2 ^ (2 + e') := by
              rw [show 2 + (e' + 1) = 2 + e' + 1 by omega, Nat.pow_succ] at hbx
              omega
            have hA : ∀ q, q ≤ o → zBd (sp_row a n o e' (f / 2) q) (1158 + 189 * e') := fun q hq => zb_row (a := a) (n := n) h4 (by omega) hf2 hq
            dsimp only
            rw [if_neg (by rw [show (2 : Int32) = Int32.ofNat 2 from rfl, zi_le (by omega) (by omega)]; omega), zm_c d]
            refine c_takesAbove d (hu.row.trans ha) hr0 (A := sp_row a n o e' (f / 2)) (B := 1158 + 189 * e') (by omega) (by omega) hA (fun q hq => ?_) (fun q hq => k2 q (by omega)) (fun t ht ht2 => ?_)
            · rw [k1 q (by omega), hprev e' rfl q hq, hbx2 e' rfl]
            · exact key (fun j => sp_ab (sp_aby (2 + (e' + 1)) f) (sp_row a n o e' (f / 2)) j (o + 1 - j)) (1158 + 189 * e' + 181) (by omega) (by omega) (fun j hj => (zb_ab (j := j) (zBd_i2d _) h4 (by omega) (by omega) hA (c := o + 1 - j) (by omega)).mono (by omega)) rfl t (hu.trans ht) ht2
    · obtain ⟨rfl, v, rfl, hs, hprev⟩ := hp
      unfold f_X2_laysLocal_B22
      rw [if_pos (by rw [zi_lt (by omega) (by omega)]; omega)]
      refine hQ v hs (fun j hj => ?_)
      rw [hprev c rfl j hj, Nat.sub_self, Nat.pow_zero, Nat.div_one]
end ZM16
