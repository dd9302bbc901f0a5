set_option maxRecDepth 100000
section ZM9
variable {m : Nat → Nat} {w : zM} {h : zw_H} {K : Nat → Option Nat} {X : String → Nat → zw_H → Prop}
def sp_valS (a : Nat → Int32) (n : Nat) (l i : Int32) (y : UInt64) (o : Nat) : UInt64 := zacc (fun k s => FP.dadd s (FP.ddiv (FP.l2d (sp_moment a n l i k)) (sp_times y y k))) FP.dconst0 o
def sp_value (a : Nat → Int32) (n : Nat) (l i : Int32) (y : Int32) (o : Nat) : UInt64 := if 0 ≤ y then sp_valS a n l i (FP.i2d y) (o + 1) else FP.dsub FP.dconst0 (sp_valS a n l i (FP.i2d y) (o + 1))
theorem zb_valS {a : Nat → Int32} {n : Nat} {l i : Int32} {y : UInt64} (hy : zBd y 1107) (ly : zLb y) : ∀ {o : Nat}, o ≤ 5 → zBd (sp_valS a n l i y o) (1140 + 2 * o)
  | 0, _ => zBd.mono zBd_0 (by decide)
  | o + 1, ho => by
    have ih := zb_valS (a := a) (n := n) (l := l) (i := i) hy ly (o := o) (by omega)
    have h1 : zBd (FP.ddiv (FP.l2d (sp_moment a n l i o)) (sp_times y y o)) 1140 := zBd_div (K := 1139) (zBd_l2d _) (zb_times hy hy (k := o) (by omega)) (zl_times hy hy ly ly (k := o) (by omega)) (by decide)
    exact zBd.mono (zBd_add (K := 1140 + 2 * o) ih (zBd.mono h1 (by omega)) (by omega)) (by omega)
theorem zb_value {a : Nat → Int32} {n : Nat} {l i y : Int32} (hy : y ≠ 0) {o : Nat} (ho : o ≤ 4) : zBd (sp_value a n l i y o) 1152 := by
  have h1 := zb_valS (a := a) (n := n) (l := l) (i := i) (zBd_i2d y) (zLb_i2d hy) (o := o + 1) (by omega)
  unfold sp_value
  split
  · exact zBd.mono h1 (by omega)
  · exact zBd_sub (K := 1150) (zBd.mono zBd_0 (by decide)) (zBd.mono h1 (by omega)) (by decide)
theorem e_a4 (d : zm_d m) (F : Int32 → Prop) : og_A (zm_o m w h) (some (m 0)) [0] 1 (fun v1 => oa_I (zm_o m w h) v1 [0, 11] 4 F) = F (w.2.1 1 4) := by
  rw [zm_g1 d, zm_r1 d (by decide), show (4 : Int32).toNatClampNeg = 4 from rfl]
  exact propext ⟨fun g => g.2, fun g => ⟨zi_inn (a := 4) (by decide) (by decide), g⟩⟩
theorem c_valueOf (d : zm_d m) {n o : Nat} (hn : w.2.1 1 0 = Int32.ofNat n) (h24 : n ≤ 24) (ho : w.2.1 1 4 = Int32.ofNat o) (h4 : o ≤ 4) {l i x : Int32} (hl : sp_wide l ≠ 0) (hx : x - sp_centre l i ≠ 0) {Q : UInt64 → zw_H → Prop} (hQ : Q (sp_value (w.2.1 1) n l i (x - sp_centre l i) o) (zm_o m w h)) : f_X2_valueOf K (some (m 0)) l i x (zm_o m w h) Q X := by
  unfold f_X2_valueOf
  rw [e_centre]
  simp only [olet_iff]
  generalize x - sp_centre l i = y at hx hQ
  have hy := zBd_i2d y
  have ly := zLb_i2d hx
  refine zl4_run (B := f_X2_valueOf_B20 K Q X _ (some (m 0)) l i y) (fun b => sp_valS (w.2.1 1) n l i (FP.i2d y) b) (fun b => sp_times (FP.i2d y) (FP.i2d y) b) (fun b => Int32.ofNat b) (fun _ => zm_o m w h) (n := o + 1) (fun R b hb hR => ?_) (fun R => ?_) (o + 1) zfu 0 (by omega) (Nat.lt_of_le_of_lt (show o + 1 ≤ 5 by omega) (by decide))
  · unfold f_X2_valueOf_B20
    rw [e_a4 d, ho, if_neg (by rw [zi_lt (by omega) (by omega)]; omega), zm_c d]
    refine c_momentOf d hn h24 (by omega) hl ?_
    simp only [olet_iff, zi_succ]
    have h1 : zBd (FP.ddiv (FP.l2d (sp_moment (w.2.1 1) n l i b)) (sp_times (FP.i2d y) (FP.i2d y) b)) 1140 := zBd_div (K := 1139) (zBd_l2d _) (zb_times hy hy (k := b) (by omega)) (zl_times hy hy ly ly (k := b) (by omega)) (by decide)
    exact ⟨h1.n64, (zb_valS (a := w.2.1 1) (n := n) (l := l) (i := i) hy ly (o := b + 1) (by omega)).n64, (zb_times hy hy (k := b + 1) (by omega)).n64, hR⟩
  · unfold f_X2_valueOf_B20
    rw [e_a4 d, ho, if_pos (by rw [zi_lt (by omega) (by omega)]; omega)]
    unfold sp_value at hQ
    split
    · rename_i g
      rw [if_pos g] at hQ
      exact hQ
    · rename_i g
      rw [if_neg g] at hQ
      have hz := zb_value (a := w.2.1 1) (n := n) (l := l) (i := i) hx h4
      unfold sp_value at hz
      rw [if_neg g] at hz
      exact ⟨hz.n64, hQ⟩
end ZM9
