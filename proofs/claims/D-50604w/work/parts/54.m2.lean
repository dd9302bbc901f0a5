set_option maxRecDepth 100000
/-! the reference's loops over the bodies -/
section ZM2
variable {m : Nat → Nat} {w : zM} {h : zw_H} {K : Nat → Option Nat} {X : String → Nat → zw_H → Prop}
theorem e_n (d : zm_d m) {n : Nat} (hn : w.2.1 1 0 = Int32.ofNat n) (F : Int32 → Prop) : og_A (zm_o m w h) (some (m 0)) [0] 1 (fun v1 => oa_I (zm_o m w h) v1 [0, 11] 0 F) = F (Int32.ofNat n) := by
  rw [zm_g1 d, zm_r1 d (by decide), show (0 : Int32).toNatClampNeg = 0 from rfl, hn]
  exact propext ⟨fun g => g.2, fun g => ⟨zi_inn (a := 0) (by decide) (by decide), g⟩⟩
theorem e_a3 (d : zm_d m) (F : Int32 → Prop) : og_A (zm_o m w h) (some (m 0)) [0] 1 (fun v1 => oa_I (zm_o m w h) v1 [0, 11] 3 F) = F (w.2.1 1 3) := by
  rw [zm_g1 d, zm_r1 d (by decide), show (3 : Int32).toNatClampNeg = 3 from rfl]
  exact propext ⟨fun g => g.2, fun g => ⟨zi_inn (a := 3) (by decide) (by decide), g⟩⟩
theorem e_ofN (d : zm_d m) {b k : Nat} (hb : b < 24) (hk : k < 4) {Q : Int32 → zw_H → Prop} : f_X2_of K (some (m 0)) (Int32.ofNat b) (Int32.ofNat k) (zm_o m w h) Q X = Q (w.2.1 1 (7 + 4 * b + k)) (zm_o m w h) := by
  rw [e_of d, zi_ix, zi_clamp (by omega)]
  exact propext ⟨fun g => g.2, fun g => ⟨zi_inn (by omega) (by decide), g⟩⟩
theorem e_of0 (d : zm_d m) {b : Nat} (hb : b < 24) {Q : Int32 → zw_H → Prop} : f_X2_of K (some (m 0)) (Int32.ofNat b) 0 (zm_o m w h) Q X = Q (w.2.1 1 (7 + 4 * b)) (zm_o m w h) := e_ofN d hb (k := 0) (by decide)
theorem e_of1 (d : zm_d m) {b : Nat} (hb : b < 24) {Q : Int32 → zw_H → Prop} : f_X2_of K (some (m 0)) (Int32.ofNat b) 1 (zm_o m w h) Q X = Q (w.2.1 1 (7 + 4 * b + 1)) (zm_o m w h) := e_ofN d hb (k := 1) (by decide)
theorem e_of2 (d : zm_d m) {b : Nat} (hb : b < 24) {Q : Int32 → zw_H → Prop} : f_X2_of K (some (m 0)) (Int32.ofNat b) 2 (zm_o m w h) Q X = Q (w.2.1 1 (7 + 4 * b + 2)) (zm_o m w h) := e_ofN d hb (k := 2) (by decide)
theorem e_of3 (d : zm_d m) {b : Nat} (hb : b < 24) {Q : Int32 → zw_H → Prop} : f_X2_of K (some (m 0)) (Int32.ofNat b) 3 (zm_o m w h) Q X = Q (w.2.1 1 (7 + 4 * b + 3)) (zm_o m w h) := e_ofN d hb (k := 3) (by decide)
theorem e_isInN (d : zm_d m) {b : Nat} (hb : b < 24) {l i : Int32} (hl : sp_wide l ≠ 0) {Q : Int32 → zw_H → Prop} : f_X2_isIn K (some (m 0)) (Int32.ofNat b) l i (zm_o m w h) Q X = Q (sp_b (w.2.1 1 (7 + 4 * b) / sp_wide l = i)) (zm_o m w h) := by
  rw [e_isIn d, show ((7 : Int32) + 4 * Int32.ofNat b) + 0 = Int32.ofNat (7 + 4 * b) from zi_ix (k := 0), zi_clamp (by omega)]
  exact propext ⟨fun g => g.2.2, fun g => ⟨zi_inn (by omega) (by decide), hl, g⟩⟩
def sp_near (a : Nat → Int32) (x y : Int32) : Prop := sp_far (x / sp_wide (a 3)) (y / sp_wide (a 3)) ≤ 1
theorem e_isNear (d : zm_d m) {b : Nat} (hb : b < 24) (hl : sp_wide (w.2.1 1 3) ≠ 0) {x : Int32} {Q : Int32 → zw_H → Prop} : f_X2_isNear K (some (m 0)) (Int32.ofNat b) x (zm_o m w h) Q X = Q (sp_b (sp_far (w.2.1 1 (7 + 4 * b) / sp_wide (w.2.1 1 3)) (x / sp_wide (w.2.1 1 3)) ≤ 1)) (zm_o m w h) := by
  unfold f_X2_isNear
  rw [e_a3 d, zm_c d, e_of0 d hb, e_boxOf, e_a3 d, e_boxOf, e_far]
  refine propext ⟨fun g => ?_, fun g => ⟨hl, hl, ?_⟩⟩
  · obtain ⟨-, -, g⟩ := g
    split at g
    · rename_i h1
      rw [sp_bf (Int32.not_le.mpr h1)]
      exact g
    · rename_i h1
      rw [sp_bt (Int32.not_lt.mp h1)]
      exact g
  · split
    · rename_i h1
      rw [sp_bf (Int32.not_le.mpr h1)] at g
      exact g
    · rename_i h1
      rw [sp_bt (Int32.not_lt.mp h1)] at g
      exact g
def sp_nearAll (a : Nat → Int32) (n : Nat) (x : Int32) : Int32 := zacc (fun b s => s + sp_b (sp_far (a (7 + 4 * b) / sp_wide (a 3)) (x / sp_wide (a 3)) ≤ 1)) 0 n
theorem c_nearAll (d : zm_d m) {n : Nat} (hn : w.2.1 1 0 = Int32.ofNat n) (h24 : n ≤ 24) (hl : sp_wide (w.2.1 1 3) ≠ 0) {x : Int32} {Q : Int32 → zw_H → Prop} (hQ : Q (sp_nearAll (w.2.1 1) n x) (zm_o m w h)) : f_X2_nearAll K (some (m 0)) x (zm_o m w h) Q X := by
  unfold f_X2_nearAll
  have key := zl3_run (B := f_X2_nearAll_B4 K Q X (fun v7 h3 => Q v7 h3) (some (m 0)) x) (fun b => zacc (fun b s => s + sp_b (sp_far (w.2.1 1 (7 + 4 * b) / sp_wide (w.2.1 1 3)) (x / sp_wide (w.2.1 1 3)) ≤ 1)) 0 b) (fun b => Int32.ofNat b) (fun _ => zm_o m w h) (n := n) (fun R b hb hR => ?_) (fun R => ?_) n zfu 0 (by omega) (Nat.lt_of_le_of_lt h24 (by decide))
  · exact key
  · unfold f_X2_nearAll_B4
    rw [e_n d hn, if_neg (by rw [zi_le (by omega) (by omega)]; omega), zm_c d, e_isNear d (by omega) hl, e_one]
    simp only [olet_iff, zi_succ]
    rw [sp_cong (q := sp_far (w.2.1 1 (7 + 4 * b) / sp_wide (w.2.1 1 3)) (x / sp_wide (w.2.1 1 3)) ≤ 1) (by rw [ne_eq, sp_b0, Classical.not_not])]
    exact hR
  · unfold f_X2_nearAll_B4
    rw [e_n d hn, if_pos (by rw [zi_le (by omega) (by omega)]; omega)]
    exact hQ
def sp_fixedMany (a : Nat → Int32) (n : Nat) : Int32 := zacc (fun b s => s + a (7 + 4 * b + 2)) 0 n
theorem c_fixedMany (d : zm_d m) {n : Nat} (hn : w.2.1 1 0 = Int32.ofNat n) (h24 : n ≤ 24) {Q : Int32 → zw_H → Prop} (hQ : Q (sp_fixedMany (w.2.1 1) n) (zm_o m w h)) : f_X2_fixedMany K (some (m 0)) (zm_o m w h) Q X := by
  unfold f_X2_fixedMany
  have key := zl3_run (B := f_X2_fixedMany_B4 K Q X (fun v7 h3 => Q v7 h3) (some (m 0))) (fun b => zacc (fun b s => s + w.2.1 1 (7 + 4 * b + 2)) 0 b) (fun b => Int32.ofNat b) (fun _ => zm_o m w h) (n := n) (fun R b hb hR => ?_) (fun R => ?_) n zfu 0 (by omega) (Nat.lt_of_le_of_lt h24 (by decide))
  · exact key
  · unfold f_X2_fixedMany_B4
    rw [e_n d hn, if_neg (by rw [zi_le (by omega) (by omega)]; omega), zm_c d, e_of2 d (by omega)]
    simp only [olet_iff, zi_succ]
    exact hR
  · unfold f_X2_fixedMany_B4
    rw [e_n d hn, if_pos (by rw [zi_le (by omega) (by omega)]; omega)]
    exact hQ
def sp_power (p : Int64) (k : Nat) : Int64 := zacc (fun _ s => s * p) 1 k
theorem c_power {p : Int64} {k : Nat} (hk : k < 900) {Q : Int64 → zw_H → Prop} (hQ : Q (sp_power p k) h) : f_X2_power K p (Int32.ofNat k) h Q X := by
  unfold f_X2_power
  have key := zl3_run (B := f_X2_power_B5 K Q X (fun v7 h3 => Q v7 h3) p (Int32.ofNat k)) (fun b => zacc (fun _ s => s * p) 1 b) (fun b => Int32.ofNat b) (fun _ => h) (n := k) (fun R b hb hR => ?_) (fun R => ?_) k zfu 0 (by omega) (Nat.lt_of_lt_of_le hk (by decide))
  · exact key
  · unfold f_X2_power_B5
    rw [if_neg (by rw [zi_le (by omega) (by omega)]; omega)]
    simp only [olet_iff, zi_succ]
    exact hR
  · unfold f_X2_power_B5
    rw [if_pos (by rw [zi_le (by omega) (by omega)]; omega)]
    exact hQ
end ZM2
