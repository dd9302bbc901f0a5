set_option maxRecDepth 100000
section ZM4
variable {m : Nat → Nat} {w : zM} {h : zw_H} {K : Nat → Option Nat} {X : String → Nat → zw_H → Prop}
def sp_charge (a : Nat → Int32) (n : Nat) (l i f : Int32) : Int32 := zacc (fun b s => if a (7 + 4 * b) / sp_wide l = i then s + (if f = 0 then a (7 + 4 * b + 1) else sp_far (a (7 + 4 * b + 1)) 0) else s) 0 n
theorem c_charge (d : zm_d m) {n : Nat} (hn : w.2.1 1 0 = Int32.ofNat n) (h24 : n ≤ 24) {l i f : Int32} (hl : sp_wide l ≠ 0) {Q : Int32 → zw_H → Prop} (hQ : Q (sp_charge (w.2.1 1) n l i f) (zm_o m w h)) : f_X2_charge K (some (m 0)) l i f (zm_o m w h) Q X := by
  unfold f_X2_charge
  have key := zl3_run (B := f_X2_charge_B6 K Q X (fun v7 h3 => Q v7 h3) (some (m 0)) l i f) (fun b => sp_charge (w.2.1 1) b l i f) (fun b => Int32.ofNat b) (fun _ => zm_o m w h) (n := n) (fun R b hb hR => ?_) (fun R => ?_) n zfu 0 (by omega) (Nat.lt_of_le_of_lt h24 (by decide))
  · exact key
  · unfold f_X2_charge_B6 f_X2_charge_J58 f_X2_charge_J61
    rw [e_n d hn, if_neg (by rw [zi_le (by omega) (by omega)]; omega), zm_c d, e_isInN d (by omega) hl]
    by_cases g : w.2.1 1 (7 + 4 * b) / sp_wide l = i
    · have e : sp_charge (w.2.1 1) (b + 1) l i f = sp_charge (w.2.1 1) b l i f + (if f = 0 then w.2.1 1 (7 + 4 * b + 1) else sp_far (w.2.1 1 (7 + 4 * b + 1)) 0) := if_pos g
      rw [sp_bt g, if_pos (by decide)]
      by_cases g2 : f = 0
      · rw [if_pos g2, zm_c d, e_of1 d (by omega)]
        simp only [olet_iff, zi_succ]
        rw [e, if_pos g2] at hR
        exact hR
      · rw [if_neg g2, zm_c d, e_of1 d (by omega), e_far]
        simp only [olet_iff, zi_succ]
        rw [e, if_neg g2] at hR
        exact hR
    · have e : sp_charge (w.2.1 1) (b + 1) l i f = sp_charge (w.2.1 1) b l i f := if_neg g
      rw [sp_bf g, if_neg (by decide)]
      simp only [olet_iff, zi_succ]
      rw [e] at hR
      exact hR
  · unfold f_X2_charge_B6
    rw [e_n d hn, if_pos (by rw [zi_le (by omega) (by omega)]; omega)]
    exact hQ
/-- whether a box is on the far list of a box of its level -/
def sp_isFar (a : Nat → Int32) (n : Nat) (l i f : Int32) : Prop := 1 < sp_far i f ∧ sp_far (i / 2) (f / 2) ≤ 1 ∧ 0 < sp_bodiesIn a n l i
theorem c_isFar (d : zm_d m) {n : Nat} (hn : w.2.1 1 0 = Int32.ofNat n) (h24 : n ≤ 24) {l i f : Int32} (hl : sp_wide l ≠ 0) {Q : Int32 → zw_H → Prop} (hQ : Q (sp_b (1 < sp_far i f ∧ sp_far (i / 2) (f / 2) ≤ 1 ∧ 0 < sp_bodiesIn (w.2.1 1) n l i)) (zm_o m w h)) : f_X2_isFar K (some (m 0)) l i f (zm_o m w h) Q X := by
  unfold f_X2_isFar
  rw [e_far]
  split
  · rename_i h1
    rw [sp_bf (fun e => Int32.not_le.mpr e.1 h1)] at hQ
    exact hQ
  · rename_i h1
    refine ⟨by decide, by decide, ?_⟩
    rw [e_far]
    split
    · rename_i h2
      rw [sp_bf (fun e => Int32.not_le.mpr h2 e.2.1)] at hQ
      exact hQ
    · rename_i h2
      rw [zm_c d]
      refine c_bodiesIn d hn h24 hl ?_
      split
      · rename_i h3
        rw [sp_bf (fun e => Int32.not_le.mpr e.2.2 h3)] at hQ
        exact hQ
      · rename_i h3
        rw [sp_bt ⟨Int32.not_le.mp h1, Int32.not_lt.mp h2, Int32.not_le.mp h3⟩] at hQ
        exact hQ
def sp_fixedAt (a : Nat → Int32) (n : Nat) (x : Int32) : Nat := zfirst (fun b => decide (a (7 + 4 * b + 2) = 1 ∧ a (7 + 4 * b) = x)) n
theorem c_isFixedAt (d : zm_d m) {n : Nat} (hn : w.2.1 1 0 = Int32.ofNat n) (h24 : n ≤ 24) {x : Int32} {Q : Int32 → zw_H → Prop} (hQ : Q (sp_b (sp_fixedAt (w.2.1 1) n x < n)) (zm_o m w h)) : f_X2_isFixedAt K (some (m 0)) x (zm_o m w h) Q X := by
  unfold f_X2_isFixedAt
  have hle : sp_fixedAt (w.2.1 1) n x ≤ n := zfirst_le _ n
  have key := zl2_run (B := f_X2_isFixedAt_B2 K Q X (fun h3 => Q 1 h3) (fun h4 => Q 0 h4) (some (m 0)) x) (fun b => Int32.ofNat b) (fun _ => zm_o m w h) (n := sp_fixedAt (w.2.1 1) n x) (fun R b hb hR => ?_) (fun R => ?_) (sp_fixedAt (w.2.1 1) n x) zfu 0 (by omega) (Nat.lt_of_le_of_lt (Nat.le_trans hle h24) (by decide))
  · exact key
  · unfold f_X2_isFixedAt_B2 f_X2_isFixedAt_J34
    have h1 : ¬ (w.2.1 1 (7 + 4 * b + 2) = 1 ∧ w.2.1 1 (7 + 4 * b) = x) := of_decide_eq_false (zfirst_no _ n b hb)
    rw [e_n d hn, if_neg (by rw [zi_le (by omega) (by omega)]; omega), zm_c d, e_of2 d (by omega)]
    by_cases g : w.2.1 1 (7 + 4 * b + 2) = 1
    · rw [if_neg (fun e => e g), zm_c d, e_of0 d (by omega), if_pos (fun e => h1 ⟨g, e⟩)]
      simp only [olet_iff, zi_succ]
      exact hR
    · rw [if_pos g]
      simp only [olet_iff, zi_succ]
      exact hR
  · unfold f_X2_isFixedAt_B2
    by_cases g : sp_fixedAt (w.2.1 1) n x < n
    · have h1 : w.2.1 1 (7 + 4 * sp_fixedAt (w.2.1 1) n x + 2) = 1 ∧ w.2.1 1 (7 + 4 * sp_fixedAt (w.2.1 1) n x) = x := of_decide_eq_true (zfirst_yes (fun b => decide (w.2.1 1 (7 + 4 * b + 2) = 1 ∧ w.2.1 1 (7 + 4 * b) = x)) n g)
      rw [sp_bt g] at hQ
      rw [e_n d hn, if_neg (by rw [zi_le (by omega) (by omega)]; omega), zm_c d, e_of2 d (by omega), if_neg (fun e => e h1.1), zm_c d, e_of0 d (by omega), if_neg (fun e => e h1.2)]
      exact hQ
    · rw [sp_bf g] at hQ
      rw [e_n d hn, if_pos (by rw [zi_le (by omega) (by omega)]; omega)]
      exact hQ
end ZM4
