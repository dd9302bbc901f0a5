set_option maxRecDepth 100000
section ZM7
variable {m : Nat → Nat} {w : zM} {h : zw_H} {K : Nat → Option Nat} {X : String → Nat → zw_H → Prop}
theorem zi_sub0 {a b : Int32} (e : a - b = 0) : a = b := by
  have g := Int32.sub_add_cancel a b
  rw [e, Int32.zero_add] at g
  exact g.symm
theorem sp_far_ne {u x : Int32} (e : u ≠ x) : sp_far u x ≠ 0 := by
  unfold sp_far
  split
  · exact fun g => e (zi_sub0 g)
  · exact fun g => e (zi_sub0 g).symm
/-- one body's share in a sum -/
def sp_share (a : Nat → Int32) (x : Int32) (b : Nat) : UInt64 := FP.ddiv (FP.i2d (a (7 + 4 * b + 1))) (FP.i2d (sp_far (a (7 + 4 * b)) x))
def sp_sumOf (a : Nat → Int32) (x all but : Int32) (n : Nat) : UInt64 := zacc (fun b s => if Int32.ofNat b = but then s else if a (7 + 4 * b) = x then s else if all ≠ 0 then FP.dadd s (sp_share a x b) else if sp_far (a (7 + 4 * b) / sp_wide (a 3)) (x / sp_wide (a 3)) ≤ 1 then FP.dadd s (sp_share a x b) else s) FP.dconst0 n
theorem zb_share {a : Nat → Int32} {x : Int32} {b : Nat} (e : a (7 + 4 * b) ≠ x) : zBd (sp_share a x b) 1108 := zBd_div (zBd_i2d _) (zBd_i2d _) (zLb_i2d (sp_far_ne e)) (by decide)
theorem zb_sumOf {a : Nat → Int32} {x all but : Int32} : ∀ {n : Nat}, n ≤ 24 → zBd (sp_sumOf a x all but n) (1108 + 2 * n)
  | 0, _ => zBd.mono zBd_0 (by decide)
  | n + 1, hn => by
    have ih := zb_sumOf (a := a) (x := x) (all := all) (but := but) (n := n) (by omega)
    have hk : zBd (sp_sumOf a x all but n) (1108 + 2 * (n + 1)) := zBd.mono ih (by omega)
    show zBd (if Int32.ofNat n = but then sp_sumOf a x all but n else if a (7 + 4 * n) = x then sp_sumOf a x all but n else if all ≠ 0 then FP.dadd (sp_sumOf a x all but n) (sp_share a x n) else if sp_far (a (7 + 4 * n) / sp_wide (a 3)) (x / sp_wide (a 3)) ≤ 1 then FP.dadd (sp_sumOf a x all but n) (sp_share a x n) else sp_sumOf a x all but n) _
    split
    · exact hk
    · split
      · exact hk
      · rename_i g
        have ha : zBd (FP.dadd (sp_sumOf a x all but n) (sp_share a x n)) (1108 + 2 * (n + 1)) := zBd.mono (zBd_add (K := 1108 + 2 * n) ih (zBd.mono (zb_share g) (by omega)) (by omega)) (by omega)
        split
        · exact ha
        · split
          · exact ha
          · exact hk
theorem c_sumOf (d : zm_d m) {n : Nat} (hn : w.2.1 1 0 = Int32.ofNat n) (h24 : n ≤ 24) (hl : sp_wide (w.2.1 1 3) ≠ 0) {x all but : Int32} {Q : UInt64 → zw_H → Prop} (hQ : Q (sp_sumOf (w.2.1 1) x all but n) (zm_o m w h)) : f_X2_sumOf K (some (m 0)) x all but (zm_o m w h) Q X := by
  unfold f_X2_sumOf
  have key := zl3_run (B := f_X2_sumOf_B6 K Q X (fun v7 h3 => Q v7 h3) (some (m 0)) x all but) (fun b => sp_sumOf (w.2.1 1) x all but b) (fun b => Int32.ofNat b) (fun _ => zm_o m w h) (n := n) (fun R b hb hR => ?_) (fun R => ?_) n zfu 0 (by omega) (Nat.lt_of_le_of_lt h24 (by decide))
  · exact key
  · unfold f_X2_sumOf_B6 f_X2_sumOf_J51 f_X2_sumOf_J77
    have es : sp_sumOf (w.2.1 1) x all but (b + 1) = (if Int32.ofNat b = but then sp_sumOf (w.2.1 1) x all but b else if w.2.1 1 (7 + 4 * b) = x then sp_sumOf (w.2.1 1) x all but b else if all ≠ 0 then FP.dadd (sp_sumOf (w.2.1 1) x all but b) (sp_share (w.2.1 1) x b) else if sp_far (w.2.1 1 (7 + 4 * b) / sp_wide (w.2.1 1 3)) (x / sp_wide (w.2.1 1 3)) ≤ 1 then FP.dadd (sp_sumOf (w.2.1 1) x all but b) (sp_share (w.2.1 1) x b) else sp_sumOf (w.2.1 1) x all but b) := rfl
    rw [es] at hR
    have hb24 : b < 24 := by omega
    rw [e_n d hn, if_neg (by rw [zi_le (by omega) (by omega)]; omega)]
    simp only [olet_iff, zi_succ, zm_c d, e_of0 d hb24, e_of1 d hb24, e_far, e_isNear d hb24 hl]
    by_cases g1 : Int32.ofNat b = but
    · rw [if_pos g1] at hR ⊢
      exact hR
    · rw [if_neg g1] at hR ⊢
      by_cases g2 : w.2.1 1 (7 + 4 * b) = x
      · rw [if_pos g2] at hR ⊢
        exact hR
      · rw [if_neg g2] at hR ⊢
        have n1 : vf_n64 (sp_share (w.2.1 1) x b) := (zb_share g2).n64
        have n2 : vf_n64 (FP.dadd (sp_sumOf (w.2.1 1) x all but b) (sp_share (w.2.1 1) x b)) := (zBd_add (K := 1108 + 2 * b) (zb_sumOf (by omega)) (zBd.mono (zb_share g2) (by omega)) (by omega)).n64
        by_cases g3 : all ≠ 0
        · rw [if_pos g3] at hR ⊢
          exact ⟨n1, n2, hR⟩
        · rw [if_neg g3] at hR ⊢
          by_cases g4 : sp_far (w.2.1 1 (7 + 4 * b) / sp_wide (w.2.1 1 3)) (x / sp_wide (w.2.1 1 3)) ≤ 1
          · rw [if_pos g4] at hR
            rw [sp_bt g4, if_pos (by decide)]
            exact ⟨n1, n2, hR⟩
          · rw [if_neg g4] at hR
            rw [sp_bf g4, if_neg (by decide)]
            exact hR
  · unfold f_X2_sumOf_B6
    rw [e_n d hn, if_pos (by rw [zi_le (by omega) (by omega)]; omega)]
    exact hQ
end ZM7
