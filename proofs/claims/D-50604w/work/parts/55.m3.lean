set_option maxRecDepth 100000
/-! first ones; moments; charges -/
def zfirst (p : Nat → Bool) : Nat → Nat
  | 0 => 0
  | n + 1 => if zfirst p n < n then zfirst p n else if p n then n else n + 1
theorem zfirst_le (p : Nat → Bool) : ∀ n, zfirst p n ≤ n
  | 0 => Nat.le_refl _
  | n + 1 => by
    have := zfirst_le p n
    unfold zfirst
    split
    · omega
    · split <;> omega
theorem zfirst_no (p : Nat → Bool) : ∀ n b, b < zfirst p n → p b = false
  | 0, b, h => absurd h (Nat.not_lt_zero b)
  | n + 1, b, h => by
    have h1 := zfirst_no p n
    have h2 := zfirst_le p n
    unfold zfirst at h
    split at h
    · exact h1 b h
    · rename_i g
      split at h
      · exact h1 b (by omega)
      · rename_i g2
        rcases Nat.lt_or_ge b n with g3 | g3
        · exact h1 b (by omega)
        · have e : b = n := by omega
          subst e
          exact Bool.eq_false_iff.mpr g2
theorem zfirst_yes (p : Nat → Bool) : ∀ n, zfirst p n < n → p (zfirst p n) = true
  | 0, h => absurd h (Nat.not_lt_zero _)
  | n + 1, h => by
    have h1 := zfirst_yes p n
    unfold zfirst at h ⊢
    split
    · rename_i g
      exact h1 g
    · rename_i g
      rw [if_neg g] at h
      split
      · assumption
      · rename_i g2
        rw [if_neg g2] at h
        omega
section ZM3
variable {m : Nat → Nat} {w : zM} {h : zw_H} {K : Nat → Option Nat} {X : String → Nat → zw_H → Prop}
def sp_at (a : Nat → Int32) (n : Nat) (x : Int32) : Nat := zfirst (fun b => decide (a (7 + 4 * b) = x)) n
def sp_firstAt (a : Nat → Int32) (n : Nat) (x : Int32) : Int32 := if sp_at a n x < n then Int32.ofNat (sp_at a n x) else -1
theorem c_firstAt (d : zm_d m) {n : Nat} (hn : w.2.1 1 0 = Int32.ofNat n) (h24 : n ≤ 24) {x : Int32} {Q : Int32 → zw_H → Prop} (hQ : Q (sp_firstAt (w.2.1 1) n x) (zm_o m w h)) : f_X2_firstAt K (some (m 0)) x (zm_o m w h) Q X := by
  unfold f_X2_firstAt
  have hle := zfirst_le (fun b => decide (w.2.1 1 (7 + 4 * b) = x)) n
  have hle : sp_at (w.2.1 1) n x ≤ n := hle
  have key := zl2_run (B := f_X2_firstAt_B2 K Q X (fun v5 h2 => Q v5 h2) (fun h3 => Q (-1) h3) (some (m 0)) x) (fun b => Int32.ofNat b) (fun _ => zm_o m w h) (n := sp_at (w.2.1 1) n x) (fun R b hb hR => ?_) (fun R => ?_) (sp_at (w.2.1 1) n x) zfu 0 (by omega) (Nat.lt_of_le_of_lt (Nat.le_trans hle h24) (by decide))
  · exact key
  · unfold f_X2_firstAt_B2
    have h1 : ¬ w.2.1 1 (7 + 4 * b) = x := of_decide_eq_false (zfirst_no _ n b hb)
    rw [e_n d hn, if_neg (by rw [zi_le (by omega) (by omega)]; omega), zm_c d, e_of0 d (by omega), if_pos h1]
    simp only [olet_iff, zi_succ]
    exact hR
  · unfold f_X2_firstAt_B2
    unfold sp_firstAt at hQ
    by_cases g : sp_at (w.2.1 1) n x < n
    · have h1 : w.2.1 1 (7 + 4 * sp_at (w.2.1 1) n x) = x := of_decide_eq_true (zfirst_yes (fun b => decide (w.2.1 1 (7 + 4 * b) = x)) n g)
      rw [if_pos g] at hQ
      rw [e_n d hn, if_neg (by rw [zi_le (by omega) (by omega)]; omega), zm_c d, e_of0 d (by omega), if_neg (fun e => e h1)]
      exact hQ
    · rw [if_neg g] at hQ
      rw [e_n d hn, if_pos (by rw [zi_le (by omega) (by omega)]; omega)]
      exact hQ
def sp_moment (a : Nat → Int32) (n : Nat) (l i : Int32) (k : Nat) : Int64 := zacc (fun b s => if a (7 + 4 * b) / sp_wide l = i then s + (a (7 + 4 * b + 1)).toInt64 * sp_power ((a (7 + 4 * b) - sp_centre l i).toInt64) k else s) 0 n
theorem c_momentOf (d : zm_d m) {n : Nat} (hn : w.2.1 1 0 = Int32.ofNat n) (h24 : n ≤ 24) {l i : Int32} {k : Nat} (hk : k < 900) (hl : sp_wide l ≠ 0) {Q : Int64 → zw_H → Prop} (hQ : Q (sp_moment (w.2.1 1) n l i k) (zm_o m w h)) : f_X2_momentOf K (some (m 0)) l i (Int32.ofNat k) (zm_o m w h) Q X := by
  unfold f_X2_momentOf
  have key := zl3_run (B := f_X2_momentOf_B6 K Q X (fun v7 h3 => Q v7 h3) (some (m 0)) l i (Int32.ofNat k)) (fun b => sp_moment (w.2.1 1) b l i k) (fun b => Int32.ofNat b) (fun _ => zm_o m w h) (n := n) (fun R b hb hR => ?_) (fun R => ?_) n zfu 0 (by omega) (Nat.lt_of_le_of_lt h24 (by decide))
  · exact key
  · unfold f_X2_momentOf_B6 f_X2_momentOf_J60
    rw [e_n d hn, if_neg (by rw [zi_le (by omega) (by omega)]; omega), zm_c d, e_isInN d (by omega) hl]
    by_cases g : w.2.1 1 (7 + 4 * b) / sp_wide l = i
    · rw [sp_bt g, if_neg (by decide), zm_c d, e_of1 d (by omega), zm_c d, e_of0 d (by omega), e_centre]
      refine c_power hk ?_
      simp only [olet_iff, zi_succ]
      have e : sp_moment (w.2.1 1) (b + 1) l i k = sp_moment (w.2.1 1) b l i k + (w.2.1 1 (7 + 4 * b + 1)).toInt64 * sp_power ((w.2.1 1 (7 + 4 * b) - sp_centre l i).toInt64) k := if_pos g
      rw [e] at hR
      exact hR
    · rw [sp_bf g, if_pos rfl]
      simp only [olet_iff, zi_succ]
      have e : sp_moment (w.2.1 1) (b + 1) l i k = sp_moment (w.2.1 1) b l i k := if_neg g
      rw [e] at hR
      exact hR
  · unfold f_X2_momentOf_B6
    rw [e_n d hn, if_pos (by rw [zi_le (by omega) (by omega)]; omega)]
    exact hQ
end ZM3
