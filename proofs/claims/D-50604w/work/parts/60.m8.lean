set_option maxRecDepth 100000
section ZM8
variable {m : Nat → Nat} {w : zM} {h : zw_H} {K : Nat → Option Nat} {X : String → Nat → zw_H → Prop}
def sp_times (a y : UInt64) (k : Nat) : UInt64 := zacc (fun _ s => FP.dmul s y) a k
theorem zb_times {a y : UInt64} {A : Nat} (ha : zBd a A) (hy : zBd y 1107) : ∀ {k : Nat}, A + 34 * k ≤ 2057 → zBd (sp_times a y k) (A + 34 * k)
  | 0, _ => ha
  | k + 1, hk => by
    have ih := zb_times ha hy (k := k) (by omega)
    have := zBd_mul (K := A + 34 * k) (K' := 1107) ih hy (by omega) (by omega)
    exact zBd.mono this (by omega)
theorem zl_times {a y : UInt64} {A : Nat} (ha : zBd a A) (hy : zBd y 1107) (la : zLb a) (ly : zLb y) : ∀ {k : Nat}, A + 34 * k ≤ 2057 → zLb (sp_times a y k)
  | 0, _ => la
  | k + 1, hk => zLb_mul (K := A + 34 * k) (K' := 1107) (zb_times ha hy (k := k) (by omega)) hy (zl_times ha hy la ly (k := k) (by omega)) ly (by omega) (by omega)
theorem c_times {a y : UInt64} {A k : Nat} (ha : zBd a A) (hy : zBd y 1107) (hk : A + 34 * k ≤ 2057) {Q : UInt64 → zw_H → Prop} (hQ : Q (sp_times a y k) h) : f_X2_times K a y (Int32.ofNat k) h Q X := by
  unfold f_X2_times
  have key := zl3_run (B := f_X2_times_B6 K Q X (fun v3 h1 => Q v3 h1) y (Int32.ofNat k)) (fun b => sp_times a y b) (fun b => Int32.ofNat b) (fun _ => h) (n := k) (fun R b hb hR => ?_) (fun R => ?_) k zfu 0 (by omega) (Nat.lt_of_lt_of_le (show k < 100 by omega) (by decide))
  · exact key
  · unfold f_X2_times_B6
    rw [if_neg (by rw [zi_le (by omega) (by omega)]; omega)]
    simp only [olet_iff, zi_succ]
    exact ⟨(zb_times ha hy (k := b + 1) (by omega)).n64, hR⟩
  · unfold f_X2_times_B6
    rw [if_pos (by rw [zi_le (by omega) (by omega)]; omega)]
    exact hQ
end ZM8
