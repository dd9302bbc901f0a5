set_option maxRecDepth 100000
/-! doubles of ints against 0; small things of the class -/
theorem zf_sgn (v : Int32) : ∃ c q, FP.Core.decode FP.Core.b64 (FP.i2d v).toNat = .fin (decide (v.toInt < 0)) c q ∧ (v.toInt ≠ 0 ↔ c ≠ 0) := by
  have hj : v.toInt.natAbs ≤ 2 ^ 32 := by have h1 := v.toInt_lt; have h2 := v.le_toInt; omega
  by_cases hv : v.toInt = 0
  · have e : v = 0 := Int32.toInt_inj.mp (hv.trans rfl)
    subst e
    exact ⟨0, -1074, by decide +kernel, by decide⟩
  · obtain ⟨c', q', k1, k2, k3, k4⟩ := zf_up (s := decide (v.toInt < 0)) (A := v.toInt.natAbs) (B := 1) (k := 32 + 1074) (e := 0) (by decide) (by omega) (by omega) (by
      have := Nat.mul_le_mul_right (2 ^ (0 + 2148 : Int).toNat) hj
      rw [Nat.one_mul]
      refine Nat.le_trans this (Nat.le_of_eq ?_)
      rw [← Nat.pow_add]
      congr 1)
    have e : FP.i2d v = UInt64.ofNat (FP.Core.encode FP.Core.b64 (FP.Core.round FP.Core.b64 (FP.Core.ofInt v.toInt))) := rfl
    have k1 : FP.Core.round FP.Core.b64 (FP.Core.ofInt v.toInt) = .fin (decide (v.toInt < 0)) c' q' := k1
    refine ⟨c', q', by rw [e, k1]; exact zf_dec k2, fun _ => ?_, fun _ => hv⟩
    have k5 := k4 (Nat.mul_le_mul (show 1 ≤ v.toInt.natAbs by omega) (Nat.le_refl _))
    intro e0
    rw [e0, Nat.zero_mul] at k5
    have := Nat.two_pow_pos 1074
    omega
theorem zf_cmp0 (v : Int32) : FP.dcmp (FP.i2d v) FP.dconst0 = some (if v.toInt < 0 then .lt else if v.toInt = 0 then .eq else .gt) := by
  obtain ⟨c, q, h1, h2⟩ := zf_sgn v
  have h3 : FP.Core.decode FP.Core.b64 FP.dconst0.toNat = .fin false 0 (-1074) := by decide +kernel
  have hcmp : ∀ x : Int, compare x 0 = if x < 0 then .lt else if x = 0 then .eq else .gt := fun x => rfl
  show FP.Core.order (FP.Core.decode FP.Core.b64 (FP.i2d v).toNat) (FP.Core.decode FP.Core.b64 FP.dconst0.toNat) = _
  rw [h1, h3]
  unfold FP.Core.order
  have e0 : FP.Core.signed false (FP.Core.inUnits 0 (-1074) (min q (-1074))) = 0 := by
    unfold FP.Core.inUnits FP.Core.signed
    rw [Nat.zero_mul]
    rfl
  dsimp only
  rw [e0, hcmp]
  congr 1
  have hpos := Nat.two_pow_pos (q - min q (-1074)).toNat
  have hN : FP.Core.inUnits c q (min q (-1074)) ≠ 0 ↔ v.toInt ≠ 0 := by
    unfold FP.Core.inUnits
    rw [h2]
    exact ⟨fun e e2 => e (by rw [e2, Nat.zero_mul]), fun e e2 => by rcases Nat.mul_eq_zero.mp e2 with g | g; exact e g; omega⟩
  generalize FP.Core.inUnits c q (min q (-1074)) = N at hN
  unfold FP.Core.signed
  by_cases g : v.toInt < 0
  · have : N ≠ 0 := hN.mpr (by omega)
    simp only [g, decide_true, if_true]
    rw [if_pos (by omega)]
  · simp only [g, decide_false, if_false, Bool.false_eq_true]
    rw [if_neg (by omega)]
    by_cases g2 : v.toInt = 0
    · have : N = 0 := Classical.not_not.mp (fun e => hN.mp e g2)
      rw [if_pos g2, if_pos (by omega)]
    · have : N ≠ 0 := hN.mpr g2
      rw [if_neg g2, if_neg (by omega)]
theorem zf_ge0 (v : Int32) : ((0 : Int32) ≤ (Op.cmpValue (FP.dcmp (FP.i2d v) FP.dconst0) .g)) ↔ 0 ≤ v := by
  rw [zf_cmp0, Int32.le_iff_toInt_le (y := v)]
  have h0 : (0 : Int32).toInt = 0 := rfl
  rw [h0]
  by_cases g : v.toInt < 0
  · rw [if_pos g]
    exact ⟨fun e => absurd e (by decide), fun e => by omega⟩
  · rw [if_neg g]
    by_cases g2 : v.toInt = 0
    · rw [if_pos g2]
      exact ⟨fun _ => by omega, fun _ => by decide⟩
    · rw [if_neg g2]
      exact ⟨fun _ => by omega, fun _ => by decide⟩
theorem zf_le0 (v : Int32) : ((Op.cmpValue (FP.dcmp (FP.i2d v) FP.dconst0) .l) ≤ 0) ↔ v ≤ 0 := by
  rw [zf_cmp0, Int32.le_iff_toInt_le (x := v)]
  have h0 : (0 : Int32).toInt = 0 := rfl
  rw [h0]
  by_cases g : v.toInt < 0
  · rw [if_pos g]
    exact ⟨fun _ => by omega, fun _ => by decide⟩
  · rw [if_neg g]
    by_cases g2 : v.toInt = 0
    · rw [if_pos g2]
      exact ⟨fun _ => by omega, fun _ => by decide⟩
    · rw [if_neg g2]
      exact ⟨fun e => absurd e (by decide), fun e => by omega⟩
theorem zi_subI {i j : Nat} (hi : i < 2 ^ 30) (hj : j < 2 ^ 30) : (Int32.ofNat i - Int32.ofNat j).toInt = (i : Int) - j := by
  rw [Int32.toInt_sub, zi_nat (by omega), zi_nat (by omega)]
  exact Int.bmod_eq_of_le (by omega) (by omega)
theorem zi_in1 {i j : Nat} (hi : i < 2 ^ 30) (hj : j < 2 ^ 30) : ((-1 : Int64) ≤ (Int32.ofNat i - Int32.ofNat j).toInt64 ∧ (Int32.ofNat i - Int32.ofNat j).toInt64 ≤ 1) ↔ zdi i j ≤ 1 := by
  have e1 : (-1 : Int64).toInt = -1 := rfl
  have e2 : (1 : Int64).toInt = 1 := rfl
  rw [Int64.le_iff_toInt_le, Int64.le_iff_toInt_le, Int32.toInt_toInt64, zi_subI hi hj, e1, e2]
  unfold zdi
  omega
section ZC0
variable {K : Nat → Option Nat} {X : String → Nat → zw_H → Prop} {h : zw_H}
theorem e1_in {a b c : Int64} {Q : Int32 → zw_H → Prop} : f_X1_in K a b c h Q X = Q (sp_b (b ≤ a ∧ a ≤ c)) h := by
  unfold f_X1_in
  by_cases g1 : a < b
  · rw [if_pos ((lg_cmp_lt a b).mpr g1), sp_bf (fun e => Int64.not_le.mpr g1 e.1)]
  · rw [if_neg (fun e => g1 ((lg_cmp_lt a b).mp e))]
    by_cases g2 : c < a
    · rw [if_pos ((lg_cmp_gt a c).mpr g2), sp_bf (fun e => Int64.not_le.mpr g2 e.2)]
    · rw [if_neg (fun e => g2 ((lg_cmp_gt a c).mp e)), sp_bt ⟨Int64.not_lt.mp g1, Int64.not_lt.mp g2⟩]
theorem e1_flag {a : Int32} {Q : Int32 → zw_H → Prop} : f_X1_flag K a h Q X = Q (sp_b (a ≠ 0)) h := by
  unfold f_X1_flag
  by_cases g : a = 0
  · rw [if_pos g, sp_bf (fun e => e g)]
  · rw [if_neg g, sp_bt g]
/-- Math.abs -/
def sp_iab (a : Int32) : Int32 := if 0 ≤ a then a else -a
theorem e_abs {a : Int32} {Q : Int32 → zw_H → Prop} : f_J14_abs K a h Q X = Q (sp_iab a) h := by
  unfold f_J14_abs sp_iab
  split <;> rfl
theorem sp_iab_far (a : Int32) : sp_iab a = sp_far a 0 := by
  unfold sp_iab sp_far
  by_cases g : 0 ≤ a
  · rw [if_pos g, if_pos g, Int32.sub_zero]
  · rw [if_neg g, if_neg g, Int32.zero_sub]
theorem sp_iab_sub {i j : Nat} (hi : i < 2 ^ 30) (hj : j < 2 ^ 30) : sp_iab (Int32.ofNat i - Int32.ofNat j) = sp_far (Int32.ofNat i) (Int32.ofNat j) := by
  have e := zi_subI hi hj
  have h0 : (0 : Int32).toInt = 0 := rfl
  unfold sp_iab sp_far
  by_cases g : j ≤ i
  · rw [if_pos ((zi_le (by omega) (by omega)).mpr g), if_pos (by rw [Int32.le_iff_toInt_le, e, h0]; omega)]
  · rw [if_neg (fun e => g ((zi_le (by omega) (by omega)).mp e)), if_neg (by rw [Int32.le_iff_toInt_le, e, h0]; omega), Int32.neg_sub]
theorem e_max {a b : Int32} {Q : Int32 → zw_H → Prop} : f_J14_max K a b h Q X = Q (if a < b then b else a) h := by
  unfold f_J14_max
  split <;> rfl
theorem e_min {a b : Int32} {Q : Int32 → zw_H → Prop} : f_J14_min K a b h Q X = Q (if b < a then b else a) h := by
  unfold f_J14_min
  split <;> rfl
theorem e_chk {i n : Nat} (hn : n < 2 ^ 30) (hi : i < n) {r : Option Nat} {Q : Int32 → zw_H → Prop} : f_J17_checkIndex K (Int32.ofNat i) (Int32.ofNat n) r h Q X = Q (Int32.ofNat i) h := by
  unfold f_J17_checkIndex
  rw [if_neg (zi_nn (by omega)), if_pos ((zi_lt (by omega) (by omega)).mpr hi)]
theorem c1_power {a y : UInt64} {k : Nat} (hn : ∀ b, b < k → vf_n64 (sp_times a y (b + 1))) (hk : k < 900) {Q : UInt64 → zw_H → Prop} (hQ : Q (sp_times a y k) h) : f_X1_power K a y (Int32.ofNat k) h Q X := by
  unfold f_X1_power
  refine zl3_run (B := f_X1_power_B6 K Q X _ y (Int32.ofNat k)) (fun b => sp_times a y b) (fun b => Int32.ofNat b) (fun _ => h) (n := k) (fun R b hb hR => ?_) (fun R => ?_) k zfu 0 (by omega) (Nat.lt_of_lt_of_le hk (by decide))
  · unfold f_X1_power_B6
    rw [if_neg (by rw [zi_le (by omega) (by omega)]; omega)]
    simp only [olet_iff, zi_succ]
    exact ⟨hn b hb, hR⟩
  · unfold f_X1_power_B6
    rw [if_pos (by rw [zi_le (by omega) (by omega)]; omega)]
    exact hQ
theorem c1_absolute {v : UInt64} {k : Nat} (hv : zBd v k) (h1 : 1074 ≤ k) (h2 : k ≤ 2089) {Q : UInt64 → zw_H → Prop} (hQ : Q (sp_abs v) h) : f_X1_absolute K v h Q X := by
  have hb := zb_abs hv h1 h2
  unfold f_X1_absolute
  unfold sp_abs at hQ hb
  split
  · rename_i g
    rw [if_pos g] at hQ
    exact hQ
  · rename_i g
    rw [if_neg g] at hQ hb
    simp only [olet_iff]
    exact ⟨hb.n64, hQ⟩
/-- the class's own way to choose, in longs -/
def sp_chl (n : Int32) (k : Nat) : Int64 := zacc (fun b v => (v * ((n - Int32.ofNat k) + Int32.ofNat (b + 1)).toInt64) / (Int32.ofNat (b + 1)).toInt64) 1 k
theorem c1_choose {n : Int32} {k : Nat} (hk : k < 900) {Q : Int64 → zw_H → Prop} (hQ : Q (sp_chl n k) h) : f_X1_choose K n (Int32.ofNat k) h Q X := by
  unfold f_X1_choose
  refine zl3_run (B := f_X1_choose_B5 K Q X _ n (Int32.ofNat k)) (fun b => zacc (fun b v => (v * ((n - Int32.ofNat k) + Int32.ofNat (b + 1)).toInt64) / (Int32.ofNat (b + 1)).toInt64) 1 b) (fun b => Int32.ofNat (b + 1)) (fun _ => h) (n := k) (fun R b hb hR => ?_) (fun R => ?_) k zfu 0 (by omega) (Nat.lt_of_lt_of_le hk (by decide))
  · unfold f_X1_choose_B5
    rw [if_neg (by rw [zi_lt (by omega) (by omega)]; omega)]
    refine ⟨fun e => ?_, ?_⟩
    · have h1 := congrArg Int64.toInt e
      rw [Int32.toInt_toInt64, zi_nat (by omega)] at h1
      have h2 : (0 : Int64).toInt = 0 := rfl
      omega
    · simp only [olet_iff, zi_succ]
      exact hR
  · unfold f_X1_choose_B5
    rw [if_pos (by rw [zi_lt (by omega) (by omega)]; omega)]
    exact hQ
theorem sp_chl_eq {n k : Nat} (hn : n ≤ 8) (hk : k ≤ 4) : sp_chl (Int32.ofNat n) k = (sp_choose (Int32.ofNat n) k).toInt64 := by
  have key : ∀ n : Fin 9, ∀ k : Fin 5, sp_chl (Int32.ofNat n.val) k.val = (sp_choose (Int32.ofNat n.val) k.val).toInt64 := by decide +kernel
  exact key ⟨n, by omega⟩ ⟨k, by omega⟩
theorem c4_raised {p : Int64} {k : Nat} (hk : k < 900) {Q : Int64 → zw_H → Prop} (hQ : Q (sp_power p k) h) : f_X4_raised K p (Int32.ofNat k) h Q X := by
  unfold f_X4_raised
  refine zl3_run (B := f_X4_raised_B5 K Q X _ p (Int32.ofNat k)) (fun b => zacc (fun _ s => s * p) 1 b) (fun b => Int32.ofNat b) (fun _ => h) (n := k) (fun R b hb hR => ?_) (fun R => ?_) k zfu 0 (by omega) (Nat.lt_of_lt_of_le hk (by decide))
  · unfold f_X4_raised_B5
    rw [if_neg (by rw [zi_le (by omega) (by omega)]; omega)]
    simp only [olet_iff, zi_succ]
    exact hR
  · unfold f_X4_raised_B5
    rw [if_pos (by rw [zi_le (by omega) (by omega)]; omega)]
    exact hQ
end ZC0
