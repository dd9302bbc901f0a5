set_option maxRecDepth 100000
section ZM10
variable {m : Nat → Nat} {w : zM} {h : zw_H} {K : Nat → Option Nat} {X : String → Nat → zw_H → Prop}
def sp_choose (n : Int32) (k : Nat) : Int32 := zacc (fun b v => (v * ((n - Int32.ofNat k) + Int32.ofNat (b + 1))) / Int32.ofNat (b + 1)) 1 k
theorem c_choose {n : Int32} {k : Nat} (hk : k < 900) {Q : Int32 → zw_H → Prop} (hQ : Q (sp_choose n k) h) : f_X2_choose K n (Int32.ofNat k) h Q X := by
  unfold f_X2_choose
  have key := zl3_run (B := f_X2_choose_B4 K Q X (fun v3 h1 => Q v3 h1) n (Int32.ofNat k)) (fun b => zacc (fun b v => (v * ((n - Int32.ofNat k) + Int32.ofNat (b + 1))) / Int32.ofNat (b + 1)) 1 b) (fun b => Int32.ofNat (b + 1)) (fun _ => h) (n := k) (fun R b hb hR => ?_) (fun R => ?_) k zfu 0 (by omega) (Nat.lt_of_lt_of_le hk (by decide))
  · exact key
  · unfold f_X2_choose_B4
    rw [if_neg (by rw [zi_lt (by omega) (by omega)]; omega)]
    refine ⟨fun e => ?_, ?_⟩
    · have h1 := congrArg Int32.toInt e
      rw [zi_nat (by omega)] at h1
      have h2 : (0 : Int32).toInt = 0 := rfl
      omega
    · simp only [olet_iff, zi_succ]
      exact hR
  · unfold f_X2_choose_B4
    rw [if_pos (by rw [zi_lt (by omega) (by omega)]; omega)]
    exact hQ
end ZM10
