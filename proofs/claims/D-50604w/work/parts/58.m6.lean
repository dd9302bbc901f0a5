set_option maxRecDepth 100000
section ZM6
variable {m : Nat → Nat} {w : zM} {h : zw_H} {K : Nat → Option Nat} {X : String → Nat → zw_H → Prop}
theorem c_thinks (d : zm_d m) {Q : zw_H → Prop} (hQ : Q (zm_o m (zAI w 2 (sp_cpy (w.2.1 2) (w.2.1 1) 0 0 103)) h)) : f_X2_thinks K (some (m 0)) (zm_o m w h) Q X := by
  unfold f_X2_thinks
  rw [zm_g1 d, zm_g2 d]
  exact c_lays 1 2 103 103 (by decide) 0 0 (by decide) (by decide) (by decide) (by decide) (fun w x F => zm_r1 d (by decide) x F) (fun w x v F => zm_s2 d (by decide) x v F) hQ
theorem c_back (d : zm_d m) {x : Int32} {Q : Int32 → zw_H → Prop} (hQ : Q x (zm_o m (zAI w 1 (sp_cpy (w.2.1 1) (w.2.1 2) 0 0 103)) h)) : f_X2_back K (some (m 0)) x (zm_o m w h) Q X := by
  unfold f_X2_back
  rw [zm_g2 d, zm_g1 d]
  exact c_lays 2 1 103 103 (by decide) 0 0 (by decide) (by decide) (by decide) (by decide) (fun w x F => zm_r2 d (by decide) x F) (fun w x v F => zm_s1 d (by decide) x v F) hQ
theorem e_isCharge {a : Int32} {Q : Int32 → zw_H → Prop} : f_X2_isCharge K a h Q X = Q (sp_b (a ≠ 0 ∧ -99 ≤ a ∧ a ≤ 99)) h := by
  unfold f_X2_isCharge
  split
  · rename_i g
    rw [sp_bf (fun e => e.1 g)]
  · rename_i g
    rw [e_in]
    by_cases g2 : -99 ≤ a ∧ a ≤ 99
    · rw [sp_bt g2, sp_bt ⟨g, g2⟩]
      rfl
    · rw [sp_bf g2, sp_bf (fun e => g2 e.2)]
      rfl
end ZM6
