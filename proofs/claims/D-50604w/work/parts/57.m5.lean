set_option maxRecDepth 100000
section ZM5
variable {m : Nat → Nat} {w : zM} {h : zw_H} {K : Nat → Option Nat} {X : String → Nat → zw_H → Prop}
/-- a row copied into another array at a place -/
def sp_cpy (g f : Nat → Int32) (i j k : Nat) : Nat → Int32 := fun q => if j ≤ q ∧ q < j + k then f (i + (q - j)) else g q
theorem sp_cpy_0 {g f : Nat → Int32} {i j : Nat} : sp_cpy g f i j 0 = g := by
  funext q
  exact if_neg (by omega)
theorem sp_cpy_s {g f : Nat → Int32} {i j k : Nat} : upd (sp_cpy g f i j k) (j + k) (f (i + k)) = sp_cpy g f i j (k + 1) := by
  funext q
  show (if q = j + k then f (i + k) else sp_cpy g f i j k q) = _
  unfold sp_cpy
  by_cases e : q = j + k
  · subst e
    rw [if_pos rfl, if_pos (by omega)]
    congr 1
    omega
  · rw [if_neg e]
    by_cases g1 : j ≤ q ∧ q < j + k
    · rw [if_pos g1, if_pos (by omega)]
    · rw [if_neg g1, if_neg (by omega)]
theorem zAI_self (w : zM) (k : Nat) : zAI w k (w.2.1 k) = w := by
  show (w.1, (fun j => if j = k then w.2.1 k else w.2.1 j), w.2.2) = w
  have e : (fun j => if j = k then w.2.1 k else w.2.1 j) = w.2.1 := by
    funext j
    split
    · rename_i e; rw [e]
    · rfl
  rw [e]
theorem zAI_twice (w : zM) (k : Nat) (f g : Nat → Int32) : zAI (zAI w k f) k g = zAI w k g := by
  show ((w.1, _, w.2.2) : zM) = (w.1, _, w.2.2)
  congr 2
  funext j
  show (if j = k then g else if j = k then f else w.2.1 j) = if j = k then g else w.2.1 j
  split <;> rfl
theorem zAI_at (w : zM) (k : Nat) (f : Nat → Int32) : (zAI w k f).2.1 k = f := if_pos rfl
theorem zAI_ne (w : zM) {k j : Nat} (f : Nat → Int32) (e : j ≠ k) : (zAI w k f).2.1 j = w.2.1 j := if_neg e
theorem zi_add {a b : Nat} : Int32.ofNat a + Int32.ofNat b = Int32.ofNat (a + b) := (Int32.ofNat_add a b).symm
/-- lays(now, 0, aside, 0) and the like: from array p at i to array q at j -/
theorem c_lays (p q lp lq : Nat) (hpq : q ≠ p) (i j : Nat) (hi : i + 103 ≤ lp) (hj : j + 103 ≤ lq) (hlp : lp < 2 ^ 30) (hlq : lq < 2 ^ 30)
    (hr : ∀ (w : zM) (x : Int32) (F : Int32 → Prop), oa_I (zm_o m w h) (some (m p)) [0, 11] x F = (vp_in x lp ∧ F (w.2.1 p x.toNatClampNeg)))
    (hs : ∀ (w : zM) (x v : Int32) (F : zw_H → Prop), os_I (zm_o m w h) (some (m q)) [0] x v F = (vp_in x lq ∧ F (zm_o m (zAI w q (upd (w.2.1 q) x.toNatClampNeg v)) h)))
    {Q : zw_H → Prop} (hQ : Q (zm_o m (zAI w q (sp_cpy (w.2.1 q) (w.2.1 p) i j 103)) h)) : f_X2_lays K (some (m p)) (Int32.ofNat i) (some (m q)) (Int32.ofNat j) (zm_o m w h) Q X := by
  unfold f_X2_lays
  have key := zl2_run (B := f_X2_lays_B3 K Q X (fun h2 => Q h2) (some (m p)) (Int32.ofNat i) (some (m q)) (Int32.ofNat j)) (fun b => Int32.ofNat b) (fun b => zm_o m (zAI w q (sp_cpy (w.2.1 q) (w.2.1 p) i j b)) h) (n := 103) (fun R b hb hR => ?_) (fun R => ?_) 103 zfu 0 (by omega) (by decide)
  · have e : zm_o m (zAI w q (sp_cpy (w.2.1 q) (w.2.1 p) i j 0)) h = zm_o m w h := by rw [sp_cpy_0, zAI_self]
    simp only [e] at key
    exact key
  · unfold f_X2_lays_B3
    rw [if_neg (by rw [show (103 : Int32) = Int32.ofNat 103 from rfl, zi_le (by omega) (by omega)]; omega), hr, zi_add, zi_clamp (by omega)]
    refine ⟨zi_inn (by omega) (by omega), ?_⟩
    rw [hs, zi_add, zi_clamp (by omega)]
    refine ⟨zi_inn (by omega) (by omega), ?_⟩
    simp only [olet_iff, zi_succ]
    rw [zAI_at, zAI_ne _ _ (Ne.symm hpq), zAI_twice, sp_cpy_s]
    exact hR
  · unfold f_X2_lays_B3
    rw [if_pos (by decide)]
    exact hQ
end ZM5
