set_option maxRecDepth 100000
/-! asking the reference: queries with several arguments; what would be -/
def sp_cV (t L l i x : Int32) : Int32 := sp_may t (sp_b (t ≠ 0 ∧ zBoxP L l i)) (sp_b ((t ≠ 0 ∧ zBoxP L l i) ∧ (0 ≤ x ∧ x ≤ 255) ∧ sp_wide l ≤ sp_far x (sp_centre l i)))
def sp_cE (t L O l i j : Int32) : Int32 := sp_may t (sp_b (2 ≤ l ∧ zBoxP L l i)) (sp_b (0 ≤ j ∧ j ≤ O))
def sp_cW (t n b : Int32) : Int32 := sp_may t (sp_b (0 ≤ b ∧ b ≤ n - 1)) 1
def sp_cQ (t n b k : Int32) : Int32 := sp_may t (sp_b (0 ≤ b ∧ b ≤ n - 1)) (sp_b (0 ≤ k ∧ k ≤ 50))
def sp_cA (t k : Int32) : Int32 := sp_may t (sp_b (0 ≤ k ∧ k ≤ 50)) 1
def sp_cO (t x k : Int32) : Int32 := sp_may t (sp_b ((0 ≤ x ∧ x ≤ 255) ∧ 0 ≤ k ∧ k ≤ 99999)) 1
def sp_cH (t n b x : Int32) : Int32 := sp_may t (sp_b (0 ≤ b ∧ b ≤ n - 1)) (sp_b (0 ≤ x ∧ x ≤ 255))
def sp_cN (t k : Int32) : Int32 := sp_may t (sp_b (0 ≤ k ∧ k ≤ 3)) 1
theorem zi_51 {k : Int32} (h : 0 ≤ k ∧ k ≤ 50) : ∃ c : Nat, c ≤ 50 ∧ k = Int32.ofNat c := by
  obtain ⟨c, hc, rfl⟩ := zi_of h.1
  exact ⟨c, (zi_le (b := 50) hc (by decide)).mp h.2, rfl⟩
theorem sp_cpy_id {f g : Nat → Int32} {a : Nat → Int32} (h : ∀ q, q < 103 → f q = a q) (h2 : ∀ q, 103 ≤ q → g q = a q) : sp_cpy g f 0 0 103 = a := by
  funext q
  unfold sp_cpy
  by_cases e : q < 103
  · rw [if_pos ⟨Nat.zero_le q, by omega⟩, show 0 + (q - 0) = q by omega]
    exact h q e
  · rw [if_neg (by omega)]
    exact h2 q (by omega)
theorem sp_cpy_in {f g : Nat → Int32} {q : Nat} (h : q < 103) : sp_cpy g f 0 0 103 q = f q := by
  unfold sp_cpy
  rw [if_pos ⟨Nat.zero_le q, by omega⟩, show 0 + (q - 0) = q by omega]
theorem sp_step_far {a : Nat → Int32} {n l o q : Nat} (h24 : n ≤ 24) (hq : 103 ≤ q) : sp_step a n l o q = a q := by
  rw [sp_step_hi a n l o (by omega), sp_gone_ne _ _ (Or.inr (by omega))]
theorem sp_steps_far {a : Nat → Int32} {n l o q : Nat} (h24 : n ≤ 24) (hq : 103 ≤ q) : ∀ k, sp_stepsA a n l o k q = a q
  | 0 => rfl
  | k + 1 => (sp_step_far h24 hq).trans (sp_steps_far h24 hq k)
def sp_stillK (a : Nat → Int32) (n l o : Nat) : Nat := zfirst (fun k => decide (¬ sp_still (sp_stepsA a n l o k) n l o < n)) 51
def sp_stillIn (a : Nat → Int32) (n l o : Nat) : Int32 := if sp_stillK a n l o < 51 then Int32.ofNat (sp_stillK a n l o) else -1
def sp_ord (a : Nat → Int32) (n l y : Nat) (f : UInt64) : Nat := zfirst (fun o => decide (¬ (0 : Int32) < (Op.cmpValue (FP.dcmp (sp_bound a n l o y) f) .g))) 5
def sp_orderFor (a : Nat → Int32) (n l y : Nat) (k : Int32) : Int32 := if sp_ord a n l y (FP.ddiv (FP.i2d k) (4652007308841189376 : UInt64)) < 5 then Int32.ofNat (sp_ord a n l y (FP.ddiv (FP.i2d k) (4652007308841189376 : UInt64))) else -1
def sp_costA (a : Nat → Int32) (n l c : Nat) : Int32 := zacc (fun b s => s + sp_cost a n l (zpt a b) 0) 0 c
def sp_lev (a : Nat → Int32) (k : Nat) : Nat → Int32 := upd a 3 (Int32.ofNat k)
def sp_best (a : Nat → Int32) (n c : Nat) : Int32 × Int32 := zacc (fun c s => if s.1 = -1 then (Int32.ofNat (2 + c), sp_costA (sp_lev a (2 + c)) n (2 + c) n) else if sp_costA (sp_lev a (2 + c)) n (2 + c) n < s.2 then (Int32.ofNat (2 + c), sp_costA (sp_lev a (2 + c)) n (2 + c) n) else s) (-1, 0) c
theorem zRow_lev {a : Nat → Int32} {n l o k : Nat} (hr : zRow a n l o) (h2 : 2 ≤ k) (h5 : k ≤ 5) : zRow (sp_lev a k) n k o := by
  obtain ⟨hn, h24, -, -, -, ho, h4, hf, hb⟩ := hr
  have e : ∀ q, q ≠ 3 → sp_lev a k q = a q := fun q hq => if_neg hq
  refine ⟨(e 0 (by decide)).trans hn, h24, (show upd a 3 (Int32.ofNat k) 3 = _ from upd_at _ _ _), h2, h5, (e 4 (by decide)).trans ho, h4, ?_, fun b hb2 => ?_⟩
  · rw [e 5 (by decide)]
    exact hf
  · rw [e _ (by omega), e _ (by omega), e _ (by omega)]
    exact hb b hb2
def sp_qui (a : Nat → Int32) (n : Nat) (c : Nat) : Int32 × UInt64 := zacc (fun x s => if sp_firstAt a n (Int32.ofNat x) = -1 then (if s.1 = -1 then (Int32.ofNat x, sp_abs (sp_sumOf a (Int32.ofNat x) 1 (-1) n)) else if (Op.cmpValue (FP.dcmp (sp_abs (sp_sumOf a (Int32.ofNat x) 1 (-1) n)) s.2) .l) < 0 then (Int32.ofNat x, sp_abs (sp_sumOf a (Int32.ofNat x) 1 (-1) n)) else s) else s) (-1, FP.dconst0) c
/-- whether a sum is above 0 -/
def sp_pos (v : UInt64) : Int32 := if (Op.cmpValue (FP.dcmp v FP.dconst0) .l) ≤ 0 then 0 else 1
def sp_turn (a : Nat → Int32) (n q : Nat) : Prop := sp_pos (sp_pullOf a (Int32.ofNat q) 1 n) ≠ sp_pos (sp_pullOf a (Int32.ofNat (q + 1)) 1 n)
def sp_nz (a : Nat → Int32) (n : Nat) (x : Int32) (c : Nat) : Int32 := zacc (fun q s => if sp_pos (sp_pullOf a (Int32.ofNat q) 1 n) ≠ sp_pos (sp_pullOf a (Int32.ofNat (q + 1)) 1 n) then (if s = -1 then Int32.ofNat q else if sp_far s x ≤ sp_far (Int32.ofNat q) x then s else Int32.ofNat q) else s) (-1) c
def sp_sign (v : Int32) : Int32 := if v ≤ 0 then 0 else 1
def sp_pair (a : Nat → Int32) (i j : Nat) (k : Int32) : Int32 := if a (7 + 4 * i) = a (7 + 4 * j) then 0 else if 2 ≤ k then (if k = 2 then sp_b (sp_far (a (7 + 4 * i) / sp_wide (a 3)) (a (7 + 4 * j) / sp_wide (a 3)) ≤ 1) else sp_b (a (7 + 4 * i) / sp_wide (a 3) = a (7 + 4 * j) / sp_wide (a 3))) else sp_b ((sp_sign (a (7 + 4 * i + 1)) = sp_sign (a (7 + 4 * j + 1))) = (k = 0))
def sp_prs (a : Nat → Int32) (i : Nat) (k s : Int32) (c : Nat) : Int32 := zacc (fun c s => s + sp_pair a i (i + 1 + c) k) s c
def sp_pairs (a : Nat → Int32) (n : Nat) (k : Int32) (c : Nat) : Int32 := zacc (fun i s => sp_prs a i k s (n - (i + 1))) 0 c
theorem sp_pair01 (a : Nat → Int32) (i j : Nat) (k : Int32) : sp_b (sp_pair a i j k ≠ 0) = sp_pair a i j k := by
  have h : sp_pair a i j k = 0 ∨ sp_pair a i j k = 1 := by
    unfold sp_pair
    split
    · exact Or.inl rfl
    · split
      · split <;> exact sp_b_cases _
      · exact sp_b_cases _
  rcases h with e | e <;> rw [e] <;> decide
def sp_bal (a : Nat → Int32) (n : Nat) : UInt32 := if n = 0 then FP.fconst0 else FP.fdiv (FP.i2f (sp_charge a n 0 0 0)) (FP.i2f (sp_charge a n 0 0 1))
def sp_xsum (a : Nat → Int32) (c : Nat) : Int32 := zacc (fun b s => s + a (7 + 4 * b)) 0 c
def sp_meanX (a : Nat → Int32) (n : Nat) : UInt64 := if n = 0 then FP.dconst0 else FP.ddiv (FP.i2d (sp_xsum a n)) (FP.i2d (Int32.ofNat n))
theorem zi_99 {v : Int32} (h0 : v ≠ 0) (h1 : -99 ≤ v) (h2 : v ≤ 99) : ∃ c : Nat, 1 ≤ c ∧ c ≤ 99 ∧ sp_far v 0 = Int32.ofNat c := by
  have e1 := Int32.le_iff_toInt_le.mp h1
  have e2 := Int32.le_iff_toInt_le.mp h2
  have e3 : (-99 : Int32).toInt = -99 := rfl
  have e4 : (99 : Int32).toInt = 99 := rfl
  have e0 : v.toInt ≠ 0 := fun e => h0 (Int32.toInt_inj.mp (e.trans rfl))
  unfold sp_far
  by_cases g : (0 : Int32) ≤ v
  · rw [if_pos g]
    obtain ⟨c, hc, rfl⟩ := zi_of g
    rw [zi_nat hc] at e0 e2
    exact ⟨c, by omega, by omega, Int32.sub_zero _⟩
  · rw [if_neg g]
    refine ⟨(-v.toInt).toNat, ?_, by omega, ?_⟩
    · have := Int32.lt_iff_toInt_lt.mp (Int32.not_le.mp g)
      have e5 : (0 : Int32).toInt = 0 := rfl
      omega
    · have h9 := Int32.lt_iff_toInt_lt.mp (Int32.not_le.mp g)
      have e5 : (0 : Int32).toInt = 0 := rfl
      rw [← Int32.toInt_inj, zi_nat (by omega), Int32.toInt_sub, e5]
      have h10 : ((0 - v.toInt) : Int).bmod (2 ^ 32) = 0 - v.toInt := Int.bmod_eq_of_le (by omega) (by omega)
      rw [h10]
      omega
theorem sp_charge_pos {a : Nat → Int32} {n l o : Nat} (hr : zRow a n l o) : ∀ c, c ≤ n → ∃ k : Nat, c ≤ k ∧ k ≤ 99 * c ∧ sp_charge a c 0 0 1 = Int32.ofNat k
  | 0, _ => ⟨0, Nat.le_refl _, Nat.le_refl _, rfl⟩
  | c + 1, hc => by
    obtain ⟨k, h1, h2, h3⟩ := sp_charge_pos hr c (by omega)
    obtain ⟨⟨x, hx, hx2⟩, ⟨g1, g2, g3⟩, -⟩ := hr.2.2.2.2.2.2.2.2 c (by omega)
    obtain ⟨q, q1, q2, q3⟩ := zi_99 g1 g2 g3
    have e : sp_charge a (c + 1) 0 0 1 = sp_charge a c 0 0 1 + sp_far (a (7 + 4 * c + 1)) 0 := by
      have e2 : a (7 + 4 * c) / sp_wide 0 = 0 := by
        rw [hx2, show (0 : Int32) = Int32.ofNat 0 from rfl, zi_box (by decide) hx]
        unfold zbx
        rw [Nat.div_eq_of_lt hx]
      exact if_pos e2
    rw [e, h3, q3, ← Int32.ofNat_add]
    exact ⟨k + q, by omega, by omega, rfl⟩
section ZM19
variable {m : Nat → Nat} {w : zM} {h : zw_H} {K : Nat → Option Nat} {X : String → Nat → zw_H → Prop}
theorem p_moment (d : zm_d m) {n l o : Nat} (I : zInv w n l o) {lv i k : Int32} {Q : Int64 → zw_H → Prop} (h0 : sp_cM (w.1 6) (w.2.1 1 3) lv i k ≠ 0 → Q 0 (zm_o m (zS w 0 (sp_cM (w.1 6) (w.2.1 1 3) lv i k)) h)) (h1 : sp_cM (w.1 6) (w.2.1 1 3) lv i k = 0 → ∀ lev j q : Nat, lev ≤ l → j < 2 ^ lev → q ≤ 4 → lv = Int32.ofNat lev → i = Int32.ofNat j → k = Int32.ofNat q → Q (sp_moment (w.2.1 1) n lv i q) (zm_o m (zS w 0 0) h)) : f_X2_moment K (some (m 0)) lv i k (zm_o m w h) Q X := by
  unfold f_X2_moment
  rw [zm_c d, e_mayMoment d]
  by_cases g : sp_cM (w.1 6) (w.2.1 1 3) lv i k = 0
  · obtain ⟨k1, k2, k3⟩ := sp_may0.mp g
    have hr := I k1
    have k2 := (sp_bne _).mp k2
    rw [hr.2.2.1] at k2
    obtain ⟨lev, j, j1, j2, rfl, rfl⟩ := zBoxP.get hr.2.2.2.2.1 k2
    have k3 := (sp_bne _).mp k3
    obtain ⟨q, hq, rfl⟩ := zi_of k3.1
    have hq4 := (zi_le (b := 4) hq (by decide)).mp k3.2
    rw [if_pos g, if_neg (by decide), zm_c d]
    exact c_momentOf (w := zS w 0 0) d hr.1 hr.2.1 (by omega) (zi_wide0 (by have := hr.2.2.2.2.1; omega)) (h1 g lev j q j1 j2 hq4 rfl rfl rfl)
  · rw [if_neg g, if_pos rfl]
    exact h0 g
theorem p_shifted (d : zm_d m) {n l o : Nat} (I : zInv w n l o) {lv i k : Int32} {Q : Int64 → zw_H → Prop} (h0 : sp_cM (w.1 6) (w.2.1 1 3) lv i k ≠ 0 → Q 0 (zm_o m (zS w 0 (sp_cM (w.1 6) (w.2.1 1 3) lv i k)) h)) (h1 : sp_cM (w.1 6) (w.2.1 1 3) lv i k = 0 → ∀ lev j q : Nat, lev ≤ l → j < 2 ^ lev → q ≤ 4 → lv = Int32.ofNat lev → i = Int32.ofNat j → k = Int32.ofNat q → ∀ v, zSq w v 0 → Q (sp_shd (w.2.1 1) n l (l - lev) j q) (zm_o m v h)) : f_X2_shifted K (some (m 0)) lv i k (zm_o m w h) Q X := by
  unfold f_X2_shifted
  rw [zm_c d, e_mayMoment d]
  by_cases g : sp_cM (w.1 6) (w.2.1 1 3) lv i k = 0
  · obtain ⟨k1, k2, k3⟩ := sp_may0.mp g
    have hr := I k1
    have k2 := (sp_bne _).mp k2
    rw [hr.2.2.1] at k2
    have h5 := hr.2.2.2.2.1
    obtain ⟨lev, j, j1, j2, rfl, rfl⟩ := zBoxP.get h5 k2
    have k3 := (sp_bne _).mp k3
    obtain ⟨q, hq, rfl⟩ := zi_of k3.1
    have hq4 := (zi_le (b := 4) hq (by decide)).mp k3.2
    rw [if_pos g, if_pos (by decide)]
    rw [zm_c d]
    refine c_laysMoments (w := zS w 0 0) d (a := w.2.1 1) rfl hr (fun v hs hd => ?_)
    have hL := zL_lt (show lev ≤ 5 by omega) j2 hq4
    unfold f_X2_laidAt
    dsimp only
    rw [zm_g17 d, zi_laid (by omega), zm_r17 d (by decide), zi_clamp (by omega), hd lev j q j1 j2 hq4 trivial]
    exact ⟨zi_inn hL (by decide), h1 g lev j q j1 j2 hq4 rfl rfl rfl v (zSq.sl hs)⟩
  · rw [if_neg g, if_neg (by decide)]
    exact h0 g
theorem p_value (d : zm_d m) {n l o : Nat} (I : zInv w n l o) {lv i x : Int32} {Q : UInt64 → zw_H → Prop} (h0 : sp_cV (w.1 6) (w.2.1 1 3) lv i x ≠ 0 → Q FP.dconst0 (zm_o m (zS w 0 (sp_cV (w.1 6) (w.2.1 1 3) lv i x)) h)) (h1 : sp_cV (w.1 6) (w.2.1 1 3) lv i x = 0 → ∀ lev j y : Nat, lev ≤ l → j < 2 ^ lev → y < 256 → lv = Int32.ofNat lev → i = Int32.ofNat j → x = Int32.ofNat y → x - sp_centre lv i ≠ 0 → Q (sp_value (w.2.1 1) n lv i (x - sp_centre lv i) o) (zm_o m (zS w 0 0) h)) : f_X2_value K (some (m 0)) lv i x (zm_o m w h) Q X := by
  have key : ∀ p c : Int32, p = sp_b (w.1 6 ≠ 0 ∧ zBoxP (w.2.1 1 3) lv i) → c = sp_b ((w.1 6 ≠ 0 ∧ zBoxP (w.2.1 1 3) lv i) ∧ (0 ≤ x ∧ x ≤ 255) ∧ sp_wide lv ≤ sp_far x (sp_centre lv i)) → f_X2_value_J56 K Q X (some (m 0)) lv i x p c (zm_o m w h) := by
    intro p c ep ec
    subst ep ec
    unfold f_X2_value_J56
    rw [zm_g6 d, zm_c d, e_mayC d]
    by_cases g : sp_cV (w.1 6) (w.2.1 1 3) lv i x = 0
    · have g' : sp_may (w.1 6) (sp_b (w.1 6 ≠ 0 ∧ zBoxP (w.2.1 1 3) lv i)) (sp_b ((w.1 6 ≠ 0 ∧ zBoxP (w.2.1 1 3) lv i) ∧ (0 ≤ x ∧ x ≤ 255) ∧ sp_wide lv ≤ sp_far x (sp_centre lv i))) = 0 := g
      rw [if_pos g', if_neg (by decide), zm_c d]
      obtain ⟨k1, k2, k3⟩ := sp_may0.mp g'
      have hr := I k1
      have k3 := (sp_bne _).mp k3
      have k2 := k3.1.2
      rw [hr.2.2.1] at k2
      have h5 := hr.2.2.2.2.1
      obtain ⟨lev, j, j1, j2, rfl, rfl⟩ := zBoxP.get h5 k2
      obtain ⟨y, hy, rfl⟩ := zi_pt k3.2.1
      have hne : Int32.ofNat y - sp_centre (Int32.ofNat lev) (Int32.ofNat j) ≠ 0 := by
        intro e
        have e2 := zi_sub0 e
        have h9 := k3.2.2
        have hc := zct_lt (show lev ≤ 8 by omega) j2
        have hp := zi_p256 lev
        have hp2 := Nat.two_pow_pos (8 - lev)
        rw [zi_centre (by omega)] at e2
        rw [zi_wide (by omega), zi_centre (by omega), ← e2, zi_far (by omega) (by omega), zi_le (by omega) (by unfold zdi; omega)] at h9
        unfold zdi at h9
        omega
      exact c_valueOf (w := zS w 0 0) d hr.1 hr.2.1 hr.2.2.2.2.2.1 hr.2.2.2.2.2.2.1 (zi_wide0 (by omega)) hne (h1 g lev j y j1 j2 hy rfl rfl rfl hne)
    · have g' : ¬ sp_may (w.1 6) (sp_b (w.1 6 ≠ 0 ∧ zBoxP (w.2.1 1 3) lv i)) (sp_b ((w.1 6 ≠ 0 ∧ zBoxP (w.2.1 1 3) lv i) ∧ (0 ≤ x ∧ x ≤ 255) ∧ sp_wide lv ≤ sp_far x (sp_centre lv i))) = 0 := g
      rw [if_neg g', if_pos rfl]
      exact h0 g
  unfold f_X2_value f_X2_value_J20 f_X2_value_J21 f_X2_value_J55
  rw [zm_g6 d]
  by_cases t : w.1 6 = 0
  · rw [if_pos t, if_pos rfl]
    exact key 0 0 (sp_bf (fun e => e.1 t)).symm (sp_bf (fun e => e.1.1 t)).symm
  · rw [if_neg t, zm_c d, e_isBox d]
    by_cases g : zBoxP (w.2.1 1 3) lv i
    · have g9 : sp_b ((0 ≤ lv ∧ lv ≤ w.2.1 1 3) ∧ 0 ≤ i ∧ i ≤ ((1 : Int32) <<< (lv &&& 31)) - 1) = 1 := sp_bt g
      rw [g9, if_neg (by decide), if_neg (by decide), e_isPoint]
      by_cases g2 : 0 ≤ x ∧ x ≤ 255
      · rw [sp_bt g2, if_neg (by decide), e_centre, e_far, e_wide]
        by_cases g3 : sp_far x (sp_centre lv i) < sp_wide lv
        · rw [if_pos g3]
          exact key 1 0 (sp_bt ⟨t, g⟩).symm (sp_bf (fun e => Int32.not_le.mpr g3 e.2.2)).symm
        · rw [if_neg g3]
          exact key 1 1 (sp_bt ⟨t, g⟩).symm (sp_bt ⟨⟨t, g⟩, g2, Int32.not_lt.mp g3⟩).symm
      · rw [sp_bf g2, if_pos rfl]
        exact key 1 0 (sp_bt ⟨t, g⟩).symm (sp_bf (fun e => g2 e.2.1)).symm
    · have g9 : sp_b ((0 ≤ lv ∧ lv ≤ w.2.1 1 3) ∧ 0 ≤ i ∧ i ≤ ((1 : Int32) <<< (lv &&& 31)) - 1) = 0 := sp_bf g
      rw [g9, if_pos rfl, if_pos rfl]
      exact key 0 0 (sp_bf (fun e => g e.2)).symm (sp_bf (fun e => g e.1.2)).symm
theorem p_localEntry (d : zm_d m) {n l o : Nat} (I : zInv w n l o) {lv i j : Int32} {Q : UInt64 → zw_H → Prop} (h0 : sp_cE (w.1 6) (w.2.1 1 3) (w.2.1 1 4) lv i j ≠ 0 → Q FP.dconst0 (zm_o m (zS w 0 (sp_cE (w.1 6) (w.2.1 1 3) (w.2.1 1 4) lv i j)) h)) (h1 : sp_cE (w.1 6) (w.2.1 1 3) (w.2.1 1 4) lv i j = 0 → ∀ c f q : Nat, 2 + c ≤ l → f < 2 ^ (2 + c) → q ≤ o → lv = Int32.ofNat (2 + c) → i = Int32.ofNat f → j = Int32.ofNat q → ∀ v, zSq w v 0 → Q (sp_row (w.2.1 1) n o c f q) (zm_o m v h)) : f_X2_localEntry K (some (m 0)) lv i j (zm_o m w h) Q X := by
  have key : ∀ p : Int32, p = sp_b (2 ≤ lv ∧ zBoxP (w.2.1 1 3) lv i) → f_X2_localEntry_J24 K Q X (some (m 0)) lv i j p (w.1 6) (some (m 0)) (zm_o m w h) := by
    intro p ep
    subst ep
    unfold f_X2_localEntry_J24
    rw [e_a4 d, e_in, zm_c d, e_mayC d]
    by_cases g : sp_cE (w.1 6) (w.2.1 1 3) (w.2.1 1 4) lv i j = 0
    · have g' : sp_may (w.1 6) (sp_b (2 ≤ lv ∧ zBoxP (w.2.1 1 3) lv i)) (sp_b (0 ≤ j ∧ j ≤ w.2.1 1 4)) = 0 := g
      rw [if_pos g', if_pos (by decide)]
      rw [zm_c d]
      obtain ⟨k1, k2, k3⟩ := sp_may0.mp g'
      have hr := I k1
      have k2 := (sp_bne _).mp k2
      have k3 := (sp_bne _).mp k3
      rw [hr.2.2.1] at k2
      rw [hr.2.2.2.2.2.1] at k3
      have h5 := hr.2.2.2.2.1
      have h4 := hr.2.2.2.2.2.2.1
      obtain ⟨lev, f, j1, j2, rfl, rfl⟩ := zBoxP.get h5 k2.2
      have k4 := (zi_le (a := 2) (by decide) (by omega)).mp k2.1
      obtain ⟨c, rfl⟩ : ∃ c, lev = 2 + c := ⟨lev - 2, by omega⟩
      obtain ⟨q, hq, rfl⟩ := zi_of k3.1
      have hq4 := (zi_le hq (by omega)).mp k3.2
      refine c_laysLocal (w := zS w 0 0) d (a := w.2.1 1) rfl hr j1 j2 (fun v hs hrow => ?_)
      rw [zm_g21 d, zm_r21 d (by decide), zi_clamp (by omega), hrow q hq4]
      exact ⟨zi_inn (by omega) (by decide), h1 g c f q j1 j2 hq4 rfl rfl rfl v (zSq.sl hs)⟩
    · have g' : ¬ sp_may (w.1 6) (sp_b (2 ≤ lv ∧ zBoxP (w.2.1 1 3) lv i)) (sp_b (0 ≤ j ∧ j ≤ w.2.1 1 4)) = 0 := g
      rw [if_neg g', if_neg (by decide)]
      exact h0 g
  unfold f_X2_localEntry f_X2_localEntry_J23
  rw [zm_g6 d]
  by_cases t : lv < 2
  · rw [if_pos t]
    exact key 0 (sp_bf (fun e => Int32.not_le.mpr t e.1)).symm
  · rw [if_neg t, zm_c d, e_isBox d]
    by_cases g : zBoxP (w.2.1 1 3) lv i
    · have g9 : sp_b ((0 ≤ lv ∧ lv ≤ w.2.1 1 3) ∧ 0 ≤ i ∧ i ≤ ((1 : Int32) <<< (lv &&& 31)) - 1) = 1 := sp_bt g
      rw [g9, if_neg (by decide)]
      exact key 1 (sp_bt ⟨Int32.not_lt.mp t, g⟩).symm
    · have g9 : sp_b ((0 ≤ lv ∧ lv ≤ w.2.1 1 3) ∧ 0 ≤ i ∧ i ≤ ((1 : Int32) <<< (lv &&& 31)) - 1) = 0 := sp_bf g
      rw [g9, if_pos rfl]
      exact key 0 (sp_bf (fun e => g e.2)).symm
theorem p_willMove (d : zm_d m) {n l o : Nat} (I : zInv w n l o) {b : Int32} {Q : Int32 → zw_H → Prop} (h0 : sp_cW (w.1 6) (w.2.1 1 0) b ≠ 0 → Q 0 (zm_o m (zS w 0 (sp_cW (w.1 6) (w.2.1 1 0) b)) h)) (h1 : sp_cW (w.1 6) (w.2.1 1 0) b = 0 → ∀ k, k < n → b = Int32.ofNat k → ∀ v, zSq w v 0 → Q (sp_moves (w.2.1 1) n l o k) (zm_o m v h)) : f_X2_willMove K (some (m 0)) b (zm_o m w h) Q X := by
  unfold f_X2_willMove
  rw [zm_g6 d, zm_c d, e_isBody d, zm_c d, e_mayCT d]
  by_cases g : sp_cW (w.1 6) (w.2.1 1 0) b = 0
  · have g' : sp_may (w.1 6) (sp_b (0 ≤ b ∧ b ≤ w.2.1 1 0 - 1)) 1 = 0 := g
    obtain ⟨k1, k2, -⟩ := sp_may0.mp g'
    have hr := I k1
    have k2 := (sp_bne _).mp k2
    rw [hr.1] at k2
    obtain ⟨k, hk, rfl⟩ := zi_bd hr.2.1 k2
    rw [if_pos g', if_neg (by decide), zm_c d]
    exact c_moves (w := zS w 0 0) d (a := w.2.1 1) rfl hr hk (fun v hs => h1 g k hk rfl v (zSq.sf hs))
  · have g' : ¬ sp_may (w.1 6) (sp_b (0 ≤ b ∧ b ≤ w.2.1 1 0 - 1)) 1 = 0 := g
    rw [if_neg g', if_pos rfl]
    exact h0 g
/-- a try of steps, taken back -/
theorem c_tries (d : zm_d m) {a : Nat → Int32} (ha : w.2.1 1 = a) {n l o k : Nat} (hr : zRow a n l o) (hk : k ≤ 50) {F : Int32 → Int32 → Int32} {P : (Int32 → zw_H → Prop) → Int32 → zw_H → Prop} {Q : Int32 → zw_H → Prop} {r : Int32}
    (hP : ∀ (R : Int32 → zw_H → Prop) (v : zM), v.2.1 1 = sp_stepsA a n l o k → R r (zm_o m v h) → P R (sp_stepsN a n l o k) (zm_o m v h))
    (hQ : ∀ v, zSq w v (w.1 0) → Q r (zm_o m v h)) : oc_ (zm_o m w h) (some (m 0)) [0] (f_X2_thinks K (some (m 0)) (zm_o m w h) (fun h4 => oc_ h4 (some (m 0)) [0] (f_X2_stepsMany K (some (m 0)) (Int32.ofNat k) h4 (fun v5 h5 => P (fun v6 h6 => oc_ h6 (some (m 0)) [0] (f_X2_back K (some (m 0)) v6 h6 (fun v7 h7 => Q v7 h7) X)) v5 h5) X)) X) := by
  subst ha
  rw [zm_c d]
  refine c_thinks d ?_
  rw [zm_c d]
  refine c_stepsMany d (w := zAI w 2 (sp_cpy (w.2.1 2) (w.2.1 1) 0 0 103)) (a := w.2.1 1) rfl hr hk (fun v hs hrow => ?_)
  refine hP _ v hrow ?_
  rw [zm_c d]
  have h2 : v.2.1 2 = sp_cpy (w.2.1 2) (w.2.1 1) 0 0 103 := hs.2 2 (by decide) (by decide) (by decide) (by decide)
  have e : sp_cpy (v.2.1 1) (v.2.1 2) 0 0 103 = w.2.1 1 := sp_cpy_id (fun q hq => by rw [h2, sp_cpy_in hq]) (fun q hq => by rw [hrow]; exact sp_steps_far hr.2.1 hq k)
  refine c_back d (hQ _ ?_)
  rw [e]
  refine ⟨hs.1 0 (by decide), fun k _ h2 => hs.1 k h2, fun k k1 k2 k3 k4 => ?_⟩
  show (if k = 1 then w.2.1 1 else v.2.1 k) = w.2.1 k
  by_cases e1 : k = 1
  · rw [if_pos e1, e1]
  · rw [if_neg e1, hs.2 k e1 k2 k3 k4]
    exact if_neg k1
theorem zSq.up {w v : zM} {c : Int32} (h : zSq (zS w 0 c) v c) : zSq w v c := ⟨h.1, fun k h1 h2 => (h.2.1 k h1 h2).trans (if_neg h1), h.2.2⟩
theorem p_placeIn (d : zm_d m) {n l o : Nat} (I : zInv w n l o) {b k : Int32} {Q : Int32 → zw_H → Prop} (h0 : sp_cQ (w.1 6) (w.2.1 1 0) b k ≠ 0 → Q 0 (zm_o m (zS w 0 (sp_cQ (w.1 6) (w.2.1 1 0) b k)) h)) (h1 : sp_cQ (w.1 6) (w.2.1 1 0) b k = 0 → ∀ q c, q < n → c ≤ 50 → b = Int32.ofNat q → k = Int32.ofNat c → ∀ v, zSq w v 0 → Q (sp_stepsA (w.2.1 1) n l o c (7 + 4 * q)) (zm_o m v h)) : f_X2_placeIn K (some (m 0)) b k (zm_o m w h) Q X := by
  unfold f_X2_placeIn
  rw [zm_g6 d, zm_c d, e_isBody d, e_isAhead, zm_c d, e_mayC d]
  by_cases g : sp_cQ (w.1 6) (w.2.1 1 0) b k = 0
  · have g' : sp_may (w.1 6) (sp_b (0 ≤ b ∧ b ≤ w.2.1 1 0 - 1)) (sp_b (0 ≤ k ∧ k ≤ 50)) = 0 := g
    obtain ⟨k1, k2, k3⟩ := sp_may0.mp g'
    have hr := I k1
    have k2 := (sp_bne _).mp k2
    rw [hr.1] at k2
    have h24 := hr.2.1
    obtain ⟨q, hq, rfl⟩ := zi_bd h24 k2
    obtain ⟨c, hc, rfl⟩ := zi_51 ((sp_bne _).mp k3)
    rw [if_pos g', if_pos (by decide)]
    refine c_tries d (w := zS w 0 0) (a := w.2.1 1) (F := fun a b => a) (P := fun R v5 h5 => oc_ h5 (some (m 0)) [0] (f_X2_of K (some (m 0)) (Int32.ofNat q) 0 h5 (fun v6 h6 => R v6 h6) X)) (r := sp_stepsA (w.2.1 1) n l o c (7 + 4 * q)) rfl hr hc (fun R v hrow hR => ?_) (fun v hs => h1 g q c hq hc rfl rfl v (zSq.up hs))
    show oc_ _ _ _ _
    rw [zm_c d, e_of0 d (by omega), hrow]
    exact hR
  · have g' : ¬ sp_may (w.1 6) (sp_b (0 ≤ b ∧ b ≤ w.2.1 1 0 - 1)) (sp_b (0 ≤ k ∧ k ≤ 50)) = 0 := g
    rw [if_neg g', if_neg (by decide)]
    exact h0 g
theorem p_movesIn (d : zm_d m) {n l o : Nat} (I : zInv w n l o) {k : Int32} {Q : Int32 → zw_H → Prop} (h0 : sp_cA (w.1 6) k ≠ 0 → Q 0 (zm_o m (zS w 0 (sp_cA (w.1 6) k)) h)) (h1 : sp_cA (w.1 6) k = 0 → ∀ c, c ≤ 50 → k = Int32.ofNat c → ∀ v, zSq w v 0 → Q (sp_stepsN (w.2.1 1) n l o c) (zm_o m v h)) : f_X2_movesIn K (some (m 0)) k (zm_o m w h) Q X := by
  unfold f_X2_movesIn
  rw [zm_g6 d, e_isAhead, zm_c d, e_mayCT d]
  by_cases g : sp_cA (w.1 6) k = 0
  · have g' : sp_may (w.1 6) (sp_b (0 ≤ k ∧ k ≤ 50)) 1 = 0 := g
    obtain ⟨k1, k2, -⟩ := sp_may0.mp g'
    have hr := I k1
    obtain ⟨c, hc, rfl⟩ := zi_51 ((sp_bne _).mp k2)
    rw [if_pos g', if_pos (by decide)]
    exact c_tries d (w := zS w 0 0) (a := w.2.1 1) (F := fun a b => a) (P := fun R v5 h5 => R v5 h5) (r := sp_stepsN (w.2.1 1) n l o c) rfl hr hc (fun R v hrow hR => hR) (fun v hs => h1 g c hc rfl v (zSq.up hs))
  · have g' : ¬ sp_may (w.1 6) (sp_b (0 ≤ k ∧ k ≤ 50)) 1 = 0 := g
    rw [if_neg g', if_neg (by decide)]
    exact h0 g
theorem p_stillIn (d : zm_d m) {n l o : Nat} (I : zInv w n l o) {Q : Int32 → zw_H → Prop} (h0 : sp_cT (w.1 6) ≠ 0 → Q 0 (zm_o m (zS w 0 (sp_cT (w.1 6))) h)) (h1 : sp_cT (w.1 6) = 0 → ∀ v, zSq w v 0 → Q (sp_stillIn (w.2.1 1) n l o) (zm_o m v h)) : f_X2_stillIn K (some (m 0)) (zm_o m w h) Q X := by
  unfold f_X2_stillIn
  refine q_asn d h0 (fun g gt => ?_)
  have hr := I gt
  have H := h1 g
  have h24 := hr.2.1
  rw [zm_c d]
  refine c_thinks d ?_
  have hle : sp_stillK (w.2.1 1) n l o ≤ 51 := zfirst_le _ _
  have hno : ∀ k, k < sp_stillK (w.2.1 1) n l o → sp_still (sp_stepsA (w.2.1 1) n l o k) n l o < n := fun k hk => Classical.not_not.mp (of_decide_eq_false (zfirst_no (fun k => decide (¬ sp_still (sp_stepsA (w.2.1 1) n l o k) n l o < n)) 51 k hk))
  have hyes : sp_stillK (w.2.1 1) n l o < 51 → ¬ sp_still (sp_stepsA (w.2.1 1) n l o (sp_stillK (w.2.1 1) n l o)) n l o < n := fun g2 => of_decide_eq_true (zfirst_yes (fun k => decide (¬ sp_still (sp_stepsA (w.2.1 1) n l o k) n l o < n)) 51 g2)
  unfold sp_stillIn at H
  generalize sp_stillK (w.2.1 1) n l o = kk at hle hno hyes H
  have hback : ∀ (r : Int32) (k : Nat) (u : zM), zSm (zAI (zS w 0 0) 2 (sp_cpy ((zS w 0 0).2.1 2) ((zS w 0 0).2.1 1) 0 0 103)) u → u.2.1 1 = sp_stepsA (w.2.1 1) n l o k → (∀ v, zSq w v 0 → Q r (zm_o m v h)) → f_X2_back K (some (m 0)) r (zm_o m u h) (fun v7 h6 => Q v7 h6) X := by
    intro r k v hs hrow HH
    have h2 : v.2.1 2 = sp_cpy (w.2.1 2) (w.2.1 1) 0 0 103 := hs.2 2 (by decide) (by decide) (by decide) (by decide)
    have e : sp_cpy (v.2.1 1) (v.2.1 2) 0 0 103 = w.2.1 1 := sp_cpy_id (fun q hq => by rw [h2, sp_cpy_in hq]) (fun q hq => by rw [hrow]; exact sp_steps_far h24 hq k)
    refine c_back d (HH _ ?_)
    rw [e]
    refine ⟨hs.1 0 (by decide), fun k h1 h2 => (hs.1 k h2).trans (if_neg h1), fun k k1 k2 k3 k4 => ?_⟩
    show (if k = 1 then w.2.1 1 else v.2.1 k) = w.2.1 k
    by_cases e1 : k = 1
    · rw [if_pos e1, e1]
    · rw [if_neg e1, hs.2 k e1 k2 k3 k4]
      exact if_neg k1
  refine zl3_inv (B := f_X2_stillIn_B17 K Q X _ _ (some (m 0))) (fun k s x hh => x = Int32.ofNat k ∧ ∃ u, hh = zm_o m u h ∧ zSm (zAI (zS w 0 0) 2 (sp_cpy ((zS w 0 0).2.1 2) ((zS w 0 0).2.1 1) 0 0 103)) u ∧ u.2.1 1 = sp_stepsA (w.2.1 1) n l o k) (n := kk) (fun R k hk s x hh hp hR => ?_) (fun R s x hh hp => ?_) kk zfu 0 (by omega) (Nat.lt_of_le_of_lt hle (by decide)) _ _ _ ⟨rfl, _, rfl, zSm.refl _, rfl⟩
  · obtain ⟨rfl, u, rfl, hs, hrow⟩ := hp
    have g1 := hno k hk
    unfold f_X2_stillIn_B17
    rw [if_neg (by rw [show (50 : Int32) = Int32.ofNat 50 from rfl, zi_lt (by omega) (by omega)]; omega), zm_c d]
    refine c_isStill d hrow (zRow_steps hr k) (fun v hv => ?_)
    rw [sp_bf (fun e => e g1), if_pos rfl, zm_c d]
    refine c_steps d (hv.row.trans hrow) (zRow_steps hr k) (fun t ht ht2 => ?_)
    simp only [olet_iff, zi_succ]
    exact hR _ _ _ ⟨rfl, t, rfl, (hs.trans hv.sm).trans ht, ht2⟩
  · obtain ⟨hx, u, hh2, hs, hrow⟩ := hp
    rw [hx, hh2]
    unfold f_X2_stillIn_B17
    by_cases g2 : kk < 51
    · have g1 := hyes g2
      rw [if_pos g2] at H
      rw [if_neg (by rw [show (50 : Int32) = Int32.ofNat 50 from rfl, zi_lt (by omega) (by omega)]; omega), zm_c d]
      refine c_isStill d hrow (zRow_steps hr _) (fun v hv => ?_)
      rw [sp_bt g1, if_neg (by decide)]
      dsimp only
      rw [zm_c d]
      exact hback _ _ v (hs.trans hv.sm) (hv.row.trans hrow) H
    · rw [if_neg g2] at H
      have e51 : kk = 51 := by omega
      rw [if_pos (by rw [e51]; decide)]
      dsimp only
      rw [zm_c d]
      exact hback _ _ u hs hrow H
end ZM19
