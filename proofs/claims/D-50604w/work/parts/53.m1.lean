set_option maxRecDepth 100000
/-! the reference's small methods, as equations -/
def sp_b (p : Prop) [Decidable p] : Int32 := if p then 1 else 0
theorem sp_b0 (p : Prop) [Decidable p] : (sp_b p = 0) = ¬ p := by
  unfold sp_b
  split
  · rename_i h; exact propext ⟨fun e => absurd e (by decide), fun e => absurd h e⟩
  · rename_i h; exact propext ⟨fun _ => h, fun _ => rfl⟩
theorem sp_b01 (p : Prop) [Decidable p] : (sp_b p = 0 ∨ sp_b p = 1) = True := by
  unfold sp_b
  split
  · exact eq_true (Or.inr rfl)
  · exact eq_true (Or.inl rfl)
theorem sp_bt {p : Prop} [Decidable p] (h : p) : sp_b p = 1 := if_pos h
theorem sp_bf {p : Prop} [Decidable p] (h : ¬ p) : sp_b p = 0 := if_neg h
theorem sp_cong {p q : Prop} [Decidable p] [Decidable q] (h : p ↔ q) : sp_b p = sp_b q := by
  unfold sp_b
  by_cases hp : p
  · rw [if_pos hp, if_pos (h.mp hp)]
  · rw [if_neg hp, if_neg (fun e => hp (h.mpr e))]
theorem zS_at (w : zM) (k : Nat) (v : Int32) : (zS w k v).1 k = v := by
  show (if k = k then v else _) = v
  rw [if_pos rfl]
theorem e_in {K : Nat → Option Nat} {a b c : Int32} {h : zw_H} {Q : Int32 → zw_H → Prop} {X : String → Nat → zw_H → Prop} : f_X2_in K a b c h Q X = Q (sp_b (b ≤ a ∧ a ≤ c)) h := by
  unfold f_X2_in
  split
  · rename_i h1
    rw [sp_bf (fun e => (Int32.not_le.mpr h1) e.1)]
  · rename_i h1
    split
    · rename_i h2
      rw [sp_bf (fun e => (Int32.not_le.mpr h2) e.2)]
    · rename_i h2
      rw [sp_bt ⟨Int32.not_lt.mp h1, Int32.not_lt.mp h2⟩]
theorem e_one {K : Nat → Option Nat} {a : Int32} {h : zw_H} {Q : Int32 → zw_H → Prop} {X : String → Nat → zw_H → Prop} : f_X2_one K a h Q X = Q (sp_b (a ≠ 0)) h := by
  unfold f_X2_one
  split
  · rename_i h1
    rw [sp_bf (fun e => e h1)]
  · rename_i h1
    rw [sp_bt h1]
def sp_may (a b c : Int32) : Int32 := if a ≠ 0 then if b ≠ 0 then if c = 0 then 3 else 0 else 2 else 1
section ZM1
variable {m : Nat → Nat} {w : zM} {h : zw_H} {K : Nat → Option Nat} {X : String → Nat → zw_H → Prop}
theorem e_mayJ (d : zm_d m) {s0 : Int32} {Q : Int32 → zw_H → Prop} : f_X2_may_J26 K Q X (some (m 0)) s0 (some (m 0)) (zm_o m w h) = Q (sp_b (s0 = 0)) (zm_o m (zS w 0 s0) h) := by
  unfold f_X2_may_J26
  rw [zm_p0 d, zm_g0 d, zS_at]
  split
  · rename_i h1
    rw [sp_bf h1]
  · rename_i h1
    rw [sp_bt (Classical.not_not.mp h1)]
theorem e_may (d : zm_d m) {a b c : Int32} {Q : Int32 → zw_H → Prop} : f_X2_may K (some (m 0)) a b c (zm_o m w h) Q X = Q (sp_b (sp_may a b c = 0)) (zm_o m (zS w 0 (sp_may a b c)) h) := by
  unfold f_X2_may sp_may
  simp only [e_mayJ d]
  split
  · split
    · split <;> rfl
    · rfl
  · rfl
theorem e_mayTwo (d : zm_d m) {a b : Int32} {Q : Int32 → zw_H → Prop} : f_X2_mayTwo K (some (m 0)) a b (zm_o m w h) Q X = Q (sp_b (sp_may a b 1 = 0)) (zm_o m (zS w 0 (sp_may a b 1)) h) := by
  unfold f_X2_mayTwo
  rw [zm_c d, e_may d]
  simp only [sp_b01, true_and]
theorem e_of (d : zm_d m) {a b : Int32} {Q : Int32 → zw_H → Prop} : f_X2_of K (some (m 0)) a b (zm_o m w h) Q X = (vp_in ((7 + 4 * a) + b) 103 ∧ Q (w.2.1 1 ((7 + 4 * a) + b).toNatClampNeg) (zm_o m w h)) := by
  unfold f_X2_of
  rw [zm_g1 d, zm_r1 d (by decide)]
theorem e_puts (d : zm_d m) {a b c : Int32} {Q : zw_H → Prop} : f_X2_puts K (some (m 0)) a b c (zm_o m w h) Q X = (vp_in ((7 + 4 * a) + b) 103 ∧ Q (zm_o m (zAI w 1 (upd (w.2.1 1) ((7 + 4 * a) + b).toNatClampNeg c)) h)) := by
  unfold f_X2_puts
  rw [zm_g1 d, zm_s1 d (by decide)]
theorem e_isBody (d : zm_d m) {a : Int32} {Q : Int32 → zw_H → Prop} : f_X2_isBody K (some (m 0)) a (zm_o m w h) Q X = Q (sp_b (0 ≤ a ∧ a ≤ w.2.1 1 0 - 1)) (zm_o m w h) := by
  unfold f_X2_isBody
  rw [zm_g1 d, zm_r1 d (by decide)]
  simp only [e_in, sp_b01, true_and]
  exact propext ⟨fun g => g.2, fun g => ⟨zi_inn (a := 0) (by decide) (by decide), g⟩⟩
theorem e_isPoint {a : Int32} {Q : Int32 → zw_H → Prop} : f_X2_isPoint K a h Q X = Q (sp_b (0 ≤ a ∧ a ≤ 255)) h := by
  unfold f_X2_isPoint
  simp only [e_in, sp_b01, true_and]
def sp_wide (l : Int32) : Int32 := 256 >>> (l &&& 31)
def sp_centre (l i : Int32) : Int32 := i * sp_wide l + sp_wide l / 2
def sp_far (a b : Int32) : Int32 := if b ≤ a then a - b else b - a
theorem e_wide {a : Int32} {Q : Int32 → zw_H → Prop} : f_X2_wide K a h Q X = Q (sp_wide a) h := rfl
theorem e_boxOf {a b : Int32} {Q : Int32 → zw_H → Prop} : f_X2_boxOf K a b h Q X = (sp_wide a ≠ 0 ∧ Q (b / sp_wide a) h) := by
  unfold f_X2_boxOf
  rw [e_wide]
theorem e_centre {a b : Int32} {Q : Int32 → zw_H → Prop} : f_X2_centre K a b h Q X = Q (sp_centre a b) h := by
  unfold f_X2_centre
  rw [e_wide, e_wide]
  exact propext ⟨fun g => g.2, fun g => ⟨by decide, g⟩⟩
theorem e_far {a b : Int32} {Q : Int32 → zw_H → Prop} : f_X2_far K a b h Q X = Q (sp_far a b) h := by
  unfold f_X2_far sp_far
  split <;> rfl
theorem e_isIn (d : zm_d m) {a l i : Int32} {Q : Int32 → zw_H → Prop} : f_X2_isIn K (some (m 0)) a l i (zm_o m w h) Q X = (vp_in ((7 + 4 * a) + 0) 103 ∧ sp_wide l ≠ 0 ∧ Q (sp_b (w.2.1 1 ((7 + 4 * a) + 0).toNatClampNeg / sp_wide l = i)) (zm_o m w h)) := by
  unfold f_X2_isIn
  rw [zm_c d, e_of d, e_boxOf]
  congr 2
  split
  · rename_i h1
    rw [sp_bf h1]
  · rename_i h1
    rw [sp_bt (Classical.not_not.mp h1)]
/-- how many bodies are in a box: out of the row of numbers -/
def sp_bodiesIn (a : Nat → Int32) (n : Nat) (l i : Int32) : Int32 := zacc (fun b s => s + sp_b (a (7 + 4 * b) / sp_wide l = i)) 0 n
theorem zi_ix {b k : Nat} : (7 + 4 * Int32.ofNat b) + Int32.ofNat k = Int32.ofNat (7 + 4 * b + k) := by
  rw [Int32.ofNat_add, Int32.ofNat_add, Int32.ofNat_mul]
  rfl
theorem c_bodiesIn (d : zm_d m) {n : Nat} (hn : w.2.1 1 0 = Int32.ofNat n) (h24 : n ≤ 24) {l i : Int32} (hl : sp_wide l ≠ 0) {Q : Int32 → zw_H → Prop} (hQ : Q (sp_bodiesIn (w.2.1 1) n l i) (zm_o m w h)) : f_X2_bodiesIn K (some (m 0)) l i (zm_o m w h) Q X := by
  unfold f_X2_bodiesIn
  have key := zl3_run (B := f_X2_bodiesIn_B5 K Q X (fun v7 h3 => Q v7 h3) (some (m 0)) l i) (fun b => zacc (fun b s => s + sp_b (w.2.1 1 (7 + 4 * b) / sp_wide l = i)) 0 b) (fun b => Int32.ofNat b) (fun _ => zm_o m w h) (n := n) (fun R b hb hR => ?_) (fun R => ?_) n zfu 0 (by omega) (Nat.lt_of_le_of_lt h24 (by decide))
  · exact key
  · unfold f_X2_bodiesIn_B5
    rw [zm_g1 d, zm_r1 d (by decide)]
    refine ⟨zi_inn (a := 0) (by decide) (by decide), ?_⟩
    rw [show (0 : Int32).toNatClampNeg = 0 from rfl, hn, if_neg (by rw [zi_le (by omega) (by omega)]; omega), zm_c d, e_isIn d, show ((7 : Int32) + 4 * Int32.ofNat b) + 0 = Int32.ofNat (7 + 4 * b) from zi_ix (k := 0), zi_clamp (by omega)]
    refine ⟨zi_inn (by omega) (by decide), hl, ?_⟩
    rw [e_one]
    simp only [olet_iff, zi_succ]
    rw [sp_cong (q := w.2.1 1 (7 + 4 * b) / sp_wide l = i) (by rw [ne_eq, sp_b0, Classical.not_not])]
    exact hR
  · unfold f_X2_bodiesIn_B5
    rw [zm_g1 d, zm_r1 d (by decide)]
    refine ⟨zi_inn (a := 0) (by decide) (by decide), ?_⟩
    rw [show (0 : Int32).toNatClampNeg = 0 from rfl, hn, if_pos (by rw [zi_le (by omega) (by omega)]; omega)]
    exact hQ
end ZM1
