set_option maxRecDepth 100000
/-! asking the reference: what may be asked -/
theorem sp_bne (p : Prop) [Decidable p] : sp_b p ≠ 0 ↔ p := by
  rw [ne_eq, sp_b0, Classical.not_not]
theorem sp_may0 {a b c : Int32} : sp_may a b c = 0 ↔ a ≠ 0 ∧ b ≠ 0 ∧ c ≠ 0 := by
  unfold sp_may
  by_cases g1 : a ≠ 0
  · rw [if_pos g1]
    by_cases g2 : b ≠ 0
    · rw [if_pos g2]
      by_cases g3 : c = 0
      · rw [if_pos g3]
        exact ⟨fun e => absurd e (by decide), fun e => absurd g3 e.2.2⟩
      · rw [if_neg g3]
        exact ⟨fun _ => ⟨g1, g2, g3⟩, fun _ => rfl⟩
    · rw [if_neg g2]
      exact ⟨fun e => absurd e (by decide), fun e => absurd e.2.1 g2⟩
  · rw [if_neg g1]
    exact ⟨fun e => absurd e (by decide), fun e => absurd e.1 g1⟩
/-- what a query leaves of the state: the code of what was thrown, and scratch -/
def zSq (w v : zM) (c : Int32) : Prop := v.1 0 = c ∧ (∀ k, k ≠ 0 → k ≠ 20 → v.1 k = w.1 k) ∧ (∀ k, k ≠ 2 → k ≠ 18 → k ≠ 19 → k ≠ 23 → v.2.1 k = w.2.1 k)
theorem zSq.id (w : zM) (c : Int32) : zSq w (zS w 0 c) c := ⟨rfl, fun _ h _ => if_neg h, fun _ _ _ _ _ => rfl⟩
theorem zSq.sf {w v : zM} {c : Int32} (h : zSf (zS w 0 c) v) : zSq w v c := ⟨h.1 0 (by decide), fun k h1 h2 => (h.1 k h2).trans (if_neg h1), fun k _ h2 h3 _ => h.2.1 k h2 h3⟩
theorem zSq.sl {w v : zM} {c : Int32} (h : zSl (zS w 0 c) v) : zSq w v c := ⟨by rw [h.1]; rfl, fun k h1 _ => by rw [h.1]; exact if_neg h1, fun k _ _ _ _ => by rw [h.2]; rfl⟩
theorem zSq.sm {w v : zM} {c : Int32} {a : Nat → Int32} (h : zSm (zS w 0 c) v) (ha : w.2.1 1 = a) (hv : v.2.1 1 = a) : zSq w v c := ⟨h.1 0 (by decide), fun k h1 h2 => (h.1 k h2).trans (if_neg h1), fun k _ h2 h3 h4 => by
  by_cases e : k = 1
  · rw [e, ha, hv]
  · exact h.2 k e h2 h3 h4⟩
theorem zSq.row {w v : zM} {c : Int32} (h : zSq w v c) : v.2.1 1 = w.2.1 1 := h.2.2 1 (by decide) (by decide) (by decide) (by decide)
def zInv (w : zM) (n l o : Nat) : Prop := w.1 6 ≠ 0 → zRow (w.2.1 1) n l o
def sp_cP (t x : Int32) : Int32 := sp_may t (sp_b (0 ≤ x ∧ x ≤ 255)) 1
def sp_cT (t : Int32) : Int32 := sp_may t 1 1
theorem zi_pt {x : Int32} (h : 0 ≤ x ∧ x ≤ 255) : ∃ y : Nat, y < 256 ∧ x = Int32.ofNat y := by
  obtain ⟨y, hy, rfl⟩ := zi_of h.1
  have := (zi_le (b := 255) hy (by decide)).mp h.2
  exact ⟨y, by omega, rfl⟩
theorem sp_cP0 {t x : Int32} (h : sp_cP t x = 0) : t ≠ 0 ∧ ∃ y : Nat, y < 256 ∧ x = Int32.ofNat y := by
  obtain ⟨h1, h2, -⟩ := sp_may0.mp h
  exact ⟨h1, zi_pt ((sp_bne _).mp h2)⟩
theorem sp_cT0 {t : Int32} (h : sp_cT t = 0) : t ≠ 0 := (sp_may0.mp h).1
section ZM17
variable {m : Nat → Nat} {w : zM} {h : zw_H} {K : Nat → Option Nat} {X : String → Nat → zw_H → Prop}
theorem e_mayC (d : zm_d m) {a b c : Int32} {Q : Int32 → zw_H → Prop} : f_X2_may K (some (m 0)) a b c (zm_o m w h) Q X = (if sp_may a b c = 0 then Q 1 (zm_o m (zS w 0 0) h) else Q 0 (zm_o m (zS w 0 (sp_may a b c)) h)) := by
  rw [e_may d]
  by_cases g : sp_may a b c = 0
  · rw [if_pos g, sp_bt g, g]
  · rw [if_neg g, sp_bf g]
theorem e_mayCT (d : zm_d m) {a b : Int32} {Q : Int32 → zw_H → Prop} : f_X2_mayTwo K (some (m 0)) a b (zm_o m w h) Q X = (if sp_may a b 1 = 0 then Q 1 (zm_o m (zS w 0 0) h) else Q 0 (zm_o m (zS w 0 (sp_may a b 1)) h)) := by
  rw [e_mayTwo d]
  by_cases g : sp_may a b 1 = 0
  · rw [if_pos g, sp_bt g, g]
  · rw [if_neg g, sp_bf g]
theorem e_mayAsk (d : zm_d m) {Q : Int32 → zw_H → Prop} : f_X2_mayAsk K (some (m 0)) (zm_o m w h) Q X = (if sp_cT (w.1 6) = 0 then Q 1 (zm_o m (zS w 0 0) h) else Q 0 (zm_o m (zS w 0 (sp_cT (w.1 6))) h)) := by
  unfold f_X2_mayAsk sp_cT
  rw [zm_g6 d, zm_c d, e_mayC d]
  split
  · exact propext ⟨fun g => g.2, fun g => ⟨Or.inr rfl, g⟩⟩
  · exact propext ⟨fun g => g.2, fun g => ⟨Or.inl rfl, g⟩⟩
theorem e_mayPoint (d : zm_d m) {x : Int32} {Q : Int32 → zw_H → Prop} : f_X2_mayPoint K (some (m 0)) x (zm_o m w h) Q X = (if sp_cP (w.1 6) x = 0 then Q 1 (zm_o m (zS w 0 0) h) else Q 0 (zm_o m (zS w 0 (sp_cP (w.1 6) x)) h)) := by
  unfold f_X2_mayPoint sp_cP
  rw [zm_g6 d, e_isPoint, zm_c d, e_mayCT d]
  split
  · exact propext ⟨fun g => g.2, fun g => ⟨Or.inr rfl, g⟩⟩
  · exact propext ⟨fun g => g.2, fun g => ⟨Or.inl rfl, g⟩⟩
theorem e_isLevel (d : zm_d m) {l : Int32} {Q : Int32 → zw_H → Prop} : f_X2_isLevel K (some (m 0)) l (zm_o m w h) Q X = Q (sp_b (0 ≤ l ∧ l ≤ w.2.1 1 3)) (zm_o m w h) := by
  unfold f_X2_isLevel
  rw [e_a3 d, e_in, sp_b01, true_and]
theorem e_isBox (d : zm_d m) {l i : Int32} {Q : Int32 → zw_H → Prop} : f_X2_isBox K (some (m 0)) l i (zm_o m w h) Q X = Q (sp_b ((0 ≤ l ∧ l ≤ w.2.1 1 3) ∧ 0 ≤ i ∧ i ≤ ((1 : Int32) <<< (l &&& 31)) - 1)) (zm_o m w h) := by
  unfold f_X2_isBox
  rw [zm_c d, e_isLevel d]
  by_cases g : 0 ≤ l ∧ l ≤ w.2.1 1 3
  · rw [sp_bt g, if_neg (by decide), e_in]
    by_cases g2 : 0 ≤ i ∧ i ≤ ((1 : Int32) <<< (l &&& 31)) - 1
    · rw [sp_bt g2, if_neg (by decide), sp_bt ⟨g, g2⟩]
    · rw [sp_bf g2, if_pos rfl, sp_bf (fun e => g2 e.2)]
  · rw [sp_bf g, if_pos rfl, sp_bf (fun e => g e.1)]
theorem e_isMoment {k : Int32} {Q : Int32 → zw_H → Prop} : f_X2_isMoment K k h Q X = Q (sp_b (0 ≤ k ∧ k ≤ 4)) h := by
  unfold f_X2_isMoment
  rw [e_in, sp_b01, true_and]
theorem e_isAhead {k : Int32} {Q : Int32 → zw_H → Prop} : f_X2_isAhead K k h Q X = Q (sp_b (0 ≤ k ∧ k ≤ 50)) h := by
  unfold f_X2_isAhead
  rw [e_in, sp_b01, true_and]
/-- whether there is a box -/
abbrev zBoxP (L l i : Int32) : Prop := (0 ≤ l ∧ l ≤ L) ∧ 0 ≤ i ∧ i ≤ ((1 : Int32) <<< (l &&& 31)) - 1
theorem zBoxP.get {l : Nat} {x i : Int32} (h5 : l ≤ 5) (h : zBoxP (Int32.ofNat l) x i) : ∃ lev j : Nat, lev ≤ l ∧ j < 2 ^ lev ∧ x = Int32.ofNat lev ∧ i = Int32.ofNat j := by
  obtain ⟨⟨h1, h2⟩, h3, h4⟩ := h
  obtain ⟨lev, hlev, rfl⟩ := zi_of h1
  obtain ⟨j, hj, rfl⟩ := zi_of h3
  have g := (zi_le hlev (by omega)).mp h2
  have hp := zi_p5 (show lev ≤ 5 by omega)
  have hpos := Nat.two_pow_pos lev
  rw [zi_shl (by omega), show Int32.ofNat (2 ^ lev) - 1 = Int32.ofNat (2 ^ lev - 1) from (Int32.ofNat_sub (2 ^ lev) 1 hpos).symm, zi_le hj (by omega)] at h4
  exact ⟨lev, j, g, by omega, rfl, rfl⟩
def sp_cM (t L l i k : Int32) : Int32 := sp_may t (sp_b (zBoxP L l i)) (sp_b (0 ≤ k ∧ k ≤ 4))
theorem e_mayMoment (d : zm_d m) {l i k : Int32} {Q : Int32 → zw_H → Prop} : f_X2_mayMoment K (some (m 0)) l i k (zm_o m w h) Q X = (if sp_cM (w.1 6) (w.2.1 1 3) l i k = 0 then Q 1 (zm_o m (zS w 0 0) h) else Q 0 (zm_o m (zS w 0 (sp_cM (w.1 6) (w.2.1 1 3) l i k)) h)) := by
  unfold f_X2_mayMoment sp_cM
  rw [zm_g6 d, zm_c d, e_isBox d, e_isMoment, zm_c d, e_mayC d]
  split
  · exact propext ⟨fun g => g.2, fun g => ⟨Or.inr rfl, g⟩⟩
  · exact propext ⟨fun g => g.2, fun g => ⟨Or.inl rfl, g⟩⟩
def sp_full (a : Nat → Int32) (n l : Nat) (c : Nat) : Int32 := zacc (fun i s => s + sp_b (0 < sp_bodiesIn a n (Int32.ofNat l) (Int32.ofNat i))) 0 c
theorem c_full (d : zm_d m) {a : Nat → Int32} (ha : w.2.1 1 = a) {n l o : Nat} (hr : zRow a n l o) {Q : Int32 → zw_H → Prop} (hQ : Q (sp_full a n l (2 ^ l)) (zm_o m w h)) : f_X2_full K (some (m 0)) (zm_o m w h) Q X := by
  obtain ⟨hn, h24, hl, h2, h5, -⟩ := hr
  have hp := zi_p5 h5
  unfold f_X2_full
  refine zl3_run (B := f_X2_full_B4 K Q X _ (some (m 0))) (fun i => sp_full a n l i) (fun i => Int32.ofNat i) (fun _ => zm_o m w h) (n := 2 ^ l) (fun R i hi hR => ?_) (fun R => ?_) (2 ^ l) zfu 0 (by omega) (Nat.lt_of_le_of_lt hp (by decide))
  · unfold f_X2_full_B4 f_X2_full_J36
    rw [e_a3 d, ha, hl, zi_shl (by omega), if_neg (by rw [zi_le (by omega) (by omega)]; omega), e_a3 d, ha, hl, zm_c d]
    refine c_bodiesIn d (n := n) (by rw [ha]; exact hn) h24 (zi_wide0 (by omega)) ?_
    rw [ha]
    simp only [e_one, olet_iff, zi_succ]
    have es : sp_full a n l (i + 1) = sp_full a n l i + sp_b (0 < sp_bodiesIn a n (Int32.ofNat l) (Int32.ofNat i)) := rfl
    rw [es] at hR
    by_cases g : 0 < sp_bodiesIn a n (Int32.ofNat l) (Int32.ofNat i)
    · rw [sp_bt g] at hR
      rw [if_neg (Int32.not_le.mpr g)]
      exact hR
    · rw [sp_bf g] at hR
      rw [if_pos (Int32.not_lt.mp g)]
      exact hR
  · unfold f_X2_full_B4
    rw [e_a3 d, ha, hl, zi_shl (by omega), if_pos (by rw [zi_le (by omega) (by omega)]; omega)]
    exact hQ
def sp_end (a : Nat → Int32) (g : Int32) (n : Nat) : Int32 := zacc (fun b best => if best = -1 then a (7 + 4 * b) else if g = 0 then (if best ≤ a (7 + 4 * b) then best else a (7 + 4 * b)) else (if a (7 + 4 * b) ≤ best then best else a (7 + 4 * b))) (-1) n
theorem c_end (d : zm_d m) {a : Nat → Int32} (ha : w.2.1 1 = a) {n l o : Nat} (hr : zRow a n l o) {g : Int32} {Q : Int32 → zw_H → Prop} (hQ : Q (sp_end a g n) (zm_o m w h)) : f_X2_end K (some (m 0)) g (zm_o m w h) Q X := by
  subst ha
  have hn := hr.1
  have h24 := hr.2.1
  unfold f_X2_end
  refine zl3_run (B := f_X2_end_B4 K Q X _ (some (m 0)) g) (fun b => sp_end (w.2.1 1) g b) (fun b => Int32.ofNat b) (fun _ => zm_o m w h) (n := n) (fun R b hb hR => ?_) (fun R => ?_) n zfu 0 (by omega) (Nat.lt_of_le_of_lt h24 (by decide))
  · unfold f_X2_end_B4 f_X2_end_J46 f_X2_end_J53
    have es : sp_end (w.2.1 1) g (b + 1) = (if sp_end (w.2.1 1) g b = -1 then w.2.1 1 (7 + 4 * b) else if g = 0 then (if sp_end (w.2.1 1) g b ≤ w.2.1 1 (7 + 4 * b) then sp_end (w.2.1 1) g b else w.2.1 1 (7 + 4 * b)) else (if w.2.1 1 (7 + 4 * b) ≤ sp_end (w.2.1 1) g b then sp_end (w.2.1 1) g b else w.2.1 1 (7 + 4 * b))) := rfl
    rw [es] at hR
    rw [e_n d hn, if_neg (by rw [zi_le (by omega) (by omega)]; omega)]
    simp only [olet_iff, zi_succ, zm_c d, e_of0 d (show b < 24 by omega)]
    by_cases g1 : sp_end (w.2.1 1) g b = -1
    · rw [if_pos g1] at hR ⊢
      exact hR
    · rw [if_neg g1] at hR ⊢
      by_cases g2 : g = 0
      · rw [if_pos g2] at hR ⊢
        split
        · rename_i g3
          rw [if_pos g3] at hR
          exact hR
        · rename_i g3
          rw [if_neg g3] at hR
          exact hR
      · rw [if_neg g2] at hR ⊢
        split
        · rename_i g3
          rw [if_pos g3] at hR
          exact hR
        · rename_i g3
          rw [if_neg g3] at hR
          exact hR
  · unfold f_X2_end_B4
    rw [e_n d hn, if_pos (by rw [zi_le (by omega) (by omega)]; omega)]
    exact hQ
/-! count, body, box .. -/
def sp_cC (t what : Int32) : Int32 := sp_may t (sp_b (0 ≤ what ∧ what ≤ 13)) 1
def sp_count (a : Nat → Int32) (n l : Nat) (k : Nat) : Int32 := match k with
  | 0 => a 0
  | 1 => a 0 - sp_fixedMany a n
  | 2 => sp_fixedMany a n
  | 3 => a 3
  | 4 => a 4
  | 5 => a 5
  | 6 => a 6
  | 7 => sp_charge a n 0 0 0
  | 8 => sp_charge a n 0 0 1
  | 9 => sp_full a n l (2 ^ l)
  | 10 => a 1
  | 11 => sp_end a 0 n
  | 12 => sp_end a 1 n
  | _ => sp_wide (a 3)
theorem zi_14 {x : Int32} (h : 0 ≤ x ∧ x ≤ 13) : x = 0 ∨ x = 1 ∨ x = 2 ∨ x = 3 ∨ x = 4 ∨ x = 5 ∨ x = 6 ∨ x = 7 ∨ x = 8 ∨ x = 9 ∨ x = 10 ∨ x = 11 ∨ x = 12 ∨ x = 13 := by
  obtain ⟨k, hk, rfl⟩ := zi_of h.1
  have := (zi_le (b := 13) hk (by decide)).mp h.2
  have h9 : k = 0 ∨ k = 1 ∨ k = 2 ∨ k = 3 ∨ k = 4 ∨ k = 5 ∨ k = 6 ∨ k = 7 ∨ k = 8 ∨ k = 9 ∨ k = 10 ∨ k = 11 ∨ k = 12 ∨ k = 13 := by omega
  rcases h9 with rfl | rfl | rfl | rfl | rfl | rfl | rfl | rfl | rfl | rfl | rfl | rfl | rfl | rfl <;> decide
theorem p_count (d : zm_d m) {n l o : Nat} (I : zInv w n l o) {x : Int32} {Q : Int32 → zw_H → Prop} (h0 : sp_cC (w.1 6) x ≠ 0 → Q 0 (zm_o m (zS w 0 (sp_cC (w.1 6) x)) h)) (h1 : sp_cC (w.1 6) x = 0 → Q (sp_count (w.2.1 1) n l x.toNatClampNeg) (zm_o m (zS w 0 0) h)) : f_X2_count K (some (m 0)) x (zm_o m w h) Q X := by
  unfold f_X2_count
  rw [zm_g6 d, e_in, zm_c d, e_mayCT d]
  by_cases g : sp_cC (w.1 6) x = 0
  · have g' : sp_may (w.1 6) (sp_b (0 ≤ x ∧ x ≤ 13)) 1 = 0 := g
    rw [if_pos g']
    have h1 := h1 g
    obtain ⟨k1, k2, -⟩ := sp_may0.mp g'
    have hr := I k1
    have hn := hr.1
    have h24 := hr.2.1
    have hw0 : sp_wide 0 ≠ 0 := by decide
    have e1 : (zS w 0 0).2.1 1 = w.2.1 1 := rfl
    rcases zi_14 ((sp_bne _).mp k2) with rfl | rfl | rfl | rfl | rfl | rfl | rfl | rfl | rfl | rfl | rfl | rfl | rfl | rfl
    · rw [if_pos (by decide), if_pos rfl, zm_g1 d, zm_r1 d (by decide)]
      exact ⟨zi_inn (a := 0) (by decide) (by decide), h1⟩
    · rw [if_pos (by decide), if_neg (by decide), if_pos rfl, zm_g1 d, zm_r1 d (by decide)]
      refine ⟨zi_inn (a := 0) (by decide) (by decide), ?_⟩
      rw [zm_c d]
      exact c_fixedMany (w := zS w 0 0) d hn h24 h1
    · rw [if_pos (by decide), if_neg (by decide), if_neg (by decide), if_pos rfl, zm_c d]
      exact c_fixedMany (w := zS w 0 0) d hn h24 h1
    · rw [if_pos (by decide), if_neg (by decide), if_neg (by decide), if_neg (by decide), if_pos rfl, zm_g1 d, zm_r1 d (by decide)]
      exact ⟨zi_inn (a := 3) (by decide) (by decide), h1⟩
    · rw [if_pos (by decide), if_neg (by decide), if_neg (by decide), if_neg (by decide), if_neg (by decide), if_pos rfl, zm_g1 d, zm_r1 d (by decide)]
      exact ⟨zi_inn (a := 4) (by decide) (by decide), h1⟩
    · rw [if_pos (by decide), if_neg (by decide), if_neg (by decide), if_neg (by decide), if_neg (by decide), if_neg (by decide), if_pos rfl, zm_g1 d, zm_r1 d (by decide)]
      exact ⟨zi_inn (a := 5) (by decide) (by decide), h1⟩
    · rw [if_pos (by decide), if_neg (by decide), if_neg (by decide), if_neg (by decide), if_neg (by decide), if_neg (by decide), if_neg (by decide), if_pos rfl, zm_g1 d, zm_r1 d (by decide)]
      exact ⟨zi_inn (a := 6) (by decide) (by decide), h1⟩
    · rw [if_pos (by decide), if_neg (by decide), if_neg (by decide), if_neg (by decide), if_neg (by decide), if_neg (by decide), if_neg (by decide), if_neg (by decide), if_pos rfl, zm_c d]
      exact c_charge (w := zS w 0 0) d hn h24 hw0 h1
    · rw [if_pos (by decide), if_neg (by decide), if_neg (by decide), if_neg (by decide), if_neg (by decide), if_neg (by decide), if_neg (by decide), if_neg (by decide), if_neg (by decide), if_pos rfl, zm_c d]
      exact c_charge (w := zS w 0 0) d hn h24 hw0 h1
    · rw [if_pos (by decide), if_neg (by decide), if_neg (by decide), if_neg (by decide), if_neg (by decide), if_neg (by decide), if_neg (by decide), if_neg (by decide), if_neg (by decide), if_neg (by decide), if_pos rfl, zm_c d]
      exact c_full (w := zS w 0 0) d rfl hr h1
    · rw [if_pos (by decide), if_neg (by decide), if_neg (by decide), if_neg (by decide), if_neg (by decide), if_neg (by decide), if_neg (by decide), if_neg (by decide), if_neg (by decide), if_neg (by decide), if_neg (by decide), if_pos rfl, zm_g1 d, zm_r1 d (by decide)]
      exact ⟨zi_inn (a := 1) (by decide) (by decide), h1⟩
    · rw [if_pos (by decide), if_neg (by decide), if_neg (by decide), if_neg (by decide), if_neg (by decide), if_neg (by decide), if_neg (by decide), if_neg (by decide), if_neg (by decide), if_neg (by decide), if_neg (by decide), if_neg (by decide), if_pos rfl, zm_c d]
      exact c_end (w := zS w 0 0) d rfl hr h1
    · rw [if_pos (by decide), if_neg (by decide), if_neg (by decide), if_neg (by decide), if_neg (by decide), if_neg (by decide), if_neg (by decide), if_neg (by decide), if_neg (by decide), if_neg (by decide), if_neg (by decide), if_neg (by decide), if_neg (by decide), if_pos rfl, zm_c d]
      exact c_end (w := zS w 0 0) d rfl hr h1
    · rw [if_pos (by decide), if_neg (by decide), if_neg (by decide), if_neg (by decide), if_neg (by decide), if_neg (by decide), if_neg (by decide), if_neg (by decide), if_neg (by decide), if_neg (by decide), if_neg (by decide), if_neg (by decide), if_neg (by decide), if_neg (by decide), if_pos rfl, zm_g1 d, zm_r1 d (by decide)]
      refine ⟨zi_inn (a := 3) (by decide) (by decide), ?_⟩
      rw [e_wide]
      exact h1
  · have g' : ¬ sp_may (w.1 6) (sp_b (0 ≤ x ∧ x ≤ 13)) 1 = 0 := g
    rw [if_neg g', if_neg (by decide)]
    exact h0 g
def sp_cB (t n b what : Int32) : Int32 := sp_may t (sp_b (0 ≤ b ∧ b ≤ n - 1)) (sp_b (0 ≤ what ∧ what ≤ 4))
def sp_body (a : Nat → Int32) (b : Nat) (what : Int32) : Int32 := if what = 0 then a (7 + 4 * b) else if what = 1 then a (7 + 4 * b + 1) else if what = 2 then a (7 + 4 * b + 2) else if what = 3 then a (7 + 4 * b) / sp_wide (a 3) else a (7 + 4 * b + 3)
theorem zi_bd {n : Nat} {b : Int32} (h24 : n ≤ 24) (h : 0 ≤ b ∧ b ≤ Int32.ofNat n - 1) : ∃ k : Nat, k < n ∧ b = Int32.ofNat k := by
  obtain ⟨k, hk, rfl⟩ := zi_of h.1
  rcases Nat.eq_zero_or_pos n with g | g
  · subst g
    have h2 := Int32.le_trans h.1 h.2
    exact absurd h2 (by decide)
  · rw [show Int32.ofNat n - 1 = Int32.ofNat (n - 1) from (Int32.ofNat_sub n 1 g).symm, zi_le hk (by omega)] at h
    exact ⟨k, by omega, rfl⟩
theorem zi_5 {x : Int32} (h : 0 ≤ x ∧ x ≤ 4) : x = 0 ∨ x = 1 ∨ x = 2 ∨ x = 3 ∨ x = 4 := by
  obtain ⟨k, hk, rfl⟩ := zi_of h.1
  have := (zi_le (b := 4) hk (by decide)).mp h.2
  have h9 : k = 0 ∨ k = 1 ∨ k = 2 ∨ k = 3 ∨ k = 4 := by omega
  rcases h9 with rfl | rfl | rfl | rfl | rfl <;> decide
theorem p_body (d : zm_d m) {n l o : Nat} (I : zInv w n l o) {b x : Int32} {Q : Int32 → zw_H → Prop} (h0 : sp_cB (w.1 6) (w.2.1 1 0) b x ≠ 0 → Q 0 (zm_o m (zS w 0 (sp_cB (w.1 6) (w.2.1 1 0) b x)) h)) (h1 : sp_cB (w.1 6) (w.2.1 1 0) b x = 0 → ∀ k, k < n → b = Int32.ofNat k → Q (sp_body (w.2.1 1) k x) (zm_o m (zS w 0 0) h)) : f_X2_body K (some (m 0)) b x (zm_o m w h) Q X := by
  unfold f_X2_body
  rw [zm_g6 d, zm_c d, e_isBody d, e_in, zm_c d, e_mayC d]
  by_cases g : sp_cB (w.1 6) (w.2.1 1 0) b x = 0
  · have g' : sp_may (w.1 6) (sp_b (0 ≤ b ∧ b ≤ w.2.1 1 0 - 1)) (sp_b (0 ≤ x ∧ x ≤ 4)) = 0 := g
    rw [if_pos g', if_pos (by decide)]
    obtain ⟨k1, k2, k3⟩ := sp_may0.mp g'
    have hr := I k1
    have k2 := (sp_bne _).mp k2
    rw [hr.1] at k2
    have h24 := hr.2.1
    obtain ⟨k, hk, rfl⟩ := zi_bd h24 k2
    have h1 := h1 g k hk rfl
    rcases zi_5 ((sp_bne _).mp k3) with rfl | rfl | rfl | rfl | rfl
    · rw [if_neg (by decide), zm_c d, e_of0 d (by omega)]
      exact h1
    · rw [if_neg (by decide), zm_c d, e_of1 d (by omega)]
      exact h1
    · rw [if_neg (by decide), zm_c d, e_of2 d (by omega)]
      exact h1
    · rw [if_pos (by decide), if_neg (by decide), e_a3 d, zm_c d, e_of0 d (by omega), e_boxOf]
      exact ⟨hr.hw, h1⟩
    · rw [if_pos (by decide), if_pos (by decide), zm_c d, e_of3 d (by omega)]
      exact h1
  · have g' : ¬ sp_may (w.1 6) (sp_b (0 ≤ b ∧ b ≤ w.2.1 1 0 - 1)) (sp_b (0 ≤ x ∧ x ≤ 4)) = 0 := g
    rw [if_neg g', if_neg (by decide)]
    exact h0 g
theorem p_bodyAt (d : zm_d m) {n l o : Nat} (I : zInv w n l o) {x : Int32} {Q : Int32 → zw_H → Prop} (h0 : sp_cP (w.1 6) x ≠ 0 → Q 0 (zm_o m (zS w 0 (sp_cP (w.1 6) x)) h)) (h1 : sp_cP (w.1 6) x = 0 → Q (sp_firstAt (w.2.1 1) n x) (zm_o m (zS w 0 0) h)) : f_X2_bodyAt K (some (m 0)) x (zm_o m w h) Q X := by
  unfold f_X2_bodyAt
  rw [zm_c d, e_mayPoint d]
  by_cases g : sp_cP (w.1 6) x = 0
  · have hr := I (sp_cP0 g).1
    rw [if_pos g, if_neg (by decide), zm_c d]
    exact c_firstAt (w := zS w 0 0) d hr.1 hr.2.1 (h1 g)
  · rw [if_neg g, if_pos rfl]
    exact h0 g
def sp_cX (t L l i what : Int32) : Int32 := sp_may t (sp_b (zBoxP L l i)) (sp_b (0 ≤ what ∧ what ≤ 5))
def sp_box (a : Nat → Int32) (n : Nat) (l i what : Int32) : Int32 := if what = 0 then i * sp_wide l else if what = 1 then sp_wide l else if what = 2 then sp_centre l i else if what = 3 then sp_bodiesIn a n l i else if what = 5 then sp_charge a n l i 1 else sp_charge a n l i 0
theorem zi_6 {x : Int32} (h : 0 ≤ x ∧ x ≤ 5) : x = 0 ∨ x = 1 ∨ x = 2 ∨ x = 3 ∨ x = 4 ∨ x = 5 := by
  obtain ⟨k, hk, rfl⟩ := zi_of h.1
  have := (zi_le (b := 5) hk (by decide)).mp h.2
  have h9 : k = 0 ∨ k = 1 ∨ k = 2 ∨ k = 3 ∨ k = 4 ∨ k = 5 := by omega
  rcases h9 with rfl | rfl | rfl | rfl | rfl | rfl <;> decide
theorem p_box (d : zm_d m) {n l o : Nat} (I : zInv w n l o) {lv i x : Int32} {Q : Int32 → zw_H → Prop} (h0 : sp_cX (w.1 6) (w.2.1 1 3) lv i x ≠ 0 → Q 0 (zm_o m (zS w 0 (sp_cX (w.1 6) (w.2.1 1 3) lv i x)) h)) (h1 : sp_cX (w.1 6) (w.2.1 1 3) lv i x = 0 → Q (sp_box (w.2.1 1) n lv i x) (zm_o m (zS w 0 0) h)) : f_X2_box K (some (m 0)) lv i x (zm_o m w h) Q X := by
  unfold f_X2_box f_X2_box_J94
  rw [zm_g6 d, zm_c d, e_isBox d, e_in, zm_c d, e_mayC d]
  by_cases g : sp_cX (w.1 6) (w.2.1 1 3) lv i x = 0
  · have g' : sp_may (w.1 6) (sp_b ((0 ≤ lv ∧ lv ≤ w.2.1 1 3) ∧ 0 ≤ i ∧ i ≤ ((1 : Int32) <<< (lv &&& 31)) - 1)) (sp_b (0 ≤ x ∧ x ≤ 5)) = 0 := g
    rw [if_pos g', if_pos (by decide)]
    obtain ⟨k1, k2, k3⟩ := sp_may0.mp g'
    have hr := I k1
    have k2 := (sp_bne _).mp k2
    rw [hr.2.2.1] at k2
    obtain ⟨lev, j, j1, j2, rfl, rfl⟩ := zBoxP.get hr.2.2.2.2.1 k2
    have hw := zi_wide0 (l := lev) (by have := hr.2.2.2.2.1; omega)
    have h1 := h1 g
    rcases zi_6 ((sp_bne _).mp k3) with rfl | rfl | rfl | rfl | rfl | rfl
    · rw [if_pos rfl, e_wide]
      exact h1
    · rw [if_neg (by decide), if_pos rfl, e_wide]
      exact h1
    · rw [if_neg (by decide), if_neg (by decide), if_pos rfl, e_centre]
      exact h1
    · rw [if_neg (by decide), if_neg (by decide), if_neg (by decide), if_pos rfl, zm_c d]
      exact c_bodiesIn (w := zS w 0 0) d hr.1 hr.2.1 hw h1
    · rw [if_neg (by decide), if_neg (by decide), if_neg (by decide), if_neg (by decide)]
      refine ⟨by decide, ?_⟩
      rw [if_pos (by decide), zm_c d]
      exact c_charge (w := zS w 0 0) d hr.1 hr.2.1 hw h1
    · rw [if_neg (by decide), if_neg (by decide), if_neg (by decide), if_neg (by decide)]
      refine ⟨by decide, ?_⟩
      rw [if_neg (by decide), zm_c d]
      exact c_charge (w := zS w 0 0) d hr.1 hr.2.1 hw h1
  · have g' : ¬ sp_may (w.1 6) (sp_b ((0 ≤ lv ∧ lv ≤ w.2.1 1 3) ∧ 0 ≤ i ∧ i ≤ ((1 : Int32) <<< (lv &&& 31)) - 1)) (sp_b (0 ≤ x ∧ x ≤ 5)) = 0 := g
    rw [if_neg g', if_neg (by decide)]
    exact h0 g
def sp_cL (t L l x : Int32) : Int32 := sp_may t (sp_b (0 ≤ l ∧ l ≤ L)) (sp_b (0 ≤ x ∧ x ≤ 255))
theorem p_boxAt (d : zm_d m) {n l o : Nat} (I : zInv w n l o) {lv x : Int32} {Q : Int32 → zw_H → Prop} (h0 : sp_cL (w.1 6) (w.2.1 1 3) lv x ≠ 0 → Q 0 (zm_o m (zS w 0 (sp_cL (w.1 6) (w.2.1 1 3) lv x)) h)) (h1 : sp_cL (w.1 6) (w.2.1 1 3) lv x = 0 → Q (x / sp_wide lv) (zm_o m (zS w 0 0) h)) : f_X2_boxAt K (some (m 0)) lv x (zm_o m w h) Q X := by
  unfold f_X2_boxAt
  rw [zm_g6 d, zm_c d, e_isLevel d, e_isPoint, zm_c d, e_mayC d]
  by_cases g : sp_cL (w.1 6) (w.2.1 1 3) lv x = 0
  · have g' : sp_may (w.1 6) (sp_b (0 ≤ lv ∧ lv ≤ w.2.1 1 3)) (sp_b (0 ≤ x ∧ x ≤ 255)) = 0 := g
    rw [if_pos g', if_neg (by decide), e_boxOf]
    obtain ⟨k1, k2, k3⟩ := sp_may0.mp g'
    have hr := I k1
    have k2 := (sp_bne _).mp k2
    rw [hr.2.2.1] at k2
    obtain ⟨lev, hlev, rfl⟩ := zi_of k2.1
    have h5 := hr.2.2.2.2.1
    have g2 := (zi_le hlev (by omega)).mp k2.2
    exact ⟨zi_wide0 (by omega), h1 g⟩
  · have g' : ¬ sp_may (w.1 6) (sp_b (0 ≤ lv ∧ lv ≤ w.2.1 1 3)) (sp_b (0 ≤ x ∧ x ≤ 255)) = 0 := g
    rw [if_neg g', if_pos rfl]
    exact h0 g
end ZM17
