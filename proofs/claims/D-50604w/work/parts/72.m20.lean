set_option maxRecDepth 100000
section ZM20
variable {m : Nat → Nat} {w : zM} {h : zw_H} {K : Nat → Option Nat} {X : String → Nat → zw_H → Prop}
theorem p_orderFor (d : zm_d m) {n l o : Nat} (I : zInv w n l o) {x k : Int32} {Q : Int32 → zw_H → Prop} (h0 : sp_cO (w.1 6) x k ≠ 0 → Q 0 (zm_o m (zS w 0 (sp_cO (w.1 6) x k)) h)) (h1 : sp_cO (w.1 6) x k = 0 → ∀ y, y < 256 → x = Int32.ofNat y → ∀ v, zSq w v 0 → Q (sp_orderFor (w.2.1 1) n l y k) (zm_o m v h)) : f_X2_orderFor K (some (m 0)) x k (zm_o m w h) Q X := by
  have key : ∀ p : Int32, p = sp_b ((0 ≤ x ∧ x ≤ 255) ∧ 0 ≤ k ∧ k ≤ 99999) → f_X2_orderFor_J28 K Q X (some (m 0)) x k p (w.1 6) (some (m 0)) (zm_o m w h) := by
    intro p ep
    subst ep
    unfold f_X2_orderFor_J28
    rw [zm_c d, e_mayCT d]
    by_cases g : sp_cO (w.1 6) x k = 0
    · have g' : sp_may (w.1 6) (sp_b ((0 ≤ x ∧ x ≤ 255) ∧ 0 ≤ k ∧ k ≤ 99999)) 1 = 0 := g
      rw [if_pos g', if_pos (by decide)]
      obtain ⟨k1, k2, -⟩ := sp_may0.mp g'
      have hr := I k1
      obtain ⟨y, hy, rfl⟩ := zi_pt ((sp_bne _).mp k2).1
      have H := h1 g y hy rfl
      simp only [olet_iff]
      refine ⟨(zb_k1000 k).n64, ?_⟩
      unfold sp_orderFor at H
      generalize FP.ddiv (FP.i2d k) (4652007308841189376 : UInt64) = f at H
      have hle : sp_ord (w.2.1 1) n l y f ≤ 5 := zfirst_le _ _
      refine zl2_inv (B := f_X2_orderFor_B46 K Q X _ _ (some (m 0)) (Int32.ofNat y) f) (fun c z hh => z = Int32.ofNat c ∧ ∃ u, hh = zm_o m u h ∧ zSf (zS w 0 0) u) (n := sp_ord (w.2.1 1) n l y f) (fun R c hc z hh hp hR => ?_) (fun R z hh hp => ?_) (sp_ord (w.2.1 1) n l y f) zfu 0 (by omega) (Nat.lt_of_le_of_lt hle (by decide)) _ _ ⟨rfl, _, rfl, zSf.refl _⟩
      · obtain ⟨rfl, u, rfl, hu⟩ := hp
        have g1 := Classical.not_not.mp (of_decide_eq_false (zfirst_no (fun o => decide (¬ (0 : Int32) < (Op.cmpValue (FP.dcmp (sp_bound (w.2.1 1) n l o y) f) .g))) 5 c hc))
        unfold f_X2_orderFor_B46
        rw [if_neg (zi_c4 (by omega)), zm_c d]
        refine c_boundOf d (a := w.2.1 1) hu.row hr hy (by omega) (fun v hv => ?_)
        rw [if_pos g1]
        simp only [olet_iff, zi_succ]
        exact hR _ _ ⟨rfl, v, rfl, hu.trans hv⟩
      · obtain ⟨rfl, u, rfl, hu⟩ := hp
        unfold f_X2_orderFor_B46
        by_cases g2 : sp_ord (w.2.1 1) n l y f < 5
        · have g1 : ¬ (0 : Int32) < (Op.cmpValue (FP.dcmp (sp_bound (w.2.1 1) n l (sp_ord (w.2.1 1) n l y f) y) f) .g) := of_decide_eq_true (zfirst_yes (fun o => decide (¬ (0 : Int32) < (Op.cmpValue (FP.dcmp (sp_bound (w.2.1 1) n l o y) f) .g))) 5 g2)
          rw [if_pos g2] at H
          rw [if_neg (zi_c4 (by omega)), zm_c d]
          refine c_boundOf d (a := w.2.1 1) hu.row hr hy (by omega) (fun v hv => ?_)
          rw [if_neg g1]
          exact H v (zSq.sf (hu.trans hv))
        · rw [if_neg g2] at H
          rw [show sp_ord (w.2.1 1) n l y f = 5 by omega, if_pos zi_c5]
          exact H u (zSq.sf hu)
    · have g' : ¬ sp_may (w.1 6) (sp_b ((0 ≤ x ∧ x ≤ 255) ∧ 0 ≤ k ∧ k ≤ 99999)) 1 = 0 := g
      rw [if_neg g', if_neg (by decide)]
      exact h0 g
  unfold f_X2_orderFor f_X2_orderFor_J27
  rw [zm_g6 d, e_isPoint]
  by_cases g : 0 ≤ x ∧ x ≤ 255
  · rw [sp_bt g, if_neg (by decide), e_in]
    by_cases g2 : 0 ≤ k ∧ k ≤ 99999
    · rw [sp_bt g2, if_neg (by decide)]
      exact key 1 (sp_bt ⟨g, g2⟩).symm
    · rw [sp_bf g2, if_pos rfl]
      exact key 0 (sp_bf (fun e => g2 e.2)).symm
  · rw [sp_bf g, if_pos rfl]
    exact key 0 (sp_bf (fun e => g e.1)).symm
theorem c_costAll (d : zm_d m) {a : Nat → Int32} (ha : w.2.1 1 = a) {n l o : Nat} (hr : zRow a n l o) {Q : Int32 → zw_H → Prop} (hQ : ∀ v, zSf w v → Q (sp_costA a n l n) (zm_o m v h)) : f_X2_costAll K (some (m 0)) (zm_o m w h) Q X := by
  have hn := hr.1
  have h24 := hr.2.1
  unfold f_X2_costAll
  refine zl3_inv (B := f_X2_costAll_B4 K Q X _ (some (m 0))) (fun b s x hh => s = sp_costA a n l b ∧ x = Int32.ofNat b ∧ ∃ v, hh = zm_o m v h ∧ zSf w v) (n := n) (fun R b hb s x hh hp hR => ?_) (fun R s x hh hp => ?_) n zfu 0 (by omega) (Nat.lt_of_le_of_lt h24 (by decide)) _ _ _ ⟨rfl, rfl, w, rfl, zSf.refl w⟩
  · obtain ⟨rfl, rfl, v, rfl, hs⟩ := hp
    have hrow : v.2.1 1 = a := hs.row.trans ha
    obtain ⟨e1, e2⟩ := zpt_eq hr hb
    unfold f_X2_costAll_B4
    rw [e_n d (n := n) (by rw [hrow]; exact hn), if_neg (by rw [zi_le (by omega) (by omega)]; omega), zm_c d, e_of0 d (by omega), hrow, e1, zm_c d]
    refine c_costOf d hrow hr e2 (fun u hu => ?_)
    simp only [olet_iff, zi_succ]
    exact hR _ _ _ ⟨rfl, rfl, u, rfl, hs.trans hu⟩
  · obtain ⟨rfl, rfl, v, rfl, hs⟩ := hp
    have hrow : v.2.1 1 = a := hs.row.trans ha
    unfold f_X2_costAll_B4
    rw [e_n d (n := n) (by rw [hrow]; exact hn), if_pos (by rw [zi_le (by omega) (by omega)]; omega)]
    exact hQ v hs
theorem sp_lev_twice (a : Nat → Int32) (j k : Nat) : upd (sp_lev a j) 3 (Int32.ofNat k) = sp_lev a k := by
  funext q
  show (if q = 3 then Int32.ofNat k else if q = 3 then Int32.ofNat j else a q) = (if q = 3 then Int32.ofNat k else a q)
  split <;> rfl
theorem p_bestLevels (d : zm_d m) {n l o : Nat} (I : zInv w n l o) {Q : Int32 → zw_H → Prop} (h0 : sp_cT (w.1 6) ≠ 0 → Q 0 (zm_o m (zS w 0 (sp_cT (w.1 6))) h)) (h1 : sp_cT (w.1 6) = 0 → ∀ v, zSq w v 0 → Q (sp_best (w.2.1 1) n 4).1 (zm_o m v h)) : f_X2_bestLevels K (some (m 0)) (zm_o m w h) Q X := by
  unfold f_X2_bestLevels
  refine q_asn d h0 (fun g gt => ?_)
  have hr := I gt
  have H := h1 g
  rw [zm_c d]
  refine c_thinks d ?_
  refine zl4_inv (B := f_X2_bestLevels_B19 K Q X _ (some (m 0))) (fun c b s x hh => b = (sp_best (w.2.1 1) n c).1 ∧ s = (sp_best (w.2.1 1) n c).2 ∧ x = Int32.ofNat (2 + c) ∧ ∃ u, hh = zm_o m u h ∧ zSm (zAI (zS w 0 0) 2 (sp_cpy ((zS w 0 0).2.1 2) ((zS w 0 0).2.1 1) 0 0 103)) u ∧ ∃ k, u.2.1 1 = upd (w.2.1 1) 3 k) (n := 4) (fun R c hc b s x hh hp hR => ?_) (fun R b s x hh hp => ?_) 4 zfu 0 (by omega) (by decide) _ _ _ _ ⟨rfl, rfl, rfl, _, rfl, zSm.refl _, (w.2.1 1) 3, ?_⟩
  · obtain ⟨rfl, rfl, rfl, u, rfl, hs, k, hrow⟩ := hp
    unfold f_X2_bestLevels_B19 f_X2_bestLevels_J51 f_X2_bestLevels_J56
    rw [if_neg (by rw [show (5 : Int32) = Int32.ofNat 5 from rfl, zi_lt (by omega) (by omega)]; omega), zm_g1 d, zm_s1 d (by decide)]
    refine ⟨zi_inn (a := 3) (by decide) (by decide), ?_⟩
    have e3 : upd (u.2.1 1) (3 : Int32).toNatClampNeg (Int32.ofNat (2 + c)) = sp_lev (w.2.1 1) (2 + c) := by
      rw [hrow]
      funext q
      show (if q = 3 then _ else if q = 3 then _ else _) = (if q = 3 then _ else _)
      split <;> rfl
    rw [e3, zm_c d]
    refine c_costAll d (w := zAI u 1 (sp_lev (w.2.1 1) (2 + c))) (a := sp_lev (w.2.1 1) (2 + c)) rfl (zRow_lev hr (by omega) (by omega)) (fun v hv => ?_)
    have hs2 := (hs.ai1 (sp_lev (w.2.1 1) (2 + c))).trans hv.sm
    have es : sp_best (w.2.1 1) n (c + 1) = (if (sp_best (w.2.1 1) n c).1 = -1 then (Int32.ofNat (2 + c), sp_costA (sp_lev (w.2.1 1) (2 + c)) n (2 + c) n) else if sp_costA (sp_lev (w.2.1 1) (2 + c)) n (2 + c) n < (sp_best (w.2.1 1) n c).2 then (Int32.ofNat (2 + c), sp_costA (sp_lev (w.2.1 1) (2 + c)) n (2 + c) n) else sp_best (w.2.1 1) n c) := rfl
    simp only [olet_iff, zi_succ]
    split
    · rename_i g2
      rw [if_pos g2] at es
      exact hR _ _ _ _ ⟨by rw [es], by rw [es], rfl, v, rfl, hs2, _, hv.row⟩
    · rename_i g2
      rw [if_neg g2] at es
      split
      · rename_i g3
        rw [if_pos g3] at es
        exact hR _ _ _ _ ⟨by rw [es], by rw [es], rfl, v, rfl, hs2, _, hv.row⟩
      · rename_i g3
        rw [if_neg g3] at es
        exact hR _ _ _ _ ⟨by rw [es], by rw [es], rfl, v, rfl, hs2, _, hv.row⟩
  · obtain ⟨rfl, rfl, rfl, u, rfl, hs, k, hrow⟩ := hp
    unfold f_X2_bestLevels_B19
    rw [if_pos (by decide)]
    dsimp only
    rw [zm_c d]
    have h2 : u.2.1 2 = sp_cpy (w.2.1 2) (w.2.1 1) 0 0 103 := hs.2 2 (by decide) (by decide) (by decide) (by decide)
    have e : sp_cpy (u.2.1 1) (u.2.1 2) 0 0 103 = w.2.1 1 := sp_cpy_id (fun q hq => by rw [h2, sp_cpy_in hq]) (fun q hq => by rw [hrow]; exact if_neg (by omega))
    refine c_back d (H _ ?_)
    rw [e]
    refine ⟨hs.1 0 (by decide), fun k h1 h2 => (hs.1 k h2).trans (if_neg h1), fun k k1 k2 k3 k4 => ?_⟩
    show (if k = 1 then w.2.1 1 else u.2.1 k) = w.2.1 k
    by_cases e1 : k = 1
    · rw [if_pos e1, e1]
    · rw [if_neg e1, hs.2 k e1 k2 k3 k4]
      exact if_neg k1
  · funext q
    show (w.2.1 1) q = (if q = 3 then _ else _)
    by_cases e : q = 3
    · rw [if_pos e, e]
    · rw [if_neg e]
theorem p_without (d : zm_d m) {n l o : Nat} (I : zInv w n l o) {b x : Int32} {Q : UInt64 → zw_H → Prop} (h0 : sp_cH (w.1 6) (w.2.1 1 0) b x ≠ 0 → Q FP.dconst0 (zm_o m (zS w 0 (sp_cH (w.1 6) (w.2.1 1 0) b x)) h)) (h1 : sp_cH (w.1 6) (w.2.1 1 0) b x = 0 → ∀ k y, k < n → y < 256 → b = Int32.ofNat k → x = Int32.ofNat y → Q (sp_sumOf (w.2.1 1) x 1 b n) (zm_o m (zS w 0 0) h)) : f_X2_without K (some (m 0)) b x (zm_o m w h) Q X := by
  unfold f_X2_without
  rw [zm_g6 d, zm_c d, e_isBody d, e_isPoint, zm_c d, e_mayC d]
  by_cases g : sp_cH (w.1 6) (w.2.1 1 0) b x = 0
  · have g' : sp_may (w.1 6) (sp_b (0 ≤ b ∧ b ≤ w.2.1 1 0 - 1)) (sp_b (0 ≤ x ∧ x ≤ 255)) = 0 := g
    obtain ⟨k1, k2, k3⟩ := sp_may0.mp g'
    have hr := I k1
    have k2 := (sp_bne _).mp k2
    rw [hr.1] at k2
    obtain ⟨k, hk, rfl⟩ := zi_bd hr.2.1 k2
    obtain ⟨y, hy, rfl⟩ := zi_pt ((sp_bne _).mp k3)
    rw [if_pos g', if_neg (by decide), zm_c d]
    exact c_sumOf (w := zS w 0 0) d hr.1 hr.2.1 hr.hw (h1 g k y hk hy rfl rfl)
  · have g' : ¬ sp_may (w.1 6) (sp_b (0 ≤ b ∧ b ≤ w.2.1 1 0 - 1)) (sp_b (0 ≤ x ∧ x ≤ 255)) = 0 := g
    rw [if_neg g', if_pos rfl]
    exact h0 g
theorem p_quietest (d : zm_d m) {n l o : Nat} (I : zInv w n l o) {Q : Int32 → zw_H → Prop} (h0 : sp_cT (w.1 6) ≠ 0 → Q 0 (zm_o m (zS w 0 (sp_cT (w.1 6))) h)) (h1 : sp_cT (w.1 6) = 0 → ∀ v, zSq w v 0 → Q (sp_qui (w.2.1 1) n 256).1 (zm_o m v h)) : f_X2_quietest K (some (m 0)) (zm_o m w h) Q X := by
  unfold f_X2_quietest
  refine q_asn d h0 (fun g gt => ?_)
  have hr := I gt
  have H := h1 g _ (zSq.id w 0)
  have ha : (zS w 0 0).2.1 1 = w.2.1 1 := rfl
  refine zl4_run (B := f_X2_quietest_B16 K Q X _ (some (m 0))) (fun c => (sp_qui (w.2.1 1) n c).1) (fun c => (sp_qui (w.2.1 1) n c).2) (fun c => Int32.ofNat c) (fun _ => zm_o m (zS w 0 0) h) (n := 256) (fun R c hc hR => ?_) (fun R => ?_) 256 zfu 0 (by omega) (by decide)
  · have es : sp_qui (w.2.1 1) n (c + 1) = (if sp_firstAt (w.2.1 1) n (Int32.ofNat c) = -1 then (if (sp_qui (w.2.1 1) n c).1 = -1 then (Int32.ofNat c, sp_abs (sp_sumOf (w.2.1 1) (Int32.ofNat c) 1 (-1) n)) else if (Op.cmpValue (FP.dcmp (sp_abs (sp_sumOf (w.2.1 1) (Int32.ofNat c) 1 (-1) n)) (sp_qui (w.2.1 1) n c).2) .l) < 0 then (Int32.ofNat c, sp_abs (sp_sumOf (w.2.1 1) (Int32.ofNat c) 1 (-1) n)) else sp_qui (w.2.1 1) n c) else sp_qui (w.2.1 1) n c) := rfl
    rw [es] at hR
    unfold f_X2_quietest_B16 f_X2_quietest_J65 f_X2_quietest_J71
    rw [if_neg (by rw [show (256 : Int32) = Int32.ofNat 256 from rfl, zi_le (by omega) (by omega)]; omega), zm_c d]
    refine c_firstAt (w := zS w 0 0) d hr.1 hr.2.1 ?_
    rw [ha]
    by_cases g2 : sp_firstAt (w.2.1 1) n (Int32.ofNat c) = -1
    · rw [if_pos g2] at hR ⊢
      rw [zm_c d]
      refine c_sumOf (w := zS w 0 0) d hr.1 hr.2.1 hr.hw ?_
      rw [ha]
      refine c_absolute (zb_sumOf hr.2.1) (by omega) (by have := hr.2.1; omega) ?_
      simp only [olet_iff, zi_succ]
      split
      · rename_i g3
        rw [if_pos g3] at hR
        exact hR
      · rename_i g3
        rw [if_neg g3] at hR
        split
        · rename_i g4
          rw [if_pos g4] at hR
          exact hR
        · rename_i g4
          rw [if_neg g4] at hR
          exact hR
    · rw [if_neg g2] at hR ⊢
      simp only [olet_iff, zi_succ]
      exact hR
  · unfold f_X2_quietest_B16
    rw [if_pos (by decide)]
    exact H
theorem p_nearestZero (d : zm_d m) {n l o : Nat} (I : zInv w n l o) {x : Int32} {Q : Int32 → zw_H → Prop} (h0 : sp_cP (w.1 6) x ≠ 0 → Q 0 (zm_o m (zS w 0 (sp_cP (w.1 6) x)) h)) (h1 : sp_cP (w.1 6) x = 0 → ∀ y, y < 256 → x = Int32.ofNat y → ∀ v, zSq w v 0 → Q (sp_nz (w.2.1 1) n x 255) (zm_o m v h)) : f_X2_nearestZero K (some (m 0)) x (zm_o m w h) Q X := by
  unfold f_X2_nearestZero
  refine q_ptn d h0 (fun g gt y hy e => ?_)
  have hr := I gt
  have H := h1 g y hy e _ (zSq.id w 0)
  have ha : (zS w 0 0).2.1 1 = w.2.1 1 := rfl
  rw [zm_c d]
  refine c_pullOf d (y := 0) ha hr (by decide) ?_
  refine zl4_run (B := f_X2_nearestZero_B22 K Q X _ (some (m 0)) x) (fun c => sp_nz (w.2.1 1) n x c) (fun c => sp_pullOf (w.2.1 1) (Int32.ofNat c) 1 n) (fun c => Int32.ofNat c) (fun _ => zm_o m (zS w 0 0) h) (n := 255) (fun R c hc hR => ?_) (fun R => ?_) 255 zfu 0 (by omega) (by decide)
  · have es : sp_nz (w.2.1 1) n x (c + 1) = (if sp_pos (sp_pullOf (w.2.1 1) (Int32.ofNat c) 1 n) ≠ sp_pos (sp_pullOf (w.2.1 1) (Int32.ofNat (c + 1)) 1 n) then (if sp_nz (w.2.1 1) n x c = -1 then Int32.ofNat c else if sp_far (sp_nz (w.2.1 1) n x c) x ≤ sp_far (Int32.ofNat c) x then sp_nz (w.2.1 1) n x c else Int32.ofNat c) else sp_nz (w.2.1 1) n x c) := rfl
    unfold f_X2_nearestZero_B22
    rw [if_neg (by rw [show (255 : Int32) = Int32.ofNat 255 from rfl, zi_le (by omega) (by omega)]; omega), zm_c d, zi_succ]
    refine c_pullOf d (y := c + 1) ha hr (by omega) ?_
    have k72 : ∀ s : Int32, s = sp_b (sp_pos (sp_pullOf (w.2.1 1) (Int32.ofNat c) 1 n) ≠ sp_pos (sp_pullOf (w.2.1 1) (Int32.ofNat (c + 1)) 1 n)) → f_X2_nearestZero_J72 K Q X R (fun v7 h6 => Q v7 h6) (some (m 0)) x (sp_nz (w.2.1 1) n x c) (Int32.ofNat c) (sp_pullOf (w.2.1 1) (Int32.ofNat (c + 1)) 1 n) s (zm_o m (zS w 0 0) h) := by
      intro s hs
      unfold f_X2_nearestZero_J72 f_X2_nearestZero_J101 f_X2_nearestZero_J104
      simp only [olet_iff, zi_succ, e_far]
      by_cases g2 : sp_pos (sp_pullOf (w.2.1 1) (Int32.ofNat c) 1 n) ≠ sp_pos (sp_pullOf (w.2.1 1) (Int32.ofNat (c + 1)) 1 n)
      · rw [sp_bt g2] at hs
        rw [if_pos g2] at es
        rw [hs, if_neg (by decide)]
        split
        · rename_i g3
          rw [if_pos g3] at es
          rw [← es]
          exact hR
        · rename_i g3
          rw [if_neg g3] at es
          split
          · rename_i g4
            rw [if_pos g4] at es
            rw [← es]
            exact hR
          · rename_i g4
            rw [if_neg g4] at es
            rw [← es]
            exact hR
      · rw [sp_bf g2] at hs
        rw [if_neg g2] at es
        rw [hs, if_pos rfl, ← es]
        exact hR
    have k64 : ∀ s : Int32, s = sp_pos (sp_pullOf (w.2.1 1) (Int32.ofNat c) 1 n) → f_X2_nearestZero_J52 K Q X R (fun v7 h6 => Q v7 h6) (some (m 0)) x (sp_nz (w.2.1 1) n x c) (Int32.ofNat c) (sp_pullOf (w.2.1 1) (Int32.ofNat (c + 1)) 1 n) s (zm_o m (zS w 0 0) h) := by
      intro s hs
      unfold f_X2_nearestZero_J52
      have k : ∀ t : Int32, t = sp_pos (sp_pullOf (w.2.1 1) (Int32.ofNat (c + 1)) 1 n) → f_X2_nearestZero_J64 K Q X R (fun v7 h6 => Q v7 h6) (some (m 0)) x (sp_nz (w.2.1 1) n x c) (Int32.ofNat c) (sp_pullOf (w.2.1 1) (Int32.ofNat (c + 1)) 1 n) t s (zm_o m (zS w 0 0) h) := by
        intro t ht
        unfold f_X2_nearestZero_J64
        rw [hs, ht]
        split
        · rename_i g2
          exact k72 0 (sp_bf (fun e => e g2)).symm
        · rename_i g2
          exact k72 1 (sp_bt g2).symm
      split
      · rename_i g2
        exact k 0 (if_pos g2).symm
      · rename_i g2
        exact k 1 (if_neg g2).symm
    split
    · rename_i g2
      exact k64 0 (if_pos g2).symm
    · rename_i g2
      exact k64 1 (if_neg g2).symm
  · unfold f_X2_nearestZero_B22
    rw [if_pos (by decide)]
    exact H
theorem c_isPair (d : zm_d m) {a : Nat → Int32} (ha : w.2.1 1 = a) {n l o i j : Nat} (hr : zRow a n l o) (hi : i < n) (hj : j < n) {k : Int32} (hk : 0 ≤ k ∧ k ≤ 3) {Q : Int32 → zw_H → Prop} (hQ : Q (sp_pair a i j k) (zm_o m w h)) : f_X2_isPair K (some (m 0)) (Int32.ofNat i) (Int32.ofNat j) k (zm_o m w h) Q X := by
  subst ha
  have h24 := hr.2.1
  have hw := hr.hw
  unfold sp_pair at hQ
  unfold f_X2_isPair
  simp only [zm_c d, e_of0 d (show i < 24 by omega), e_of0 d (show j < 24 by omega), e_of1 d (show i < 24 by omega), e_a3 d, e_boxOf, e_isNear d (show i < 24 by omega) hw]
  by_cases g1 : w.2.1 1 (7 + 4 * i) = w.2.1 1 (7 + 4 * j)
  · rw [if_pos g1] at hQ
    rw [if_neg (fun e => e g1)]
    exact hQ
  · rw [if_neg g1] at hQ
    rw [if_pos g1]
    by_cases g2 : (2 : Int32) ≤ k
    · rw [if_pos g2] at hQ ⊢
      by_cases g3 : k = 2
      · rw [if_pos g3] at hQ
        rw [if_neg (fun e => e g3), sp_b01, true_and]
        exact hQ
      · rw [if_neg g3] at hQ
        rw [if_pos g3]
        refine ⟨hw, hw, ?_⟩
        by_cases g4 : w.2.1 1 (7 + 4 * i) / sp_wide (w.2.1 1 3) = w.2.1 1 (7 + 4 * j) / sp_wide (w.2.1 1 3)
        · rw [sp_bt g4] at hQ
          rw [if_neg (fun e => e g4)]
          exact hQ
        · rw [sp_bf g4] at hQ
          rw [if_pos g4]
          exact hQ
    · rw [if_neg g2] at hQ ⊢
      have k67 : ∀ s t : Int32, Q (sp_b (t = s)) (zm_o m w h) → f_X2_isPair_J67 K Q X s t (zm_o m w h) := by
        intro s t hst
        unfold f_X2_isPair_J67
        by_cases e : t = s
        · rw [sp_bt e] at hst
          rw [if_neg (fun g => g e)]
          exact hst
        · rw [sp_bf e] at hst
          rw [if_pos e]
          exact hst
      have k50 : ∀ s t : Int32, Q (sp_b ((s = t) = (k = 0))) (zm_o m w h) → f_X2_isPair_J50 K Q X k t s (zm_o m w h) := by
        intro s t hst
        unfold f_X2_isPair_J50 f_X2_isPair_J58
        by_cases e : s = t
        · rw [if_neg (fun g => g e)]
          by_cases e2 : k = 0
          · rw [if_neg (fun g => g e2)]
            rw [sp_bt (by rw [eq_true e, eq_true e2])] at hst
            exact k67 _ _ hst
          · rw [if_pos e2]
            rw [sp_bf (by rw [eq_true e, eq_false e2]; exact fun g => g.mp trivial)] at hst
            exact k67 _ _ hst
        · rw [if_pos e]
          by_cases e2 : k = 0
          · rw [if_neg (fun g => g e2)]
            rw [sp_bf (by rw [eq_false e, eq_true e2]; exact fun g => g.mpr trivial)] at hst
            exact k67 _ _ hst
          · rw [if_pos e2]
            rw [sp_bt (by rw [eq_false e, eq_false e2])] at hst
            exact k67 _ _ hst
      have k36 : ∀ s : Int32, s = sp_sign (w.2.1 1 (7 + 4 * i + 1)) → f_X2_isPair_J36 K Q X (some (m 0)) (Int32.ofNat j) k s (zm_o m w h) := by
        intro s hs
        unfold f_X2_isPair_J36
        rw [zm_c d, e_of1 d (show j < 24 by omega)]
        rw [← hs] at hQ
        split
        · rename_i e
          rw [show sp_sign (w.2.1 1 (7 + 4 * j + 1)) = 0 from if_pos e] at hQ
          exact k50 _ _ hQ
        · rename_i e
          rw [show sp_sign (w.2.1 1 (7 + 4 * j + 1)) = 1 from if_neg e] at hQ
          exact k50 _ _ hQ
      split
      · rename_i e
        exact k36 0 (if_pos e).symm
      · rename_i e
        exact k36 1 (if_neg e).symm
theorem p_pairs (d : zm_d m) {n l o : Nat} (I : zInv w n l o) {k : Int32} {Q : Int32 → zw_H → Prop} (h0 : sp_cN (w.1 6) k ≠ 0 → Q 0 (zm_o m (zS w 0 (sp_cN (w.1 6) k)) h)) (h1 : sp_cN (w.1 6) k = 0 → ∀ v, zSq w v 0 → Q (sp_pairs (w.2.1 1) n k n) (zm_o m v h)) : f_X2_pairs K (some (m 0)) k (zm_o m w h) Q X := by
  unfold f_X2_pairs
  rw [zm_g6 d, e_in, zm_c d, e_mayCT d]
  by_cases g : sp_cN (w.1 6) k = 0
  · have g' : sp_may (w.1 6) (sp_b (0 ≤ k ∧ k ≤ 3)) 1 = 0 := g
    obtain ⟨k1, k2, -⟩ := sp_may0.mp g'
    have hr := I k1
    have hk := (sp_bne _).mp k2
    have H := h1 g _ (zSq.id w 0)
    have hn := hr.1
    have h24 := hr.2.1
    rw [if_pos g', if_pos (by decide)]
    refine zl3_run (B := f_X2_pairs_B23 K Q X _ (some (m 0)) k) (fun i => sp_pairs (w.2.1 1) n k i) (fun i => Int32.ofNat i) (fun _ => zm_o m (zS w 0 0) h) (n := n) (fun R i hi hR => ?_) (fun R => ?_) n zfu 0 (by omega) (Nat.lt_of_le_of_lt h24 (by decide))
    · unfold f_X2_pairs_B23
      rw [e_n (w := zS w 0 0) d (n := n) hn, if_neg (by rw [zi_le (by omega) (by omega)]; omega)]
      simp only [olet_iff, zi_succ]
      refine zl3_run (B := f_X2_pairs_B38 K Q X _ (some (m 0)) k (Int32.ofNat i)) (fun c => sp_prs (w.2.1 1) i k (sp_pairs (w.2.1 1) n k i) c) (fun c => Int32.ofNat (i + 1 + c)) (fun _ => zm_o m (zS w 0 0) h) (n := n - (i + 1)) (fun R2 c hc hR2 => ?_) (fun R2 => ?_) (n - (i + 1)) zfu 0 (by omega) (Nat.lt_of_le_of_lt (show n - (i + 1) ≤ 24 by omega) (by decide))
      · unfold f_X2_pairs_B38
        rw [e_n (w := zS w 0 0) d (n := n) hn, if_neg (by rw [zi_le (by omega) (by omega)]; omega), zm_c d]
        refine c_isPair (w := zS w 0 0) d (a := w.2.1 1) rfl hr hi (show i + 1 + c < n by omega) hk ?_
        rw [e_one, sp_pair01]
        simp only [olet_iff, zi_succ]
        exact hR2
      · unfold f_X2_pairs_B38
        rw [e_n (w := zS w 0 0) d (n := n) hn, if_pos (by rw [zi_le (by omega) (by omega)]; omega)]
        exact hR
    · unfold f_X2_pairs_B23
      rw [e_n (w := zS w 0 0) d (n := n) hn, if_pos (by rw [zi_le (by omega) (by omega)]; omega)]
      exact H
  · have g' : ¬ sp_may (w.1 6) (sp_b (0 ≤ k ∧ k ≤ 3)) 1 = 0 := g
    rw [if_neg g', if_neg (by decide)]
    exact h0 g
theorem c_balanced (d : zm_d m) {a : Nat → Int32} (ha : w.2.1 1 = a) {n l o : Nat} (hr : zRow a n l o) {Q : UInt32 → zw_H → Prop} (hQ : Q (sp_bal a n) (zm_o m w h)) : f_X2_balanced K (some (m 0)) (zm_o m w h) Q X := by
  subst ha
  have hn := hr.1
  have h24 := hr.2.1
  unfold f_X2_balanced
  rw [e_n d (n := n) hn]
  unfold sp_bal at hQ
  by_cases g : n = 0
  · rw [if_pos g] at hQ
    rw [if_neg (fun e => e (by rw [g]; rfl))]
    exact hQ
  · rw [if_neg g] at hQ
    rw [if_pos (show Int32.ofNat n ≠ 0 from fun e => g ((zi_inj (b := 0) (by omega) (by decide)).mp e)), zm_c d]
    refine c_charge d hn h24 (by decide) ?_
    rw [zm_c d]
    refine c_charge d hn h24 (by decide) ?_
    simp only [olet_iff]
    refine ⟨zf_fdiv ?_, hQ⟩
    obtain ⟨k, k1, k2, k3⟩ := sp_charge_pos hr n (Nat.le_refl n)
    rw [k3]
    exact fun e => by have := (zi_inj (b := 0) (by omega) (by decide)).mp e; omega
theorem p_balance (d : zm_d m) {n l o : Nat} (I : zInv w n l o) {Q : UInt32 → zw_H → Prop} (h0 : sp_cT (w.1 6) ≠ 0 → Q FP.fconst0 (zm_o m (zS w 0 (sp_cT (w.1 6))) h)) (h1 : sp_cT (w.1 6) = 0 → ∀ v, zSq w v 0 → Q (sp_bal (w.2.1 1) n) (zm_o m v h)) : f_X2_balance K (some (m 0)) (zm_o m w h) Q X := by
  unfold f_X2_balance
  refine q_as d h0 (fun g gt => ?_)
  rw [zm_c d]
  exact c_balanced (w := zS w 0 0) d (a := w.2.1 1) rfl (I gt) (h1 g _ (zSq.id w 0))
theorem p_balanceBits (d : zm_d m) {n l o : Nat} (I : zInv w n l o) {Q : Int32 → zw_H → Prop} (h0 : sp_cT (w.1 6) ≠ 0 → Q 0 (zm_o m (zS w 0 (sp_cT (w.1 6))) h)) (h1 : sp_cT (w.1 6) = 0 → ∀ v, zSq w v 0 → Q (sp_fbits (sp_bal (w.2.1 1) n)) (zm_o m v h)) : f_X2_balanceBits K (some (m 0)) (zm_o m w h) Q X := by
  unfold f_X2_balanceBits
  refine q_as d h0 (fun g gt => ?_)
  rw [zm_c d]
  refine c_balanced (w := zS w 0 0) d (a := w.2.1 1) rfl (I gt) ?_
  rw [e_fbits]
  exact h1 g _ (zSq.id w 0)
theorem p_meanX (d : zm_d m) {n l o : Nat} (I : zInv w n l o) {Q : UInt64 → zw_H → Prop} (h0 : sp_cT (w.1 6) ≠ 0 → Q FP.dconst0 (zm_o m (zS w 0 (sp_cT (w.1 6))) h)) (h1 : sp_cT (w.1 6) = 0 → ∀ v, zSq w v 0 → Q (sp_meanX (w.2.1 1) n) (zm_o m v h)) : f_X2_meanX K (some (m 0)) (zm_o m w h) Q X := by
  unfold f_X2_meanX
  refine q_as d h0 (fun g gt => ?_)
  have hr := I gt
  have H := h1 g _ (zSq.id w 0)
  have hn := hr.1
  have h24 := hr.2.1
  rw [e_n (w := zS w 0 0) d (n := n) hn]
  unfold sp_meanX at H
  by_cases g2 : n = 0
  · rw [if_pos g2] at H
    rw [if_neg (fun e => e (by rw [g2]; rfl))]
    exact H
  · rw [if_neg g2] at H
    have hne : Int32.ofNat n ≠ 0 := fun e => g2 ((zi_inj (b := 0) (by omega) (by decide)).mp e)
    rw [if_pos hne]
    refine zl3_run (B := f_X2_meanX_B22 K Q X _ (some (m 0))) (fun b => sp_xsum (w.2.1 1) b) (fun b => Int32.ofNat b) (fun _ => zm_o m (zS w 0 0) h) (n := n) (fun R b hb hR => ?_) (fun R => ?_) n zfu 0 (by omega) (Nat.lt_of_le_of_lt h24 (by decide))
    · unfold f_X2_meanX_B22
      rw [e_n (w := zS w 0 0) d (n := n) hn, if_neg (by rw [zi_le (by omega) (by omega)]; omega), zm_c d, e_of0 d (by omega)]
      simp only [olet_iff, zi_succ]
      exact hR
    · unfold f_X2_meanX_B22
      rw [e_n (w := zS w 0 0) d (n := n) hn, if_pos (by rw [zi_le (by omega) (by omega)]; omega)]
      dsimp only
      rw [e_n (w := zS w 0 0) d (n := n) hn]
      simp only [olet_iff]
      exact ⟨(zBd_div (zBd_i2d _) (zBd_i2d _) (zLb_i2d hne) (by decide)).n64, H⟩
end ZM20
