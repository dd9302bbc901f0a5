set_option maxRecDepth 100000
/-! the reference loads; it takes bytes -/
def zByt (x : Int32) : Prop := -128 ≤ x.toInt ∧ x.toInt ≤ 127
theorem zByt_n (x : Int32) : zByt (vp_nar .byte x) := by
  rw [vp_nar_byte]
  unfold zByt
  rw [Int8.toInt_toInt32]
  have h1 := x.toInt8.toInt_lt
  have h2 := x.toInt8.le_toInt
  omega
theorem zByt_0 : zByt 0 := ⟨by decide, by decide⟩
def sq_by (x s : Int32) : Int32 := vp_nar .byte ((x >>> (s &&& 31)).toInt8.toInt32)
def sq_b4 (B : Nat → Int32) (p : Nat) (x : Int32) : Nat → Int32 := upd (upd (upd (upd B p (sq_by x 24)) (p + 1) (sq_by x 16)) (p + 2) (sq_by x 8)) (p + 3) (sq_by x 0)
def sq_20 (B : Nat → Int32) (p : Nat) (x1 x2 x3 x4 x5 : Int32) : Nat → Int32 := sq_b4 (sq_b4 (sq_b4 (sq_b4 (sq_b4 B p x1) (p + 4) x2) (p + 8) x3) (p + 12) x4) (p + 16) x5
theorem sq_b4_byt {B : Nat → Int32} (hB : ∀ q, zByt (B q)) (p : Nat) (x : Int32) : ∀ q, zByt (sq_b4 B p x q) := by
  intro q
  unfold sq_b4 upd
  split
  · exact zByt_n _
  split
  · exact zByt_n _
  split
  · exact zByt_n _
  split
  · exact zByt_n _
  exact hB q
theorem sq_20_byt {B : Nat → Int32} (hB : ∀ q, zByt (B q)) (p : Nat) (x1 x2 x3 x4 x5 : Int32) : ∀ q, zByt (sq_20 B p x1 x2 x3 x4 x5 q) := sq_b4_byt (sq_b4_byt (sq_b4_byt (sq_b4_byt (sq_b4_byt hB _ _) _ _) _ _) _ _) _ _
def zBr (w v : zM) : Prop := (∀ k, k ≠ 9 → v.1 k = w.1 k) ∧ (∀ k, k ≠ 8 → v.2.1 k = w.2.1 k)
theorem zBr.tr {w v u : zM} (h : zBr w v) (g : zBr v u) : zBr w u := ⟨fun k a => (g.1 k a).trans (h.1 k a), fun k a => (g.2 k a).trans (h.2 k a)⟩
theorem zBr.st (w : zM) (f : Nat → Int32) (p : Int32) : zBr w (zS (zAI w 8 f) 9 p) := ⟨fun _ a => if_neg a, fun _ a => if_neg a⟩
theorem zl2_S {α β : Type} {B : (α → β → Prop) → α → β → Prop} {M : Nat} {x : α} {y : β} (h : B (zl2 B M) x y) : zl2 B (M + 1) x y := h
section ZM26
variable {m : Nat → Nat} {w : zM} {h : zw_H} {K : Nat → Option Nat} {X : String → Nat → zw_H → Prop} {N n : Nat} {a : Nat → Int32} {t : zTk} {v : zM}
theorem c_four1 (d : zm_d m) {p : Nat} (hp : w.1 9 = Int32.ofNat p) (h5 : p < 500) {x c : Int32} (hc : ¬ c < 0) {kk Q : zw_H → Prop} {R : Int32 → zw_H → Prop} (hR : R (c + (-1)) (zm_o m (zS (zAI w 8 (upd (w.2.1 8) p (vp_nar .byte ((x >>> (((8 : Int32) * c) &&& 31)).toInt8.toInt32)))) 9 (Int32.ofNat (p + 1))) h)) : f_X2_four_B2 K Q X kk (some (m 0)) x R c (zm_o m w h) := by
  unfold f_X2_four_B2
  rw [if_neg hc, zm_g8 d, zm_g9 d, hp, zm_s8 d (by decide), zi_clamp (by omega)]
  refine ⟨zi_inn h5 (by decide), ?_⟩
  rw [zm_g9 d, show (zAI w 8 (upd (w.2.1 8) p (vp_nar .byte ((x >>> (((8 : Int32) * c) &&& 31)).toInt8.toInt32)))).1 9 = Int32.ofNat p from hp, zm_p9 d, zi_succ, olet_iff]
  exact hR
theorem c_four (d : zm_d m) {p : Nat} (hp : w.1 9 = Int32.ofNat p) (h5 : p + 4 ≤ 500) {x : Int32} {Q : zw_H → Prop} (hQ : ∀ v, zBr w v → v.1 9 = Int32.ofNat (p + 4) → v.2.1 8 = sq_b4 (w.2.1 8) p x → Q (zm_o m v h)) : f_X2_four K (some (m 0)) x (zm_o m w h) Q X := by
  unfold f_X2_four
  rw [show zfu = 995 + 1 + 1 + 1 + 1 + 1 from rfl]
  refine zl2_S (c_four1 d hp (by omega) (by decide) ?_)
  refine zl2_S (c_four1 d (p := p + 1) rfl (by omega) (by decide) ?_)
  refine zl2_S (c_four1 d (p := p + 2) rfl (by omega) (by decide) ?_)
  refine zl2_S (c_four1 d (p := p + 3) rfl (by omega) (by decide) ?_)
  refine zl2_S ?_
  unfold f_X2_four_B2
  rw [if_pos (by decide)]
  exact hQ _ (((zBr.st _ _ _).tr (zBr.st _ _ _)).tr ((zBr.st _ _ _).tr (zBr.st _ _ _))) rfl rfl
theorem p_append (d : zm_d m) {p : Nat} (hp : w.1 9 = Int32.ofNat p) (h5 : p ≤ 500) {x1 x2 x3 x4 x5 : Int32} {Q : Int32 → zw_H → Prop} (h0 : 480 < p → Q (-1) (zm_o m (zS w 0 0) h)) (h1 : p ≤ 480 → ∀ v, zBr (zS w 0 0) v → v.1 9 = Int32.ofNat (p + 20) → v.2.1 8 = sq_20 (w.2.1 8) p x1 x2 x3 x4 x5 → Q (Int32.ofNat (p + 20)) (zm_o m v h)) : f_X2_append K (some (m 0)) x1 x2 x3 x4 x5 (zm_o m w h) Q X := by
  unfold f_X2_append
  rw [zm_p0 d, zm_g9 d, show (zS w 0 0).1 9 = Int32.ofNat p from hp]
  by_cases e : p ≤ 480
  · rw [if_pos (show Int32.ofNat p ≤ 480 from (zi_le (b := 480) (by omega) (by decide)).mpr e), zm_c d]
    refine c_four d (w := zS w 0 0) hp (by omega) (fun v1 r1 n1 b1 => ?_)
    rw [zm_c d]
    refine c_four d n1 (by omega) (fun v2 r2 n2 b2 => ?_)
    rw [zm_c d]
    refine c_four d n2 (by omega) (fun v3 r3 n3 b3 => ?_)
    rw [zm_c d]
    refine c_four d n3 (by omega) (fun v4 r4 n4 b4 => ?_)
    rw [zm_c d]
    refine c_four d n4 (by omega) (fun v5 r5 n5 b5 => ?_)
    rw [zm_g9 d, n5]
    refine h1 e v5 (((r1.tr r2).tr (r3.tr r4)).tr r5) n5 ?_
    rw [b5, b4, b3, b2, b1]
    rfl
  · rw [if_neg (show ¬ Int32.ofNat p ≤ 480 from fun c => e ((zi_le (b := 480) (by omega) (by decide)).mp c))]
    exact h0 (by omega)
theorem e_thrown (d : zm_d m) {Q : Int32 → zw_H → Prop} : f_X2_thrown K (some (m 0)) (zm_o m w h) Q X = Q (w.1 0) (zm_o m w h) := by
  unfold f_X2_thrown
  rw [zm_g0 d]
theorem e_parseError (d : zm_d m) {Q : Int32 → zw_H → Prop} : f_X2_parseError K (some (m 0)) (zm_o m w h) Q X = Q (w.1 10) (zm_o m (zS w 0 0) h) := by
  unfold f_X2_parseError
  rw [zm_p0 d, zm_g10 d]
  rfl
theorem e_errorPosition (d : zm_d m) {Q : Int32 → zw_H → Prop} : f_X2_errorPosition K (some (m 0)) (zm_o m w h) Q X = Q (w.1 11) (zm_o m (zS w 0 0) h) := by
  unfold f_X2_errorPosition
  rw [zm_p0 d, zm_g11 d]
  rfl
theorem e_buffered (d : zm_d m) {Q : Int32 → zw_H → Prop} : f_X2_buffered K (some (m 0)) (zm_o m w h) Q X = Q (w.1 9) (zm_o m (zS w 0 0) h) := by
  unfold f_X2_buffered
  rw [zm_p0 d, zm_g9 d]
  rfl
theorem e_undoable (d : zm_d m) {Q : Int32 → zw_H → Prop} : f_X2_undoable K (some (m 0)) (zm_o m w h) Q X = Q (w.1 7) (zm_o m (zS w 0 0) h) := by
  unfold f_X2_undoable
  rw [zm_p0 d, zm_g7 d]
  rfl
/-- the row with nothing on it -/
def sq_z (c : Nat) (a : Nat → Int32) : Nat → Int32 := fun q => if q < c then 0 else a q
theorem sq_z_s (c : Nat) (a : Nat → Int32) : upd (sq_z c a) c 0 = sq_z (c + 1) a := funext fun q => by
  unfold sq_z upd
  by_cases e : q = c
  · rw [if_pos e, if_pos (by omega)]
  · rw [if_neg e]
    show (if q < c then 0 else a q) = (if q < c + 1 then 0 else a q)
    by_cases e2 : q < c
    · rw [if_pos e2, if_pos (by omega)]
    · rw [if_neg e2, if_neg (by omega)]
theorem sq_z_0 (a : Nat → Int32) : sq_z 0 a = a := funext fun q => if_neg (Nat.not_lt_zero q)
/-- what load leaves as it was -/
def zLd (w v : zM) : Prop := (∀ k, k ≠ 0 → k ≠ 6 → k ≠ 7 → k ≠ 9 → k ≠ 10 → k ≠ 11 → k ≠ 12 → k ≠ 13 → k ≠ 14 → k ≠ 15 → k ≠ 16 → v.1 k = w.1 k) ∧ (∀ k, k ≠ 1 → k ≠ 2 → k ≠ 5 → v.2.1 k = w.2.1 k)
theorem p_load (d : zm_d m) (hx : zm_x m h) (hK : zKs K h) {b : Nat} (hb : w.1 9 = Int32.ofNat b) (hb5 : b ≤ 500) {x : Int32} {Q : Int32 → zw_H → Prop}
    (h0 : ¬ (0 ≤ x ∧ x ≤ w.1 9) → Q 0 (zm_o m (zS w 0 1) h))
    (h1 : ∀ N, N ≤ b → x = Int32.ofNat N → ∀ e, sq_all (w.2.1 8) N (sq_z 103 (w.2.1 1)) = .inl e → ∀ v, zLd w v → v.1 0 = 2 → v.1 9 = 0 → v.1 10 = Int32.ofNat e.1 → v.1 11 = Int32.ofNat e.2 → v.1 6 = w.1 6 → v.1 7 = w.1 7 → v.2.1 5 = w.2.1 5 → (∀ q, q < 103 → v.2.1 1 q = w.2.1 1 q) → Q 0 (zm_o m v h))
    (h2 : ∀ N, N ≤ b → x = Int32.ofNat N → ∀ r, sq_all (w.2.1 8) N (sq_z 103 (w.2.1 1)) = .inr r → ∀ v, zLd w v → v.1 0 = 0 → v.1 9 = 0 → v.1 10 = 0 → v.1 11 = -1 → v.1 6 = 1 → v.1 7 = 0 → v.2.1 1 = r.1 → v.2.1 5 0 = 0 → v.2.1 5 1 = 0 → Q (r.1 0) (zm_o m v h)) : f_X2_load K (some (m 0)) x (zm_o m w h) Q X := by
  unfold f_X2_load
  rw [zm_g9 d, e_in, zm_c d, e_mayC d]
  by_cases e : 0 ≤ x ∧ x ≤ w.1 9
  · rw [sp_bt e, if_pos (by decide), if_pos (by decide)]
    obtain ⟨N, hN, rfl⟩ := zi_of e.1
    have e2 := e.2
    rw [hb] at e2
    have hNb := (zi_le hN (by omega)).mp e2
    rw [zm_p12 d, zm_p13 d, zm_p9 d, zm_p10 d, zm_p11 d]
    generalize hw1 : zS (zS (zS (zS (zS (zS w 0 0) 12 (Int32.ofNat N)) 13 0) 9 0) 10 0) 11 (-1) = w1
    have a1 : ∀ k, k ≠ 0 → k ≠ 9 → k ≠ 10 → k ≠ 11 → k ≠ 12 → k ≠ 13 → w1.1 k = w.1 k := fun k k0 k9 k10 k11 k12 k13 => by
      rw [← hw1]
      exact (if_neg k11).trans ((if_neg k10).trans ((if_neg k9).trans ((if_neg k13).trans ((if_neg k12).trans (if_neg k0)))))
    have a2 : w1.2 = w.2 := by rw [← hw1]; rfl
    have v0 : w1.1 0 = 0 := by rw [← hw1]; rfl
    have v9 : w1.1 9 = 0 := by rw [← hw1]; rfl
    have v10 : w1.1 10 = 0 := by rw [← hw1]; rfl
    have v11 : w1.1 11 = -1 := by rw [← hw1]; rfl
    have v12 : w1.1 12 = Int32.ofNat N := by rw [← hw1]; rfl
    have v13 : w1.1 13 = 0 := by rw [← hw1]; rfl
    clear hw1
    rw [zm_g1 d, zm_g2 d]
    refine c_lays 1 2 103 103 (by decide) 0 0 (by decide) (by decide) (by decide) (by decide) (fun w x F => zm_r1 d (by decide) x F) (fun w x v F => zm_s2 d (by decide) x v F) ?_
    rw [a2]
    generalize hw2 : zAI w1 2 (sp_cpy (w.2.1 2) (w.2.1 1) 0 0 103) = w2
    have b1 : w2.1 = w1.1 := by rw [← hw2]; rfl
    have b2 : w2.2.1 2 = sp_cpy (w.2.1 2) (w.2.1 1) 0 0 103 := by rw [← hw2]; rfl
    have b3 : ∀ k, k ≠ 2 → w2.2.1 k = w.2.1 k := fun k k2 => by rw [← hw2, zAI_ne _ _ k2, a2]
    clear hw2
    have key := zl2_run (B := f_X2_load_B60 K Q X (fun h10 => oc_ h10 (some (m 0)) [0] (f_X2_readsText K (some (m 0)) h10 (fun h11 => og_I h11 (some (m 0)) [0] 10 (fun v8 => if v8 ≤ 0 then op_V h11 (some (m 0)) [0] 6 (.int 1) (fun h12 => op_V h12 (some (m 0)) [0] 7 (.int 0) (fun h13 => og_A h13 (some (m 0)) [0] 5 (fun v9 => os_I h13 v9 [2] 0 (vp_nar .boolean 0) (fun h14 => og_A h14 (some (m 0)) [0] 5 (fun v10 => os_I h14 v10 [2] 1 (vp_nar .boolean 0) (fun h15 => og_A h15 (some (m 0)) [0] 1 (fun v11 => oa_I h15 v11 [0, 11] 0 (fun v12 => Q v12 h15)))))))) else og_A h11 (some (m 0)) [0] 2 (fun v13 => og_A h11 (some (m 0)) [0] 1 (fun v14 => (f_X2_lays K v13 0 v14 0 h11 (fun h16 => op_V h16 (some (m 0)) [0] 0 (.int 2) (fun h17 => Q 0 h17)) X))))) X)) (some (m 0))) (fun c => Int32.ofNat c) (fun c => zm_o m (zAI w2 1 (sq_z c (w2.2.1 1))) h) (n := 103) (fun R c hc hR => ?_) (fun R => ?_) 103 zfu 0 (by omega) (by decide)
    · rw [sq_z_0, zAI_self] at key
      exact key
    · unfold f_X2_load_B60
      rw [if_neg (by rw [show (103 : Int32) = Int32.ofNat 103 from rfl, zi_le (by omega) (by omega)]; omega), zm_g1 d, zm_s1 d (by decide), zi_clamp (by omega)]
      refine ⟨zi_inn hc (by decide), ?_⟩
      rw [olet_iff, zi_succ, zAI_at, zAI_twice, sq_z_s]
      exact hR
    · unfold f_X2_load_B60
      rw [if_pos (by decide)]
      dsimp only
      rw [zm_c d]
      have eB : (zAI w2 1 (sq_z 103 (w2.2.1 1))).2.1 8 = w.2.1 8 := b3 8 (by decide)
      have eA : (zAI w2 1 (sq_z 103 (w2.2.1 1))).2.1 1 = sq_z 103 (w.2.1 1) := by rw [zAI_at, b3 1 (by decide)]
      have e1 : (zAI w2 1 (sq_z 103 (w2.2.1 1))).1 = w1.1 := b1
      have e5 : ∀ k, k ≠ 1 → k ≠ 2 → (zAI w2 1 (sq_z 103 (w2.2.1 1))).2.1 k = w.2.1 k := fun k k1 k2 => by rw [zAI_ne _ _ k1, b3 k k2]
      have e22 : (zAI w2 1 (sq_z 103 (w2.2.1 1))).2.1 2 = sp_cpy (w.2.1 2) (w.2.1 1) 0 0 103 := b2
      generalize zAI w2 1 (sq_z 103 (w2.2.1 1)) = w3 at eB eA e1 e5 e22 ⊢
      have g : zG w3 N := ⟨by rw [e1]; exact v10, by rw [e1]; exact v12, by omega⟩
      refine c_readsText d hx hK g (by rw [eA]; exact if_pos (by decide)) (by rw [e1]; exact v13) (fun er he v' hv => ?_) (fun r hr v' hv hv1 => ?_)
      · rw [eB, eA] at he
        rw [zm_g10 d, if_neg (Int32.not_le.mpr hv.pos), zm_g2 d, zm_g1 d]
        refine c_lays 2 1 103 103 (by decide) 0 0 (by decide) (by decide) (by decide) (by decide) (fun w x F => zm_r2 d (by decide) x F) (fun w x v F => zm_s1 d (by decide) x v F) ?_
        rw [zm_p0 d]
        obtain ⟨⟨p1, p2, p3⟩, p10, p11, -⟩ := hv
        have q1 : ∀ k, k ≠ 10 → k ≠ 11 → k ≠ 13 → k ≠ 14 → k ≠ 15 → k ≠ 16 → v'.1 k = w1.1 k := fun k k1 k2 k3 k4 k5 k6 => by rw [p1 k k1 k2 k3 k4 k5 k6, e1]
        refine h1 N hNb rfl er he _ ⟨fun k k0 k6 k7 k9 k10 k11 k12 k13 k14 k15 k16 => ?_, fun k k1 k2 k5 => ?_⟩ rfl ?_ p10 p11 ?_ ?_ ?_ (fun q hq => ?_)
        · exact (if_neg k0).trans ((q1 k k10 k11 k13 k14 k15 k16).trans (a1 k k0 k9 k10 k11 k12 k13))
        · exact (zAI_ne _ _ k1).trans ((p2 k k1).trans (e5 k k1 k2))
        · exact (q1 9 (by decide) (by decide) (by decide) (by decide) (by decide) (by decide)).trans v9
        · exact (q1 6 (by decide) (by decide) (by decide) (by decide) (by decide) (by decide)).trans (a1 6 (by decide) (by decide) (by decide) (by decide) (by decide) (by decide))
        · exact (q1 7 (by decide) (by decide) (by decide) (by decide) (by decide) (by decide)).trans (a1 7 (by decide) (by decide) (by decide) (by decide) (by decide) (by decide))
        · exact (p2 5 (by decide)).trans (e5 5 (by decide) (by decide))
        · show sp_cpy (v'.2.1 1) (v'.2.1 2) 0 0 103 q = _
          rw [sp_cpy_at (Nat.zero_le _) (by omega), p2 2 (by decide), e22, sp_cpy_at (Nat.zero_le _) (by omega)]
          exact congrArg (w.2.1 1) (by omega)
      · rw [eB, eA] at hr
        rw [zm_g10 d, hv.2.1, if_pos (by decide), zm_p6 d, zm_p7 d, zm_g5 d, zm_s5 d (by decide)]
        refine ⟨zi_inn (a := 0) (by decide) (by decide), ?_⟩
        rw [zm_g5 d, zm_s5 d (by decide)]
        refine ⟨zi_inn (a := 1) (by decide) (by decide), ?_⟩
        rw [zm_g1 d, zm_r1 d (by decide)]
        refine ⟨zi_inn (a := 0) (by decide) (by decide), ?_⟩
        obtain ⟨⟨p1, p2, p3⟩, p10, p11⟩ := hv
        have q1 : ∀ k, k ≠ 10 → k ≠ 11 → k ≠ 13 → k ≠ 14 → k ≠ 15 → k ≠ 16 → v'.1 k = w1.1 k := fun k k1 k2 k3 k4 k5 k6 => by rw [p1 k k1 k2 k3 k4 k5 k6, e1]
        have hfin := h2 N hNb rfl r hr (zAI (zAI (zS (zS v' 6 1) 7 0) 5 (upd (v'.2.1 5) (0 : Int32).toNatClampNeg (vp_nar .boolean 0))) 5 (upd (upd (v'.2.1 5) (0 : Int32).toNatClampNeg (vp_nar .boolean 0)) (1 : Int32).toNatClampNeg (vp_nar .boolean 0))) ⟨fun k k0 k6 k7 k9 k10 k11 k12 k13 k14 k15 k16 => (if_neg k7).trans ((if_neg k6).trans ((q1 k k10 k11 k13 k14 k15 k16).trans (a1 k k0 k9 k10 k11 k12 k13))), fun k k1 k2 k5 => (zAI_ne _ _ k5).trans ((zAI_ne _ _ k5).trans ((p2 k k1).trans (e5 k k1 k2)))⟩ ((q1 0 (by decide) (by decide) (by decide) (by decide) (by decide) (by decide)).trans v0) ((q1 9 (by decide) (by decide) (by decide) (by decide) (by decide) (by decide)).trans v9) p10 ?_ rfl rfl hv1 rfl rfl
        · rw [← hv1] at hfin
          exact hfin
        · rw [show (zAI (zAI (zS (zS v' 6 1) 7 0) 5 (upd (v'.2.1 5) (0 : Int32).toNatClampNeg (vp_nar .boolean 0))) 5 (upd (upd (v'.2.1 5) (0 : Int32).toNatClampNeg (vp_nar .boolean 0)) (1 : Int32).toNatClampNeg (vp_nar .boolean 0))).1 11 = v'.1 11 from rfl, p11, e1]
          exact v11
  · rw [sp_bf e, if_neg (by decide), if_neg (by decide)]
    exact h0 e
end ZM26
