set_option maxRecDepth 100000
/-! steps -/
theorem zi_nn {a : Nat} (h : a < 2 ^ 31) : ¬ Int32.ofNat a < 0 := by
  rw [show (0 : Int32) = Int32.ofNat 0 from rfl, zi_lt h (by decide)]
  omega
/-- two states of the reference, alike but for the line and what is scratch -/
def zSm (w v : zM) : Prop := (∀ k, k ≠ 20 → v.1 k = w.1 k) ∧ (∀ k, k ≠ 1 → k ≠ 18 → k ≠ 19 → k ≠ 23 → v.2.1 k = w.2.1 k)
theorem zSm.refl (w : zM) : zSm w w := ⟨fun _ _ => rfl, fun _ _ _ _ _ => rfl⟩
theorem zSm.trans {u v w : zM} (h : zSm u v) (g : zSm v w) : zSm u w := ⟨fun k hk => (g.1 k hk).trans (h.1 k hk), fun k h1 h2 h3 h4 => (g.2 k h1 h2 h3 h4).trans (h.2 k h1 h2 h3 h4)⟩
theorem zSf.sm {v w : zM} (h : zSf w v) : zSm w v := ⟨h.1, fun k _ h2 h3 _ => h.2.1 k h2 h3⟩
theorem zSm.ai1 {w v : zM} (h : zSm w v) (f : Nat → Int32) : zSm w (zAI v 1 f) := ⟨h.1, fun k h1 h2 h3 h4 => (if_neg h1).trans (h.2 k h1 h2 h3 h4)⟩
theorem zSm.ai23 {w v : zM} (h : zSm w v) (f : Nat → Int32) : zSm w (zAI v 23 f) := ⟨h.1, fun k h1 h2 h3 h4 => (if_neg h4).trans (h.2 k h1 h2 h3 h4)⟩
/-- a row in which the bodies ahead of b have gone -/
def sp_gone (a : Nat → Int32) (g : Nat → Int32) (b : Nat) : Nat → Int32 := fun q => if 7 ≤ q ∧ q < 7 + 4 * b then (if (q - 7) % 4 = 0 then a q + g ((q - 7) / 4) else if (q - 7) % 4 = 3 then a q + sp_b (g ((q - 7) / 4) ≠ 0) else a q) else a q
theorem sp_gone_0 (a g : Nat → Int32) : sp_gone a g 0 = a := by
  funext q
  exact if_neg (by omega)
theorem sp_gone_ne (a g : Nat → Int32) {b q : Nat} (h : q < 7 ∨ 7 + 4 * b ≤ q) : sp_gone a g b q = a q := if_neg (by omega)
theorem sp_gone_x (a g : Nat → Int32) {b n : Nat} (h : b < n) : sp_gone a g n (7 + 4 * b) = a (7 + 4 * b) + g b := by
  unfold sp_gone
  rw [if_pos (by omega), if_pos (by omega), show (7 + 4 * b - 7) / 4 = b by omega]
theorem sp_gone_m (a g : Nat → Int32) {b n : Nat} (h : b < n) : sp_gone a g n (7 + 4 * b + 3) = a (7 + 4 * b + 3) + sp_b (g b ≠ 0) := by
  unfold sp_gone
  rw [if_pos (by omega), if_neg (by omega), if_pos (by omega), show (7 + 4 * b + 3 - 7) / 4 = b by omega]
theorem sp_gone_o (a g : Nat → Int32) {b n k : Nat} (h1 : k = 1 ∨ k = 2) : sp_gone a g n (7 + 4 * b + k) = a (7 + 4 * b + k) := by
  unfold sp_gone
  split
  · rw [if_neg (by omega), if_neg (by omega)]
  · rfl
theorem sp_gone_s (a g : Nat → Int32) (b : Nat) : upd (upd (sp_gone a g b) (7 + 4 * b) (a (7 + 4 * b) + g b)) (7 + 4 * b + 3) (a (7 + 4 * b + 3) + sp_b (g b ≠ 0)) = sp_gone a g (b + 1) := by
  funext q
  show (if q = 7 + 4 * b + 3 then _ else if q = 7 + 4 * b then _ else sp_gone a g b q) = _
  by_cases e1 : q = 7 + 4 * b + 3
  · rw [if_pos e1, e1, sp_gone_m a g (by omega)]
  · rw [if_neg e1]
    by_cases e2 : q = 7 + 4 * b
    · rw [if_pos e2, e2, sp_gone_x a g (by omega)]
    · rw [if_neg e2]
      unfold sp_gone
      by_cases e3 : 7 ≤ q ∧ q < 7 + 4 * b
      · rw [if_pos e3, if_pos (show 7 ≤ q ∧ q < 7 + 4 * (b + 1) by omega)]
      · rw [if_neg e3]
        by_cases e4 : 7 ≤ q ∧ q < 7 + 4 * (b + 1)
        · rw [if_pos e4, if_neg (show ¬ (q - 7) % 4 = 0 by omega), if_neg (show ¬ (q - 7) % 4 = 3 by omega)]
        · rw [if_neg e4]
def sp_gon (g : Nat → Int32) (n : Nat) : Int32 := zacc (fun b s => s + sp_b (g b ≠ 0)) 0 n
def sp_stN (a : Nat → Int32) (n l o : Nat) : Int32 := sp_gon (fun b => sp_moves a n l o b) n
def sp_fin (a : Nat → Int32) (N : Int32) : Nat → Int32 := upd (upd a 6 (a 6 + 1)) 1 (a 1 + N)
def sp_step (a : Nat → Int32) (n l o : Nat) : Nat → Int32 := sp_fin (sp_gone a (fun b => sp_moves a n l o b) n) (sp_stN a n l o)
theorem sp_b_cases (p : Prop) [Decidable p] : sp_b p = 0 ∨ sp_b p = 1 := by
  by_cases g : p
  · exact Or.inr (sp_bt g)
  · exact Or.inl (sp_bf g)
theorem sp_moves_ok {a : Nat → Int32} {n l o b : Nat} (hr : zRow a n l o) (hb : b < n) : ∃ x, x < 256 ∧ a (7 + 4 * b) + sp_moves a n l o b = Int32.ofNat x := by
  obtain ⟨e1, e2⟩ := zpt_eq hr hb
  have h0 : ∃ x, x < 256 ∧ a (7 + 4 * b) + 0 = Int32.ofNat x := ⟨_, e2, by rw [Int32.add_zero]; exact e1⟩
  unfold sp_moves
  split
  · exact h0
  · unfold sp_goes
    split
    · split
      · exact h0
      · by_cases g : 0 < a (7 + 4 * b)
        · rw [sp_bt g]
          rw [e1] at g ⊢
          have g2 := (zi_lt (a := 0) (by omega) (by omega)).mp g
          refine ⟨zpt a b - 1, by omega, ?_⟩
          rw [Int32.ofNat_sub _ _ g2, Int32.sub_eq_add_neg]
          rfl
        · rw [sp_bf g]
          exact h0
    · by_cases g : a (7 + 4 * b) < 255
      · rw [sp_bt g]
        rw [e1] at g ⊢
        have g2 := (zi_lt (b := 255) (by omega) (by omega)).mp g
        exact ⟨zpt a b + 1, by omega, zi_succ _⟩
      · rw [sp_bf g]
        exact h0
theorem upd_at (f : Nat → Int32) (k : Nat) (v : Int32) : upd f k v k = v := if_pos rfl
theorem upd_ot {f : Nat → Int32} {k q : Nat} {v : Int32} (h : q ≠ k) : upd f k v q = f q := if_neg h
theorem sp_step_lo (a : Nat → Int32) (n l o : Nat) {q : Nat} (h : q < 7) (h1 : q ≠ 6) (h2 : q ≠ 1) : sp_step a n l o q = a q := by
  unfold sp_step sp_fin
  rw [upd_ot h2, upd_ot h1, sp_gone_ne _ _ (Or.inl h)]
theorem sp_step_hi (a : Nat → Int32) (n l o : Nat) {q : Nat} (h : 7 ≤ q) : sp_step a n l o q = sp_gone a (fun b => sp_moves a n l o b) n q := by
  unfold sp_step sp_fin
  rw [upd_ot (by omega), upd_ot (by omega)]
theorem sp_step_6 (a : Nat → Int32) (n l o : Nat) : sp_step a n l o 6 = a 6 + 1 := by
  unfold sp_step sp_fin
  rw [upd_ot (by decide), upd_at, sp_gone_ne _ _ (Or.inl (by decide))]
theorem sp_step_1 (a : Nat → Int32) (n l o : Nat) : sp_step a n l o 1 = a 1 + sp_stN a n l o := by
  unfold sp_step sp_fin
  rw [upd_at, sp_gone_ne _ _ (Or.inl (by decide))]
theorem zRow_step {a : Nat → Int32} {n l o : Nat} (hr : zRow a n l o) : zRow (sp_step a n l o) n l o := by
  have hr0 := hr
  obtain ⟨hn, h24, hl, h2, h5, ho, h4, hf, hb⟩ := hr
  refine ⟨(sp_step_lo a n l o (by decide) (by decide) (by decide)).trans hn, h24, (sp_step_lo a n l o (by decide) (by decide) (by decide)).trans hl, h2, h5, (sp_step_lo a n l o (by decide) (by decide) (by decide)).trans ho, h4, ?_, fun b hb2 => ?_⟩
  · rw [sp_step_lo a n l o (by decide) (by decide) (by decide)]
    exact hf
  · rw [sp_step_hi a n l o (by omega), sp_step_hi a n l o (by omega), sp_step_hi a n l o (by omega), sp_gone_x _ _ hb2, sp_gone_o _ _ (Or.inl rfl), sp_gone_o _ _ (Or.inr rfl)]
    exact ⟨sp_moves_ok hr0 hb2, (hb b hb2).2⟩
def sp_stepsA (a : Nat → Int32) (n l o : Nat) (k : Nat) : Nat → Int32 := zacc (fun _ a => sp_step a n l o) a k
def sp_stepsN (a : Nat → Int32) (n l o : Nat) (k : Nat) : Int32 := zacc (fun k s => s + sp_stN (sp_stepsA a n l o k) n l o) 0 k
theorem zRow_steps {a : Nat → Int32} {n l o : Nat} (hr : zRow a n l o) : ∀ k, zRow (sp_stepsA a n l o k) n l o
  | 0 => hr
  | k + 1 => zRow_step (zRow_steps hr k)
def sp_still (a : Nat → Int32) (n l o : Nat) : Nat := zfirst (fun b => decide (sp_moves a n l o b ≠ 0)) n
section ZM14
variable {m : Nat → Nat} {w : zM} {h : zw_H} {K : Nat → Option Nat} {X : String → Nat → zw_H → Prop}
theorem e_putsN (d : zm_d m) {b k : Nat} (hb : b < 24) (hk : k < 4) {c : Int32} {Q : zw_H → Prop} : f_X2_puts K (some (m 0)) (Int32.ofNat b) (Int32.ofNat k) c (zm_o m w h) Q X = Q (zm_o m (zAI w 1 (upd (w.2.1 1) (7 + 4 * b + k) c)) h) := by
  rw [e_puts d, zi_ix, zi_clamp (by omega)]
  exact propext ⟨fun g => g.2, fun g => ⟨zi_inn (by omega) (by decide), g⟩⟩
theorem e_puts0 (d : zm_d m) {b : Nat} (hb : b < 24) {c : Int32} {Q : zw_H → Prop} : f_X2_puts K (some (m 0)) (Int32.ofNat b) 0 c (zm_o m w h) Q X = Q (zm_o m (zAI w 1 (upd (w.2.1 1) (7 + 4 * b) c)) h) := e_putsN d hb (k := 0) (by decide)
theorem e_puts3 (d : zm_d m) {b : Nat} (hb : b < 24) {c : Int32} {Q : zw_H → Prop} : f_X2_puts K (some (m 0)) (Int32.ofNat b) 3 c (zm_o m w h) Q X = Q (zm_o m (zAI w 1 (upd (w.2.1 1) (7 + 4 * b + 3) c)) h) := e_putsN d hb (k := 3) (by decide)
theorem c_steps (d : zm_d m) {a : Nat → Int32} (ha : w.2.1 1 = a) {n l o : Nat} (hr : zRow a n l o) {Q : Int32 → zw_H → Prop} (hQ : ∀ v, zSm w v → v.2.1 1 = sp_step a n l o → Q (sp_stN a n l o) (zm_o m v h)) : f_X2_steps K (some (m 0)) (zm_o m w h) Q X := by
  have hn := hr.1
  have h24 := hr.2.1
  unfold f_X2_steps
  refine zl2_inv (B := f_X2_steps_B4 K Q X _ (some (m 0)) 0) (fun b x hh => x = Int32.ofNat b ∧ ∃ v, hh = zm_o m v h ∧ zSm w v ∧ v.2.1 1 = a ∧ ∀ c, c < b → v.2.1 23 c = sp_moves a n l o c) (n := n) (fun R b hb x hh hp hR => ?_) (fun R x hh hp => ?_) n zfu 0 (by omega) (Nat.lt_of_le_of_lt h24 (by decide)) _ _ ⟨rfl, w, rfl, zSm.refl w, ha, fun c hc => absurd hc (Nat.not_lt_zero c)⟩
  · obtain ⟨rfl, v, rfl, hs, hrow, hg⟩ := hp
    unfold f_X2_steps_B4
    rw [e_n d (n := n) (by rw [hrow]; exact hn), if_neg (by rw [zi_le (by omega) (by omega)]; omega), zm_g23 d, zm_c d]
    refine c_moves d hrow hr hb (fun u hu => ?_)
    rw [zm_s23 d (by decide), zi_clamp (by omega)]
    refine ⟨zi_inn (by omega) (by decide), ?_⟩
    simp only [olet_iff, zi_succ]
    refine hR _ _ ⟨rfl, _, rfl, (hs.trans hu.sm).ai23 _, hu.row.trans hrow, fun c hc => ?_⟩
    show (if c = b then sp_moves a n l o b else u.2.1 23 c) = _
    by_cases e : c = b
    · rw [if_pos e, e]
    · rw [if_neg e, hu.2.1 23 (by decide) (by decide)]
      exact hg c (by omega)
  · obtain ⟨rfl, v, rfl, hs, hrow, hg⟩ := hp
    unfold f_X2_steps_B4
    rw [e_n d (n := n) (by rw [hrow]; exact hn), if_pos (by rw [zi_le (by omega) (by omega)]; omega)]
    have e0 : zm_o m v h = zm_o m (zAI v 1 (sp_gone a (fun b => sp_moves a n l o b) 0)) h := by rw [sp_gone_0, ← hrow, zAI_self]
    rw [e0]
    refine zl3_run (B := f_X2_steps_B33 K Q X _ (some (m 0))) (fun b => sp_gon (fun b => sp_moves a n l o b) b) (fun b => Int32.ofNat b) (fun b => zm_o m (zAI v 1 (sp_gone a (fun b => sp_moves a n l o b) b)) h) (n := n) (fun R b hb hR => ?_) (fun R => ?_) n zfu 0 (by omega) (Nat.lt_of_le_of_lt h24 (by decide))
    · unfold f_X2_steps_B33 f_X2_steps_J85 f_X2_steps_J107
      have er : ∀ f : Nat → Int32, (zAI v 1 f).2.1 1 = f := fun f => rfl
      have er2 : ∀ f : Nat → Int32, (zAI v 1 f).2.1 23 = v.2.1 23 := fun f => rfl
      rw [e_n d (n := n) (by rw [er, sp_gone_ne _ _ (Or.inl (by decide))]; exact hn), if_neg (by rw [zi_le (by omega) (by omega)]; omega)]
      have hi : vp_in (Int32.ofNat b) 24 := zi_inn (by omega) (by decide)
      have h23 : (0 : Nat) ∈ [0, 11] := by decide
      simp only [olet_iff, zi_succ, zm_c d, e_of0 d (show b < 24 by omega), e_of3 d (show b < 24 by omega), e_puts0 d (show b < 24 by omega), e_puts3 d (show b < 24 by omega), e_one, zm_g23 d, zm_r23 d h23, zi_clamp (show b < 2 ^ 31 by omega), hi, true_and, er, er2, hg b hb, zAI_twice]
      have e3 : ∀ x : Int32, upd (sp_gone a (fun b => sp_moves a n l o b) b) (7 + 4 * b) x (7 + 4 * b + 3) = a (7 + 4 * b + 3) := fun x => (if_neg (by omega)).trans (sp_gone_ne _ _ (Or.inr (by omega)))
      have hsum : sp_gon (fun b => sp_moves a n l o b) (b + 1) = sp_gon (fun b => sp_moves a n l o b) b + sp_b (sp_moves a n l o b ≠ 0) := rfl
      have hst := sp_gone_s a (fun b => sp_moves a n l o b) b
      rw [hsum, ← hst] at hR
      rw [e3, sp_gone_ne _ _ (Or.inr (Nat.le_refl _))]
      by_cases g : sp_moves a n l o b = 0
      · rw [sp_bf (fun e => e g)] at hR
        rw [if_pos g, if_pos g]
        exact hR
      · rw [sp_bt g] at hR
        rw [if_neg g, if_neg g]
        exact hR
    · unfold f_X2_steps_B33
      have er : ∀ f : Nat → Int32, (zAI v 1 f).2.1 1 = f := fun f => rfl
      rw [e_n d (n := n) (by rw [er, sp_gone_ne _ _ (Or.inl (by decide))]; exact hn), if_pos (by rw [zi_le (by omega) (by omega)]; omega)]
      dsimp only
      rw [zm_g1 d, zm_r1 d (by decide)]
      refine ⟨zi_inn (a := 6) (by decide) (by decide), ?_⟩
      rw [zm_s1 d (by decide)]
      refine ⟨zi_inn (a := 6) (by decide) (by decide), ?_⟩
      rw [zm_g1 d, zm_r1 d (by decide)]
      refine ⟨zi_inn (a := 1) (by decide) (by decide), ?_⟩
      rw [zm_s1 d (by decide)]
      refine ⟨zi_inn (a := 1) (by decide) (by decide), ?_⟩
      rw [zAI_twice, zAI_twice]
      exact hQ _ (hs.ai1 _) rfl
theorem c_stepsMany (d : zm_d m) {a : Nat → Int32} (ha : w.2.1 1 = a) {n l o k : Nat} (hr : zRow a n l o) (hk : k ≤ 50) {Q : Int32 → zw_H → Prop} (hQ : ∀ v, zSm w v → v.2.1 1 = sp_stepsA a n l o k → Q (sp_stepsN a n l o k) (zm_o m v h)) : f_X2_stepsMany K (some (m 0)) (Int32.ofNat k) (zm_o m w h) Q X := by
  unfold f_X2_stepsMany
  refine zl3_inv (B := f_X2_stepsMany_B4 K Q X _ (some (m 0)) (Int32.ofNat k)) (fun b s x hh => s = sp_stepsN a n l o b ∧ x = Int32.ofNat b ∧ ∃ v, hh = zm_o m v h ∧ zSm w v ∧ v.2.1 1 = sp_stepsA a n l o b) (n := k) (fun R b hb s x hh hp hR => ?_) (fun R s x hh hp => ?_) k zfu 0 (by omega) (Nat.lt_of_le_of_lt hk (by decide)) _ _ _ ⟨rfl, rfl, w, rfl, zSm.refl w, ha⟩
  · obtain ⟨rfl, rfl, v, rfl, hs, hrow⟩ := hp
    unfold f_X2_stepsMany_B4
    rw [if_neg (by rw [zi_le (by omega) (by omega)]; omega), zm_c d]
    refine c_steps d hrow (zRow_steps hr b) (fun u hu hu2 => ?_)
    simp only [olet_iff, zi_succ]
    exact hR _ _ _ ⟨rfl, rfl, u, rfl, hs.trans hu, hu2⟩
  · obtain ⟨rfl, rfl, v, rfl, hs, hrow⟩ := hp
    unfold f_X2_stepsMany_B4
    rw [if_pos (by rw [zi_le (by omega) (by omega)]; omega)]
    exact hQ v hs hrow
theorem c_isStill (d : zm_d m) {a : Nat → Int32} (ha : w.2.1 1 = a) {n l o : Nat} (hr : zRow a n l o) {Q : Int32 → zw_H → Prop} (hQ : ∀ v, zSf w v → Q (sp_b (¬ sp_still a n l o < n)) (zm_o m v h)) : f_X2_isStill K (some (m 0)) (zm_o m w h) Q X := by
  have hn := hr.1
  have h24 := hr.2.1
  have hle : sp_still a n l o ≤ n := zfirst_le _ n
  unfold f_X2_isStill
  refine zl2_inv (B := f_X2_isStill_B2 K Q X _ _ (some (m 0))) (fun b x hh => x = Int32.ofNat b ∧ ∃ v, hh = zm_o m v h ∧ zSf w v) (n := sp_still a n l o) (fun R b hb x hh hp hR => ?_) (fun R x hh hp => ?_) (sp_still a n l o) zfu 0 (by omega) (Nat.lt_of_le_of_lt (Nat.le_trans hle h24) (by decide)) _ _ ⟨rfl, w, rfl, zSf.refl w⟩
  · obtain ⟨rfl, v, rfl, hs⟩ := hp
    have hrow : v.2.1 1 = a := hs.row.trans ha
    have h1 : sp_moves a n l o b = 0 := Classical.not_not.mp (of_decide_eq_false (zfirst_no _ n b hb))
    unfold f_X2_isStill_B2
    rw [e_n d (n := n) (by rw [hrow]; exact hn), if_neg (by rw [zi_le (by omega) (by omega)]; omega), zm_c d]
    refine c_moves d hrow hr (by omega) (fun u hu => ?_)
    rw [if_pos h1]
    simp only [olet_iff, zi_succ]
    exact hR _ _ ⟨rfl, u, rfl, hs.trans hu⟩
  · obtain ⟨rfl, v, rfl, hs⟩ := hp
    have hrow : v.2.1 1 = a := hs.row.trans ha
    unfold f_X2_isStill_B2
    by_cases g : sp_still a n l o < n
    · have h1 : sp_moves a n l o (sp_still a n l o) ≠ 0 := of_decide_eq_true (zfirst_yes (fun b => decide (sp_moves a n l o b ≠ 0)) n g)
      rw [sp_bf (fun e => e g)] at hQ
      rw [e_n d (n := n) (by rw [hrow]; exact hn), if_neg (by rw [zi_le (by omega) (by omega)]; omega), zm_c d]
      refine c_moves d hrow hr g (fun u hu => ?_)
      rw [if_neg h1]
      exact hQ u (hs.trans hu)
    · rw [sp_bt g] at hQ
      rw [e_n d (n := n) (by rw [hrow]; exact hn), if_pos (by rw [zi_le (by omega) (by omega)]; omega)]
      exact hQ v hs
end ZM14
