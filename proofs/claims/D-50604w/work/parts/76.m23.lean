set_option maxRecDepth 100000
/-! changes of the reference's line; undo and slots -/
/-- the past: u rows -/
def zPast (w : zM) (u : Nat) (P : Nat → Nat → Int32) : Prop := w.1 7 = Int32.ofNat u ∧ u ≤ 8 ∧ ∀ k, k < u → ∀ q, q < 103 → w.2.1 3 (103 * k + q) = P k q
def sp_pushN (u : Nat) : Nat := if u = 8 then 8 else u + 1
def sp_pushP (u : Nat) (P : Nat → Nat → Int32) (a : Nat → Int32) : Nat → Nat → Int32 := fun k => if u = 8 then (if k < 7 then P (k + 1) else a) else if k < u then P k else a
def zSr (w v : zM) : Prop := (∀ k, k ≠ 7 → v.1 k = w.1 k) ∧ (∀ k, k ≠ 3 → v.2.1 k = w.2.1 k)
/-- what a change leaves of the state -/
def zSu (w v : zM) : Prop := v.1 0 = 0 ∧ (∀ k, k ≠ 0 → k ≠ 7 → k ≠ 20 → v.1 k = w.1 k) ∧ (∀ k, k ≠ 1 → k ≠ 2 → k ≠ 3 → k ≠ 18 → k ≠ 19 → k ≠ 23 → v.2.1 k = w.2.1 k)
theorem zSu.r {w v : zM} (h : zSr (zS w 0 0) v) : zSu w v := ⟨h.1 0 (by decide), fun k h1 h2 _ => (h.1 k h2).trans (if_neg h1), fun k _ _ h3 _ _ _ => h.2 k h3⟩
theorem zSu.ai1 {w v : zM} (h : zSu w v) (f : Nat → Int32) : zSu w (zAI v 1 f) := ⟨h.1, h.2.1, fun k h1 h2 h3 h4 h5 h6 => (if_neg h1).trans (h.2.2 k h1 h2 h3 h4 h5 h6)⟩
theorem zSu.sm {w v u : zM} (h : zSu w v) (g : zSm v u) : zSu w u := ⟨(g.1 0 (by decide)).trans h.1, fun k h1 h2 h3 => (g.1 k h3).trans (h.2.1 k h1 h2 h3), fun k h1 h2 h3 h4 h5 h6 => (g.2 k h1 h4 h5 h6).trans (h.2.2 k h1 h2 h3 h4 h5 h6)⟩
theorem zPast.ai1 {w : zM} {u : Nat} {P : Nat → Nat → Int32} (h : zPast w u P) (f : Nat → Int32) : zPast (zAI w 1 f) u P := h
theorem zPast.sm {w v : zM} {u : Nat} {P : Nat → Nat → Int32} (h : zPast w u P) (g : zSm w v) : zPast v u P := ⟨(g.1 7 (by decide)).trans h.1, h.2.1, fun k hk q hq => by rw [g.2 3 (by decide) (by decide) (by decide) (by decide)]; exact h.2.2 k hk q hq⟩
theorem zRow_congr {a b : Nat → Int32} {n l o : Nat} (h : ∀ q, q < 103 → b q = a q) (hr : zRow a n l o) : zRow b n l o := by
  obtain ⟨hn, h24, hl, h2, h5, ho, h4, hf, hb⟩ := hr
  refine ⟨(h 0 (by decide)).trans hn, h24, (h 3 (by decide)).trans hl, h2, h5, (h 4 (by decide)).trans ho, h4, ?_, fun b hb2 => ?_⟩
  · rw [h 5 (by decide)]
    exact hf
  · rw [h _ (by omega), h _ (by omega), h _ (by omega)]
    exact hb b hb2
theorem sp_cpy_at {g f : Nat → Int32} {i j k q : Nat} (h1 : j ≤ q) (h2 : q < j + k) : sp_cpy g f i j k q = f (i + (q - j)) := if_pos ⟨h1, h2⟩
theorem sp_cpy_ot {g f : Nat → Int32} {i j k q : Nat} (h : ¬ (j ≤ q ∧ q < j + k)) : sp_cpy g f i j k q = g q := if_neg h
/-! codes and what is made of a row -/
def sp_chg (c : Int32) : Prop := c ≠ 0 ∧ -99 ≤ c ∧ c ≤ 99
def sp_cAdd (t : Int32) (a : Nat → Int32) (n : Nat) (fx x c : Int32) : Int32 := sp_may t (sp_b ((0 ≤ x ∧ x ≤ 255) ∧ (c ≠ 0 ∧ -99 ≤ c ∧ c ≤ 99) ∧ a 0 < 24 ∧ (fx = 0 ∨ ¬ sp_fixedAt a n x < n))) 1
def sp_add (a : Nat → Int32) (n : Nat) (fx x c : Int32) : Nat → Int32 := upd (upd (upd (upd (upd a 0 (Int32.ofNat (n + 1))) (7 + 4 * n) x) (7 + 4 * n + 1) c) (7 + 4 * n + 2) fx) (7 + 4 * n + 3) 0
def sp_cMove (t : Int32) (a : Nat → Int32) (b x : Int32) : Int32 := sp_may t (sp_b (t ≠ 0 ∧ 0 ≤ b ∧ b ≤ a 0 - 1)) (sp_b ((t ≠ 0 ∧ 0 ≤ b ∧ b ≤ a 0 - 1) ∧ (0 ≤ x ∧ x ≤ 255) ∧ a (7 + 4 * b.toNatClampNeg + 2) = 0))
def sp_cChg (t : Int32) (a : Nat → Int32) (b c : Int32) : Int32 := sp_may t (sp_b (0 ≤ b ∧ b ≤ a 0 - 1)) (sp_b (c ≠ 0 ∧ -99 ≤ c ∧ c ≤ 99))
def sp_rem (a : Nat → Int32) (n b : Nat) (c : Nat) : Nat → Int32 := fun q => if q = 0 then Int32.ofNat (n - 1) else if 7 + 4 * b ≤ q ∧ q < 7 + 4 * b + c then a (q + 4) else a q
def sp_cStep (t : Int32) (a : Nat → Int32) (k : Int32) : Int32 := sp_may t (sp_b ((1 ≤ k ∧ k ≤ 50) ∧ a 6 + k ≤ 9999)) 1
abbrev sp_num3 (k v : Int32) : Prop := (k = 3 ∧ 2 ≤ v ∧ v ≤ 5) ∨ (k = 4 ∧ 0 ≤ v ∧ v ≤ 4) ∨ (k = 5 ∧ 0 ≤ v ∧ v ≤ 999)
def sp_cNum (t k v : Int32) : Int32 := sp_may t (sp_b (sp_num3 k v)) 1
def sp_cUndo (u : Int32) : Int32 := sp_may (sp_b (0 < u)) 1 1
def sp_cSave (t k : Int32) : Int32 := sp_may t (sp_b (0 ≤ k ∧ k ≤ 1)) 1
def sp_cRest (s : Nat → Int32) (k : Int32) : Int32 := sp_may (sp_b (0 ≤ k ∧ k ≤ 1)) (sp_b ((0 ≤ k ∧ k ≤ 1) ∧ s k.toNatClampNeg ≠ 0)) 1
theorem zi_2 {k : Int32} (h : 0 ≤ k ∧ k ≤ 1) : ∃ c : Nat, c < 2 ∧ k = Int32.ofNat c := by
  obtain ⟨c, hc, rfl⟩ := zi_of h.1
  have := (zi_le (b := 1) hc (by decide)).mp h.2
  exact ⟨c, by omega, rfl⟩
section ZM23
variable {m : Nat → Nat} {w : zM} {h : zw_H} {K : Nat → Option Nat} {X : String → Nat → zw_H → Prop}
theorem c_remJ (d : zm_d m) {u : Nat} (hu : w.1 7 = Int32.ofNat u) (h8 : u < 8) {Q : zw_H → Prop} (hQ : Q (zm_o m (zS (zAI w 3 (sp_cpy (w.2.1 3) (w.2.1 1) 0 (103 * u) 103)) 7 (Int32.ofNat (u + 1))) h)) : f_X2_remembers_J49 K Q X (some (m 0)) (zm_o m w h) := by
  unfold f_X2_remembers_J49
  rw [zm_g1 d, zm_g3 d, zm_g7 d, hu, show Int32.ofNat u * 103 = Int32.ofNat (103 * u) by rw [Nat.mul_comm]; exact (Int32.ofNat_mul u 103).symm]
  refine c_lays 1 3 103 824 (by decide) 0 (103 * u) (by decide) (by omega) (by decide) (by decide) (fun w x F => zm_r1 d (by decide) x F) (fun w x v F => zm_s3 d (by decide) x v F) ?_
  rw [zm_g7 d, show (zAI w 3 (sp_cpy (w.2.1 3) (w.2.1 1) 0 (103 * u) 103)).1 7 = Int32.ofNat u from hu, zm_p7 d, zi_succ]
  exact hQ
theorem c_remembers (d : zm_d m) {u : Nat} {P : Nat → Nat → Int32} (hP : zPast w u P) {Q : zw_H → Prop} (hQ : ∀ v, zSr w v → zPast v (sp_pushN u) (sp_pushP u P (w.2.1 1)) → Q (zm_o m v h)) : f_X2_remembers K (some (m 0)) (zm_o m w h) Q X := by
  obtain ⟨hu, h8, hrows⟩ := hP
  unfold f_X2_remembers
  rw [zm_g7 d, hu]
  by_cases g : u = 8
  · subst g
    rw [if_neg (by decide)]
    refine zl2_inv (B := f_X2_remembers_B11 K Q X _ (some (m 0))) (fun c x hh => x = Int32.ofNat c ∧ ∃ f, hh = zm_o m (zAI w 3 f) h ∧ (∀ q, q < c → f q = w.2.1 3 (q + 103)) ∧ (∀ q, c ≤ q → f q = w.2.1 3 q)) (n := 721) (fun R c hc x hh hp hR => ?_) (fun R x hh hp => ?_) 721 zfu 0 (by omega) (by decide) _ _ ⟨rfl, w.2.1 3, by rw [zAI_self], fun q hq => absurd hq (Nat.not_lt_zero q), fun q _ => rfl⟩
    · obtain ⟨rfl, f, rfl, k1, k2⟩ := hp
      unfold f_X2_remembers_B11
      rw [if_neg (by rw [show (721 : Int32) = Int32.ofNat 721 from rfl, zi_le (by omega) (by omega)]; omega), zm_g3 d, zm_g3 d, zm_r3 d (by decide), show Int32.ofNat c + 103 = Int32.ofNat (c + 103) from (Int32.ofNat_add c 103).symm, zi_clamp (by omega)]
      refine ⟨zi_inn (by omega) (by decide), ?_⟩
      rw [zm_s3 d (by decide), zi_clamp (by omega)]
      refine ⟨zi_inn (by omega) (by decide), ?_⟩
      rw [zAI_twice, show (zAI w 3 f).2.1 3 = f from rfl]
      simp only [olet_iff, zi_succ]
      refine hR _ _ ⟨rfl, _, rfl, fun q hq => ?_, fun q hq => ?_⟩
      · by_cases e : q = c
        · rw [e, upd_at]
          exact k2 (c + 103) (by omega)
        · rw [upd_ot e]
          exact k1 q (by omega)
      · rw [upd_ot (by omega)]
        exact k2 q (by omega)
    · obtain ⟨rfl, f, rfl, k1, k2⟩ := hp
      unfold f_X2_remembers_B11
      rw [if_pos (by decide)]
      dsimp only
      rw [zm_g7 d, show (zAI w 3 f).1 7 = Int32.ofNat 8 from hu, zm_p7 d]
      refine c_remJ d (u := 7) rfl (by decide) ?_
      refine hQ _ ⟨fun k hk => ?_, fun k hk => ?_⟩ ⟨rfl, by decide, fun k hk q hq => ?_⟩
      · show (if k = 7 then _ else if k = 7 then _ else w.1 k) = w.1 k
        rw [if_neg hk, if_neg hk]
      · show (if k = 3 then _ else if k = 3 then _ else w.2.1 k) = w.2.1 k
        rw [if_neg hk, if_neg hk]
      · have hk8 : k < 8 := hk
        show sp_cpy f (w.2.1 1) 0 (103 * 7) 103 (103 * k + q) = (if (8 : Nat) = 8 then (if k < 7 then P (k + 1) else w.2.1 1) else _) q
        rw [if_pos rfl]
        by_cases e : k < 7
        · rw [if_pos e, sp_cpy_ot (by omega), k1 _ (by omega), ← hrows (k + 1) (by omega) q hq]
          exact congrArg (w.2.1 3) (by omega)
        · rw [if_neg e, sp_cpy_at (by omega) (by omega)]
          exact congrArg (w.2.1 1) (by omega)
  · rw [if_pos (show Int32.ofNat u ≠ 8 from fun e => g ((zi_inj (b := 8) (by omega) (by decide)).mp e))]
    refine c_remJ d hu (by omega) ?_
    refine hQ _ ⟨fun k hk => if_neg hk, fun k hk => if_neg hk⟩ ⟨?_, ?_, fun k hk q hq => ?_⟩
    · unfold sp_pushN
      rw [if_neg g]
      rfl
    · unfold sp_pushN
      rw [if_neg g]
      omega
    · unfold sp_pushN at hk
      rw [if_neg g] at hk
      show sp_cpy (w.2.1 3) (w.2.1 1) 0 (103 * u) 103 (103 * k + q) = (if u = 8 then _ else if k < u then P k else w.2.1 1) q
      rw [if_neg g]
      by_cases e : k < u
      · rw [if_pos e, sp_cpy_ot (by omega)]
        exact hrows k e q hq
      · have e2 : k = u := by omega
        subst e2
        rw [if_neg e, sp_cpy_at (by omega) (by omega)]
        exact congrArg (w.2.1 1) (by omega)
theorem c_addsBody (d : zm_d m) {a : Nat → Int32} (ha : w.2.1 1 = a) {n : Nat} (hn : a 0 = Int32.ofNat n) (h24 : n < 24) {fx x c : Int32} {Q : zw_H → Prop} (hQ : Q (zm_o m (zAI w 1 (sp_add a n (sp_b (fx ≠ 0)) x c)) h)) : f_X2_addsBody K (some (m 0)) fx x c (zm_o m w h) Q X := by
  subst ha
  unfold f_X2_addsBody
  rw [e_n d hn, zm_g1 d, zm_r1 d (by decide)]
  refine ⟨zi_inn (a := 0) (by decide) (by decide), ?_⟩
  rw [show w.2.1 1 (0 : Int32).toNatClampNeg = Int32.ofNat n from hn, zm_s1 d (by decide), zi_succ]
  refine ⟨zi_inn (a := 0) (by decide) (by decide), ?_⟩
  have er : ∀ f : Nat → Int32, (zAI w 1 f).2.1 1 = f := fun f => rfl
  have p1 : ∀ (w : zM) (c : Int32) (Q : zw_H → Prop), f_X2_puts K (some (m 0)) (Int32.ofNat n) 1 c (zm_o m w h) Q X = Q (zm_o m (zAI w 1 (upd (w.2.1 1) (7 + 4 * n + 1) c)) h) := fun w c Q => e_putsN d h24 (k := 1) (by decide)
  have p2 : ∀ (w : zM) (c : Int32) (Q : zw_H → Prop), f_X2_puts K (some (m 0)) (Int32.ofNat n) 2 c (zm_o m w h) Q X = Q (zm_o m (zAI w 1 (upd (w.2.1 1) (7 + 4 * n + 2) c)) h) := fun w c Q => e_putsN d h24 (k := 2) (by decide)
  simp only [zm_c d, e_puts0 d h24, p1, p2, e_puts3 d h24, e_one, zAI_twice, er]
  exact hQ
theorem p_add (d : zm_d m) {n l o u : Nat} {P : Nat → Nat → Int32} (I : zInv w n l o) (hn : w.2.1 1 0 = Int32.ofNat n) (h24 : n ≤ 24) (hP : zPast w u P) {fx x c : Int32} {Q : Int32 → zw_H → Prop} (h0 : sp_cAdd (w.1 6) (w.2.1 1) n fx x c ≠ 0 → Q 0 (zm_o m (zS w 0 (sp_cAdd (w.1 6) (w.2.1 1) n fx x c)) h)) (h1 : sp_cAdd (w.1 6) (w.2.1 1) n fx x c = 0 → ∀ v, zSu w v → v.2.1 1 = sp_add (w.2.1 1) n (sp_b (fx ≠ 0)) x c → zPast v (sp_pushN u) (sp_pushP u P (w.2.1 1)) → Q (Int32.ofNat n) (zm_o m v h)) : f_X2_add K (some (m 0)) fx x c (zm_o m w h) Q X := by
  have key : ∀ p : Int32, p = sp_b ((0 ≤ x ∧ x ≤ 255) ∧ (c ≠ 0 ∧ -99 ≤ c ∧ c ≤ 99) ∧ w.2.1 1 0 < 24 ∧ (fx = 0 ∨ ¬ sp_fixedAt (w.2.1 1) n x < n)) → f_X2_add_J59 K Q X (some (m 0)) fx x c p (w.1 6) (some (m 0)) (zm_o m w h) := by
    intro p ep
    subst ep
    unfold f_X2_add_J59
    rw [zm_c d, e_mayCT d]
    by_cases g : sp_cAdd (w.1 6) (w.2.1 1) n fx x c = 0
    · have g' : sp_may (w.1 6) (sp_b ((0 ≤ x ∧ x ≤ 255) ∧ (c ≠ 0 ∧ -99 ≤ c ∧ c ≤ 99) ∧ w.2.1 1 0 < 24 ∧ (fx = 0 ∨ ¬ sp_fixedAt (w.2.1 1) n x < n))) 1 = 0 := g
      rw [if_pos g', if_pos (by decide), zm_c d]
      obtain ⟨k1, k2, -⟩ := sp_may0.mp g'
      have k2 := (sp_bne _).mp k2
      have k3 := k2.2.2.1
      rw [hn, show (24 : Int32) = Int32.ofNat 24 from rfl, zi_lt (by omega) (by omega)] at k3
      refine c_remembers (w := zS w 0 0) d (P := P) hP (fun v hv hv2 => ?_)
      have hrow : v.2.1 1 = w.2.1 1 := hv.2 1 (by decide)
      rw [zm_c d]
      refine c_addsBody d hrow hn k3 ?_
      rw [e_n d (n := n + 1) (by show sp_add (w.2.1 1) n (sp_b (fx ≠ 0)) x c 0 = _; unfold sp_add; rw [upd_ot (by omega), upd_ot (by omega), upd_ot (by omega), upd_ot (by omega), upd_at])]
      rw [show Int32.ofNat (n + 1) - 1 = Int32.ofNat n from (Int32.ofNat_sub (n + 1) 1 (by omega)).symm]
      exact h1 g _ ((zSu.r hv).ai1 _) rfl (hv2.ai1 _)
    · have g' : ¬ sp_may (w.1 6) (sp_b ((0 ≤ x ∧ x ≤ 255) ∧ (c ≠ 0 ∧ -99 ≤ c ∧ c ≤ 99) ∧ w.2.1 1 0 < 24 ∧ (fx = 0 ∨ ¬ sp_fixedAt (w.2.1 1) n x < n))) 1 = 0 := g
      rw [if_neg g', if_neg (by decide)]
      exact h0 g
  unfold f_X2_add f_X2_add_J29 f_X2_add_J30 f_X2_add_J58 f_X2_add_J54
  rw [e_isPoint]
  by_cases g1 : 0 ≤ x ∧ x ≤ 255
  · rw [sp_bt g1, if_neg (by decide), e_isCharge]
    by_cases g2 : c ≠ 0 ∧ -99 ≤ c ∧ c ≤ 99
    · rw [sp_bt g2, if_neg (by decide), e_n d hn]
      by_cases g3 : w.2.1 1 0 < 24
      · rw [if_neg (by rw [← hn]; exact Int32.not_le.mpr g3), zm_g6 d, if_neg (by decide)]
        by_cases g4 : fx = 0
        · rw [if_pos g4]
          exact key 1 (sp_bt ⟨g1, g2, g3, Or.inl g4⟩).symm
        · rw [if_neg g4, zm_c d]
          refine c_isFixedAt d hn h24 ?_
          by_cases g5 : sp_fixedAt (w.2.1 1) n x < n
          · rw [sp_bt g5, if_pos (by decide)]
            exact key 0 (sp_bf (fun e => e.2.2.2.elim g4 (fun e => e g5))).symm
          · rw [sp_bf g5, if_neg (by decide)]
            exact key 1 (sp_bt ⟨g1, g2, g3, Or.inr g5⟩).symm
      · rw [if_pos (by rw [← hn]; exact Int32.not_lt.mp g3), zm_g6 d, if_pos rfl]
        exact key 0 (sp_bf (fun e => g3 e.2.2.1)).symm
    · rw [sp_bf g2, if_pos rfl, zm_g6 d, if_pos rfl]
      exact key 0 (sp_bf (fun e => g2 e.2.1)).symm
  · rw [sp_bf g1, if_pos rfl, zm_g6 d, if_pos rfl]
    exact key 0 (sp_bf (fun e => g1 e.1)).symm
theorem p_move (d : zm_d m) {n l o u : Nat} {P : Nat → Nat → Int32} (I : zInv w n l o) (hP : zPast w u P) {b x : Int32} {Q : Int32 → zw_H → Prop} (h0 : sp_cMove (w.1 6) (w.2.1 1) b x ≠ 0 → Q 0 (zm_o m (zS w 0 (sp_cMove (w.1 6) (w.2.1 1) b x)) h)) (h1 : sp_cMove (w.1 6) (w.2.1 1) b x = 0 → ∀ k, k < n → b = Int32.ofNat k → ∀ v, zSu w v → v.2.1 1 = upd (w.2.1 1) (7 + 4 * k) x → zPast v (sp_pushN u) (sp_pushP u P (w.2.1 1)) → Q (x - w.2.1 1 (7 + 4 * k)) (zm_o m v h)) : f_X2_move K (some (m 0)) b x (zm_o m w h) Q X := by
  have key : ∀ p q : Int32, p = sp_b (w.1 6 ≠ 0 ∧ 0 ≤ b ∧ b ≤ w.2.1 1 0 - 1) → q = sp_b ((w.1 6 ≠ 0 ∧ 0 ≤ b ∧ b ≤ w.2.1 1 0 - 1) ∧ (0 ≤ x ∧ x ≤ 255) ∧ w.2.1 1 (7 + 4 * b.toNatClampNeg + 2) = 0) → f_X2_move_J52 K Q X (some (m 0)) b x q p (w.1 6) (some (m 0)) (zm_o m w h) := by
    intro p q ep eq
    subst ep eq
    unfold f_X2_move_J52
    rw [zm_c d, e_mayC d]
    by_cases g : sp_cMove (w.1 6) (w.2.1 1) b x = 0
    · have g' : sp_may (w.1 6) (sp_b (w.1 6 ≠ 0 ∧ 0 ≤ b ∧ b ≤ w.2.1 1 0 - 1)) (sp_b ((w.1 6 ≠ 0 ∧ 0 ≤ b ∧ b ≤ w.2.1 1 0 - 1) ∧ (0 ≤ x ∧ x ≤ 255) ∧ w.2.1 1 (7 + 4 * b.toNatClampNeg + 2) = 0)) = 0 := g
      rw [if_pos g', if_pos (by decide), zm_c d]
      obtain ⟨k1, k2, k3⟩ := sp_may0.mp g'
      have hr := I k1
      have k2 := ((sp_bne _).mp k2).2
      rw [hr.1] at k2
      have h24 := hr.2.1
      obtain ⟨k, hk, rfl⟩ := zi_bd h24 k2
      refine c_remembers (w := zS w 0 0) d (P := P) hP (fun v hv hv2 => ?_)
      have hrow : v.2.1 1 = w.2.1 1 := hv.2 1 (by decide)
      rw [zm_c d, e_of0 d (by omega), hrow]
      simp only [olet_iff]
      rw [zm_c d, e_puts0 d (by omega), hrow]
      exact h1 g k hk rfl _ ((zSu.r hv).ai1 _) rfl (hv2.ai1 _)
    · have g' : ¬ sp_may (w.1 6) (sp_b (w.1 6 ≠ 0 ∧ 0 ≤ b ∧ b ≤ w.2.1 1 0 - 1)) (sp_b ((w.1 6 ≠ 0 ∧ 0 ≤ b ∧ b ≤ w.2.1 1 0 - 1) ∧ (0 ≤ x ∧ x ≤ 255) ∧ w.2.1 1 (7 + 4 * b.toNatClampNeg + 2) = 0)) = 0 := g
      rw [if_neg g', if_neg (by decide)]
      exact h0 g
  unfold f_X2_move f_X2_move_J19 f_X2_move_J20 f_X2_move_J51
  rw [zm_g6 d]
  by_cases t : w.1 6 = 0
  · rw [if_pos t, zm_g6 d, if_pos rfl]
    exact key 0 0 (sp_bf (fun e => e.1 t)).symm (sp_bf (fun e => e.1.1 t)).symm
  · have hr := I t
    have h24 := hr.2.1
    rw [if_neg t, zm_c d, e_isBody d]
    by_cases g : 0 ≤ b ∧ b ≤ w.2.1 1 0 - 1
    · rw [sp_bt g, if_neg (by decide), zm_g6 d, if_neg (by decide), e_isPoint]
      by_cases g2 : 0 ≤ x ∧ x ≤ 255
      · have gb := g
        rw [hr.1] at gb
        obtain ⟨k, hk, rfl⟩ := zi_bd h24 gb
        have ec : (Int32.ofNat k).toNatClampNeg = k := zi_clamp (by omega)
        rw [ec] at key
        rw [sp_bt g2, if_neg (by decide), zm_c d, e_of2 d (by omega)]
        by_cases g3 : w.2.1 1 (7 + 4 * k + 2) = 0
        · rw [if_neg (fun e => e g3)]
          exact key 1 1 (sp_bt ⟨t, g⟩).symm (sp_bt ⟨⟨t, g⟩, g2, g3⟩).symm
        · rw [if_pos g3]
          exact key 1 0 (sp_bt ⟨t, g⟩).symm (sp_bf (fun e => g3 e.2.2)).symm
      · rw [sp_bf g2, if_pos rfl]
        exact key 1 0 (sp_bt ⟨t, g⟩).symm (sp_bf (fun e => g2 e.2.1)).symm
    · rw [sp_bf g, if_pos rfl, zm_g6 d, if_pos rfl]
      exact key 0 0 (sp_bf (fun e => g e.2)).symm (sp_bf (fun e => g e.1.2)).symm
theorem p_setCharge (d : zm_d m) {n l o u : Nat} {P : Nat → Nat → Int32} (I : zInv w n l o) (hP : zPast w u P) {b c : Int32} {Q : Int32 → zw_H → Prop} (h0 : sp_cChg (w.1 6) (w.2.1 1) b c ≠ 0 → Q 0 (zm_o m (zS w 0 (sp_cChg (w.1 6) (w.2.1 1) b c)) h)) (h1 : sp_cChg (w.1 6) (w.2.1 1) b c = 0 → ∀ k, k < n → b = Int32.ofNat k → ∀ v, zSu w v → v.2.1 1 = upd (w.2.1 1) (7 + 4 * k + 1) c → zPast v (sp_pushN u) (sp_pushP u P (w.2.1 1)) → Q (w.2.1 1 (7 + 4 * k + 1)) (zm_o m v h)) : f_X2_setCharge K (some (m 0)) b c (zm_o m w h) Q X := by
  unfold f_X2_setCharge
  rw [zm_g6 d, zm_c d, e_isBody d, e_isCharge, zm_c d, e_mayC d]
  by_cases g : sp_cChg (w.1 6) (w.2.1 1) b c = 0
  · have g' : sp_may (w.1 6) (sp_b (0 ≤ b ∧ b ≤ w.2.1 1 0 - 1)) (sp_b (c ≠ 0 ∧ -99 ≤ c ∧ c ≤ 99)) = 0 := g
    rw [if_pos g', if_pos (by decide), zm_c d]
    obtain ⟨k1, k2, k3⟩ := sp_may0.mp g'
    have hr := I k1
    have k2 := (sp_bne _).mp k2
    rw [hr.1] at k2
    have h24 := hr.2.1
    obtain ⟨k, hk, rfl⟩ := zi_bd h24 k2
    refine c_remembers (w := zS w 0 0) d (P := P) hP (fun v hv hv2 => ?_)
    have hrow : v.2.1 1 = w.2.1 1 := hv.2 1 (by decide)
    have p1 : f_X2_puts K (some (m 0)) (Int32.ofNat k) 1 c (zm_o m v h) (fun h6 => Q (w.2.1 1 (7 + 4 * k + 1)) h6) X = Q (w.2.1 1 (7 + 4 * k + 1)) (zm_o m (zAI v 1 (upd (v.2.1 1) (7 + 4 * k + 1) c)) h) := e_putsN d (by omega) (k := 1) (by decide)
    rw [zm_c d, e_of1 d (by omega), hrow, zm_c d, p1, hrow]
    exact h1 g k hk rfl _ ((zSu.r hv).ai1 _) rfl (hv2.ai1 _)
  · have g' : ¬ sp_may (w.1 6) (sp_b (0 ≤ b ∧ b ≤ w.2.1 1 0 - 1)) (sp_b (c ≠ 0 ∧ -99 ≤ c ∧ c ≤ 99)) = 0 := g
    rw [if_neg g', if_neg (by decide)]
    exact h0 g
theorem p_remove (d : zm_d m) {n l o u : Nat} {P : Nat → Nat → Int32} (I : zInv w n l o) (hP : zPast w u P) {b : Int32} {Q : Int32 → zw_H → Prop} (h0 : sp_cW (w.1 6) (w.2.1 1 0) b ≠ 0 → Q 0 (zm_o m (zS w 0 (sp_cW (w.1 6) (w.2.1 1 0) b)) h)) (h1 : sp_cW (w.1 6) (w.2.1 1 0) b = 0 → ∀ k, k < n → b = Int32.ofNat k → ∀ v, zSu w v → v.2.1 1 = sp_rem (w.2.1 1) n k (4 * (n - 1 - k)) → zPast v (sp_pushN u) (sp_pushP u P (w.2.1 1)) → Q (Int32.ofNat (n - 1)) (zm_o m v h)) : f_X2_remove K (some (m 0)) b (zm_o m w h) Q X := by
  unfold f_X2_remove
  rw [zm_g6 d, zm_c d, e_isBody d, zm_c d, e_mayCT d]
  by_cases g : sp_cW (w.1 6) (w.2.1 1 0) b = 0
  · have g' : sp_may (w.1 6) (sp_b (0 ≤ b ∧ b ≤ w.2.1 1 0 - 1)) 1 = 0 := g
    rw [if_pos g', if_pos (by decide), zm_c d]
    obtain ⟨k1, k2, -⟩ := sp_may0.mp g'
    have hr := I k1
    have k2 := (sp_bne _).mp k2
    rw [hr.1] at k2
    have h24 := hr.2.1
    obtain ⟨k, hk, rfl⟩ := zi_bd h24 k2
    refine c_remembers (w := zS w 0 0) d (P := P) hP (fun v hv hv2 => ?_)
    have hrow : v.2.1 1 = w.2.1 1 := hv.2 1 (by decide)
    have hn0 : v.2.1 1 (0 : Int32).toNatClampNeg = Int32.ofNat n := by rw [hrow]; exact hr.1
    rw [zm_g1 d, zm_r1 d (by decide)]
    refine ⟨zi_inn (a := 0) (by decide) (by decide), ?_⟩
    rw [hn0, zm_s1 d (by decide), show Int32.ofNat n - 1 = Int32.ofNat (n - 1) from (Int32.ofNat_sub n 1 (by omega)).symm]
    refine ⟨zi_inn (a := 0) (by decide) (by decide), ?_⟩
    simp only [olet_iff]
    have e0 : upd (v.2.1 1) (0 : Int32).toNatClampNeg (Int32.ofNat (n - 1)) = sp_rem (w.2.1 1) n k 0 := by
      rw [hrow]
      funext q
      show (if q = 0 then _ else _) = (if q = 0 then _ else if 7 + 4 * k ≤ q ∧ q < 7 + 4 * k + 0 then _ else _)
      split
      · rfl
      · rw [if_neg (by omega)]
    have e7 : (7 : Int32) + 4 * Int32.ofNat k = Int32.ofNat (7 + 4 * k + 0) := by
      rw [Int32.ofNat_add, Int32.ofNat_add, Int32.ofNat_mul]
      exact (Int32.add_zero _).symm
    rw [e0, e7]
    have er : ∀ f : Nat → Int32, (zAI v 1 f).2.1 1 = f := fun f => rfl
    have hnn : ∀ c, (zAI v 1 (sp_rem (w.2.1 1) n k c)).2.1 1 0 = Int32.ofNat (n - 1) := fun c => by
      show sp_rem (w.2.1 1) n k c 0 = _
      unfold sp_rem
      rw [if_pos rfl]
    have e74 : (7 : Int32) + 4 * Int32.ofNat (n - 1) = Int32.ofNat (7 + 4 * (n - 1)) := by
      rw [Int32.ofNat_add, Int32.ofNat_mul]
      rfl
    refine zl2_run (B := f_X2_remove_B39 K Q X _ (some (m 0))) (fun c => Int32.ofNat (7 + 4 * k + c)) (fun c => zm_o m (zAI v 1 (sp_rem (w.2.1 1) n k c)) h) (n := 4 * (n - 1 - k)) (fun R c hc hR => ?_) (fun R => ?_) (4 * (n - 1 - k)) zfu 0 (by omega) (Nat.lt_of_le_of_lt (show 4 * (n - 1 - k) ≤ 96 by omega) (by decide))
    · unfold f_X2_remove_B39
      rw [e_n d (hnn c), e74, if_neg (by rw [zi_le (by omega) (by omega)]; omega), zm_g1 d, zm_g1 d, zm_r1 d (by decide), show Int32.ofNat (7 + 4 * k + c) + 4 = Int32.ofNat (7 + 4 * k + c + 4) from (Int32.ofNat_add (7 + 4 * k + c) 4).symm, zi_clamp (by omega)]
      refine ⟨zi_inn (by omega) (by decide), ?_⟩
      rw [zm_s1 d (by decide), zi_clamp (by omega), zAI_twice, er]
      refine ⟨zi_inn (by omega) (by decide), ?_⟩
      simp only [olet_iff, zi_succ]
      have es : upd (sp_rem (w.2.1 1) n k c) (7 + 4 * k + c) (sp_rem (w.2.1 1) n k c (7 + 4 * k + c + 4)) = sp_rem (w.2.1 1) n k (c + 1) := by
        funext q
        by_cases e : q = 7 + 4 * k + c
        · rw [e, upd_at]
          unfold sp_rem
          rw [if_neg (by omega), if_neg (by omega), if_neg (by omega), if_pos (by omega)]
        · rw [upd_ot e]
          unfold sp_rem
          by_cases e2 : q = 0
          · rw [if_pos e2, if_pos e2]
          · rw [if_neg e2, if_neg e2]
            by_cases e3 : 7 + 4 * k ≤ q ∧ q < 7 + 4 * k + c
            · rw [if_pos e3, if_pos (show 7 + 4 * k ≤ q ∧ q < 7 + 4 * k + (c + 1) by omega)]
            · rw [if_neg e3, if_neg (show ¬ (7 + 4 * k ≤ q ∧ q < 7 + 4 * k + (c + 1)) by omega)]
      rw [es]
      exact hR
    · unfold f_X2_remove_B39
      rw [e_n d (hnn _), e74, if_pos (by rw [zi_le (by omega) (by omega)]; omega)]
      dsimp only
      rw [e_n d (hnn _)]
      exact h1 g k hk rfl _ ((zSu.r hv).ai1 _) rfl (hv2.ai1 _)
  · have g' : ¬ sp_may (w.1 6) (sp_b (0 ≤ b ∧ b ≤ w.2.1 1 0 - 1)) 1 = 0 := g
    rw [if_neg g', if_neg (by decide)]
    exact h0 g
theorem p_step (d : zm_d m) {n l o u : Nat} {P : Nat → Nat → Int32} (I : zInv w n l o) (hP : zPast w u P) {k : Int32} {Q : Int32 → zw_H → Prop} (h0 : sp_cStep (w.1 6) (w.2.1 1) k ≠ 0 → Q 0 (zm_o m (zS w 0 (sp_cStep (w.1 6) (w.2.1 1) k)) h)) (h1 : sp_cStep (w.1 6) (w.2.1 1) k = 0 → ∀ c, c ≤ 50 → k = Int32.ofNat c → ∀ v, zSu w v → v.2.1 1 = sp_stepsA (w.2.1 1) n l o c → zPast v (sp_pushN u) (sp_pushP u P (w.2.1 1)) → Q (sp_stepsN (w.2.1 1) n l o c) (zm_o m v h)) : f_X2_step K (some (m 0)) k (zm_o m w h) Q X := by
  have key : ∀ p : Int32, p = sp_b ((1 ≤ k ∧ k ≤ 50) ∧ w.2.1 1 6 + k ≤ 9999) → f_X2_step_J35 K Q X (some (m 0)) k p (w.1 6) (some (m 0)) (zm_o m w h) := by
    intro p ep
    subst ep
    unfold f_X2_step_J35
    rw [zm_c d, e_mayCT d]
    by_cases g : sp_cStep (w.1 6) (w.2.1 1) k = 0
    · have g' : sp_may (w.1 6) (sp_b ((1 ≤ k ∧ k ≤ 50) ∧ w.2.1 1 6 + k ≤ 9999)) 1 = 0 := g
      rw [if_pos g', if_pos (by decide), zm_c d]
      obtain ⟨k1, k2, -⟩ := sp_may0.mp g'
      have hr := I k1
      have k2 := ((sp_bne _).mp k2).1
      obtain ⟨c, hc, rfl⟩ := zi_51 ⟨Int32.le_trans (by decide) k2.1, k2.2⟩
      refine c_remembers (w := zS w 0 0) d (P := P) hP (fun v hv hv2 => ?_)
      have hrow : v.2.1 1 = w.2.1 1 := hv.2 1 (by decide)
      rw [zm_c d]
      exact c_stepsMany d hrow hr hc (fun t ht ht2 => h1 g c hc rfl t ((zSu.r hv).sm ht) ht2 (hv2.sm ht))
    · have g' : ¬ sp_may (w.1 6) (sp_b ((1 ≤ k ∧ k ≤ 50) ∧ w.2.1 1 6 + k ≤ 9999)) 1 = 0 := g
      rw [if_neg g', if_neg (by decide)]
      exact h0 g
  unfold f_X2_step f_X2_step_J34
  rw [zm_g6 d, e_in]
  by_cases g : 1 ≤ k ∧ k ≤ 50
  · rw [sp_bt g, if_neg (by decide), zm_g1 d, zm_r1 d (by decide)]
    refine ⟨zi_inn (a := 6) (by decide) (by decide), ?_⟩
    rw [show (6 : Int32).toNatClampNeg = 6 from rfl]
    by_cases g2 : w.2.1 1 6 + k ≤ 9999
    · rw [if_neg (Int32.not_lt.mpr g2)]
      exact key 1 (sp_bt ⟨g, g2⟩).symm
    · rw [if_pos (Int32.not_le.mp g2)]
      exact key 0 (sp_bf (fun e => g2 e.2)).symm
  · rw [sp_bf g, if_pos rfl]
    exact key 0 (sp_bf (fun e => g e.1)).symm
theorem e_isNumber {k v : Int32} {Q : Int32 → zw_H → Prop} : f_X2_isNumber K k v h Q X = Q (sp_b (sp_num3 k v)) h := by
  unfold f_X2_isNumber
  by_cases g3 : k = 3
  · rw [if_pos g3, e_in, sp_b01, true_and]
    congr 1
    exact sp_cong ⟨fun e => Or.inl ⟨g3, e⟩, fun e => by subst g3; rcases e with e | e | e; exact e.2; exact absurd e.1 (by decide); exact absurd e.1 (by decide)⟩
  · rw [if_neg g3]
    by_cases g4 : k = 4
    · rw [if_pos g4, e_in, sp_b01, true_and]
      congr 1
      exact sp_cong ⟨fun e => Or.inr (Or.inl ⟨g4, e⟩), fun e => by subst g4; rcases e with e | e | e; exact absurd e.1 (by decide); exact e.2; exact absurd e.1 (by decide)⟩
    · rw [if_neg g4]
      by_cases g5 : k = 5
      · rw [if_pos g5, e_in, sp_b01, true_and]
        congr 1
        exact sp_cong ⟨fun e => Or.inr (Or.inr ⟨g5, e⟩), fun e => by subst g5; rcases e with e | e | e; exact absurd e.1 (by decide); exact absurd e.1 (by decide); exact e.2⟩
      · rw [if_neg g5, sp_bf (fun e => by rcases e with e | e | e; exact g3 e.1; exact g4 e.1; exact g5 e.1)]
        refine propext ⟨fun e => e.2, fun e => ⟨?_, e⟩⟩
        have a3 : k.toInt ≠ 3 := fun e => g3 (Int32.toInt_inj.mp (e.trans rfl))
        have a4 : k.toInt ≠ 4 := fun e => g4 (Int32.toInt_inj.mp (e.trans rfl))
        have a5 : k.toInt ≠ 5 := fun e => g5 (Int32.toInt_inj.mp (e.trans rfl))
        omega
theorem p_setNumber (d : zm_d m) {n l o u : Nat} {P : Nat → Nat → Int32} (hP : zPast w u P) {k x : Int32} {Q : Int32 → zw_H → Prop} (h0 : sp_cNum (w.1 6) k x ≠ 0 → Q 0 (zm_o m (zS w 0 (sp_cNum (w.1 6) k x)) h)) (h1 : sp_cNum (w.1 6) k x = 0 → ∀ v, zSu w v → v.2.1 1 = upd (w.2.1 1) k.toNatClampNeg x → zPast v (sp_pushN u) (sp_pushP u P (w.2.1 1)) → Q (w.2.1 1 k.toNatClampNeg) (zm_o m v h)) : f_X2_setNumber K (some (m 0)) k x (zm_o m w h) Q X := by
  unfold f_X2_setNumber
  rw [zm_g6 d, e_isNumber, zm_c d, e_mayCT d]
  by_cases g : sp_cNum (w.1 6) k x = 0
  · have g' : sp_may (w.1 6) (sp_b (sp_num3 k x)) 1 = 0 := g
    rw [if_pos g', if_pos (by decide), zm_c d]
    obtain ⟨k1, k2, -⟩ := sp_may0.mp g'
    have k2 := (sp_bne _).mp k2
    have hin : vp_in k 103 := by
      rcases k2 with e | e | e
      · rw [e.1]; exact zi_inn (a := 3) (by decide) (by decide)
      · rw [e.1]; exact zi_inn (a := 4) (by decide) (by decide)
      · rw [e.1]; exact zi_inn (a := 5) (by decide) (by decide)
    refine c_remembers (w := zS w 0 0) d (P := P) hP (fun v hv hv2 => ?_)
    have hrow : v.2.1 1 = w.2.1 1 := hv.2 1 (by decide)
    rw [zm_g1 d, zm_r1 d (by decide)]
    refine ⟨hin, ?_⟩
    rw [zm_g1 d, zm_s1 d (by decide), hrow]
    exact ⟨hin, h1 g _ ((zSu.r hv).ai1 _) rfl (hv2.ai1 _)⟩
  · have g' : ¬ sp_may (w.1 6) (sp_b (sp_num3 k x)) 1 = 0 := g
    rw [if_neg g', if_neg (by decide)]
    exact h0 g
theorem p_undo (d : zm_d m) {u : Nat} {P : Nat → Nat → Int32} (hP : zPast w u P) {Q : Int32 → zw_H → Prop} (h0 : u = 0 → Q 0 (zm_o m (zS w 0 1) h)) (h1 : 0 < u → ∀ v, zSu w v → (∀ q, q < 103 → v.2.1 1 q = P (u - 1) q) → zPast v (u - 1) P → Q (Int32.ofNat (u - 1)) (zm_o m v h)) : f_X2_undo K (some (m 0)) (zm_o m w h) Q X := by
  obtain ⟨hu, h8, hrows⟩ := hP
  unfold f_X2_undo f_X2_undo_J13
  rw [zm_g7 d, hu]
  by_cases g : u = 0
  · rw [if_pos (by rw [g]; decide), zm_c d, e_mayC d, if_neg (by decide), if_neg (by decide)]
    exact h0 g
  · rw [if_neg (by rw [show (0 : Int32) = Int32.ofNat 0 from rfl, zi_le (by omega) (by omega)]; omega), zm_c d, e_mayC d, if_pos (by decide), if_pos (by decide), zm_g7 d, show (zS w 0 0).1 7 = Int32.ofNat u from hu, show Int32.ofNat u - 1 = Int32.ofNat (u - 1) from (Int32.ofNat_sub u 1 (by omega)).symm, zm_p7 d, zm_g3 d, zm_g7 d, zm_g1 d, show (zS (zS w 0 0) 7 (Int32.ofNat (u - 1))).1 7 = Int32.ofNat (u - 1) from rfl, show Int32.ofNat (u - 1) * 103 = Int32.ofNat (103 * (u - 1)) by rw [Nat.mul_comm]; exact (Int32.ofNat_mul (u - 1) 103).symm]
    refine c_lays 3 1 824 103 (by decide) (103 * (u - 1)) 0 (by omega) (by decide) (by decide) (by decide) (fun w x F => zm_r3 d (by decide) x F) (fun w x v F => zm_s1 d (by decide) x v F) ?_
    rw [zm_g7 d]
    refine h1 (by omega) _ ⟨rfl, fun k k1 k2 k3 => ?_, fun k k1 k2 k3 k4 k5 k6 => ?_⟩ (fun q hq => ?_) ⟨rfl, by omega, fun k hk q hq => hrows k (by omega) q hq⟩
    · show (if k = 7 then _ else if k = 0 then _ else w.1 k) = w.1 k
      rw [if_neg k2, if_neg k1]
    · exact if_neg k1
    · show sp_cpy (w.2.1 1) (w.2.1 3) (103 * (u - 1)) 0 103 q = _
      rw [sp_cpy_at (by omega) (by omega), ← hrows (u - 1) (by omega) q hq]
      exact congrArg (w.2.1 3) (by omega)
theorem p_save (d : zm_d m) {k : Int32} {Q : Int32 → zw_H → Prop} (h0 : sp_cSave (w.1 6) k ≠ 0 → Q 0 (zm_o m (zS w 0 (sp_cSave (w.1 6) k)) h)) (h1 : sp_cSave (w.1 6) k = 0 → ∀ c, c < 2 → k = Int32.ofNat c → Q (w.2.1 1 6) (zm_o m (zAI (zAI (zS w 0 0) 4 (sp_cpy (w.2.1 4) (w.2.1 1) 0 (103 * c) 103)) 5 (upd (w.2.1 5) c 1)) h)) : f_X2_save K (some (m 0)) k (zm_o m w h) Q X := by
  unfold f_X2_save
  rw [zm_g6 d, e_in, zm_c d, e_mayCT d]
  by_cases g : sp_cSave (w.1 6) k = 0
  · have g' : sp_may (w.1 6) (sp_b (0 ≤ k ∧ k ≤ 1)) 1 = 0 := g
    rw [if_pos g', if_pos (by decide), zm_g1 d, zm_g4 d]
    obtain ⟨k1, k2, -⟩ := sp_may0.mp g'
    obtain ⟨c, hc, rfl⟩ := zi_2 ((sp_bne _).mp k2)
    rw [show Int32.ofNat c * 103 = Int32.ofNat (103 * c) by rw [Nat.mul_comm]; exact (Int32.ofNat_mul c 103).symm]
    refine c_lays 1 4 103 206 (by decide) 0 (103 * c) (by decide) (by omega) (by decide) (by decide) (fun w x F => zm_r1 d (by decide) x F) (fun w x v F => zm_s4 d (by decide) x v F) ?_
    rw [zm_g5 d, zm_s5 d (by decide), zi_clamp (by omega)]
    refine ⟨zi_inn (by omega) (by decide), ?_⟩
    rw [zm_g1 d, zm_r1 d (by decide)]
    exact ⟨zi_inn (a := 6) (by decide) (by decide), h1 g c hc rfl⟩
  · have g' : ¬ sp_may (w.1 6) (sp_b (0 ≤ k ∧ k ≤ 1)) 1 = 0 := g
    rw [if_neg g', if_neg (by decide)]
    exact h0 g
theorem p_restore (d : zm_d m) {k : Int32} {Q : Int32 → zw_H → Prop} (h0 : sp_cRest (w.2.1 5) k ≠ 0 → Q 0 (zm_o m (zS w 0 (sp_cRest (w.2.1 5) k)) h)) (h1 : sp_cRest (w.2.1 5) k = 0 → ∀ c, c < 2 → k = Int32.ofNat c → w.2.1 5 c ≠ 0 → Q (w.2.1 4 (103 * c + 6)) (zm_o m (zS (zAI (zS w 0 0) 1 (sp_cpy (w.2.1 1) (w.2.1 4) (103 * c) 0 103)) 7 0) h)) : f_X2_restore K (some (m 0)) k (zm_o m w h) Q X := by
  have key : ∀ p q : Int32, p = sp_b (0 ≤ k ∧ k ≤ 1) → q = sp_b ((0 ≤ k ∧ k ≤ 1) ∧ w.2.1 5 k.toNatClampNeg ≠ 0) → f_X2_restore_J27 K Q X (some (m 0)) k q p (some (m 0)) (zm_o m w h) := by
    intro p q ep eq
    subst ep eq
    unfold f_X2_restore_J27
    rw [zm_c d, e_mayCT d]
    by_cases g : sp_cRest (w.2.1 5) k = 0
    · have g' : sp_may (sp_b (0 ≤ k ∧ k ≤ 1)) (sp_b ((0 ≤ k ∧ k ≤ 1) ∧ w.2.1 5 k.toNatClampNeg ≠ 0)) 1 = 0 := g
      rw [if_pos g', if_pos (by decide), zm_g4 d, zm_g1 d]
      obtain ⟨k1, k2, -⟩ := sp_may0.mp g'
      obtain ⟨c, hc, rfl⟩ := zi_2 ((sp_bne _).mp k1)
      have k3 := ((sp_bne _).mp k2).2
      rw [zi_clamp (by omega)] at k3
      rw [show Int32.ofNat c * 103 = Int32.ofNat (103 * c) by rw [Nat.mul_comm]; exact (Int32.ofNat_mul c 103).symm]
      refine c_lays 4 1 206 103 (by decide) (103 * c) 0 (by omega) (by decide) (by decide) (by decide) (fun w x F => zm_r4 d (by decide) x F) (fun w x v F => zm_s1 d (by decide) x v F) ?_
      rw [zm_p7 d, zm_g1 d, zm_r1 d (by decide)]
      have h1 := h1 g c hc rfl k3
      have e6 : (zS (zAI (zS w 0 0) 1 (sp_cpy ((zS w 0 0).2.1 1) ((zS w 0 0).2.1 4) (103 * c) 0 103)) 7 0).2.1 1 (6 : Int32).toNatClampNeg = w.2.1 4 (103 * c + 6) := by
        show sp_cpy (w.2.1 1) (w.2.1 4) (103 * c) 0 103 6 = _
        rw [sp_cpy_at (by omega) (by omega)]
      rw [e6]
      exact ⟨zi_inn (a := 6) (by decide) (by decide), h1⟩
    · have g' : ¬ sp_may (sp_b (0 ≤ k ∧ k ≤ 1)) (sp_b ((0 ≤ k ∧ k ≤ 1) ∧ w.2.1 5 k.toNatClampNeg ≠ 0)) 1 = 0 := g
      rw [if_neg g', if_neg (by decide)]
      exact h0 g
  unfold f_X2_restore f_X2_restore_J26
  rw [e_in]
  by_cases g : 0 ≤ k ∧ k ≤ 1
  · obtain ⟨c, hc, rfl⟩ := zi_2 g
    rw [zi_clamp (by omega)] at key
    rw [sp_bt g, if_neg (by decide), zm_g5 d, zm_r5 d (by decide), zi_clamp (by omega)]
    refine ⟨zi_inn (by omega) (by decide), ?_⟩
    by_cases g2 : w.2.1 5 c = 0
    · rw [if_pos g2]
      exact key 1 0 (sp_bt g).symm (sp_bf (fun e => e.2 g2)).symm
    · rw [if_neg g2]
      exact key 1 1 (sp_bt g).symm (sp_bt ⟨g, g2⟩).symm
  · rw [sp_bf g, if_pos rfl]
    exact key 0 0 (sp_bf g).symm (sp_bf (fun e => g e.1)).symm
end ZM23
