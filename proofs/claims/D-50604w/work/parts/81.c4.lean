set_option maxRecDepth 100000
/-! pulls and steps of the class -/
theorem zLn.dis {h : zw_H} {z : zW} {a : Nat → Int32} {n : Nat} {fm : Int32} {f : zAr} (g : zLn h z a n fm f) : ¬ zMf z (z.1 5) ∧ ∀ b, b < n → ¬ zMf z (z.2.2 b) := by
  obtain ⟨g1, -, g5, -, g10, ⟨ft, g11⟩, -⟩ := g
  refine ⟨fun e => ?_, fun b hb e => ?_⟩
  · rcases e with e | e
    · exact z_ne g11 g1 zn_lr e
    · exact z_ne g11 g10 (zn_ll (Or.inl (by decide))) e
  · rcases e with e | e
    · refine z_ne (g5 b hb) g1 (zn_rr ?_) e
      rcases zkd_cases a b with k | k <;> rw [k] <;> decide
    · exact z_ne (g5 b hb) g10 zn_rl e
/-- the row of goings written -/
theorem zLn.tow {h : zw_H} {z : zW} {a : Nat → Int32} {n : Nat} {fm : Int32} {f : zAr} (g : zLn h z a n fm f) {t : Nat → Int32} {h' : zw_H} (hu : h' = zw_up h (z.1 5) (.inl (0, 24, .inl t))) : zLn h' z a n fm f := by
  obtain ⟨g1, ⟨mc, te, cap, fe, g2, g3, g4⟩, g5, ⟨⟨fr, g6, g7⟩, g8, g9⟩, g10, ⟨ft, g11⟩, g12⟩ := g
  have key : ∀ {q : Nat} {c : zw_C}, h q = some c → c ≠ .inl (0, 24, .inl ft) → h' q = some c := by
    intro q c hq hc
    rw [hu, k_u2 (z_ne hq g11 hc)]
    exact hq
  refine ⟨key g1 zn_rl, ⟨mc, te, cap, fe, key g2 zn_rl, key g3 (zn_ll (Or.inl ?_)), g4⟩, fun b hb => key (g5 b hb) zn_rl, ⟨⟨fr, key g6 (zn_ll (Or.inl (by decide))), g7⟩, fun l hl => ?_, fun l hl i hi => key (g9 l hl i hi) zn_rl⟩, key g10 (zn_ll (Or.inl (by decide))), ⟨t, by rw [hu]; exact k_u1 _ _ _⟩, g12⟩
  · rcases g4.1 with e | e <;> rw [e] <;> decide
  · obtain ⟨fb, k1, k2⟩ := g8 l hl
    exact ⟨fb, key k1 (zn_ll (Or.inl (by decide))), k2⟩
/-- a body's numbers changed -/
theorem zLn.bod {h : zw_H} {z : zW} {a a' : Nat → Int32} {n b : Nat} {fm : Int32} {f : zAr} (g : zLn h z a n fm f) (hb : b < n) (e0 : ∀ q, q < 7 → a' q = a q) (e1 : ∀ c, c < n → c ≠ b → a' (7 + 4 * c) = a (7 + 4 * c) ∧ a' (7 + 4 * c + 1) = a (7 + 4 * c + 1) ∧ a' (7 + 4 * c + 2) = a (7 + 4 * c + 2) ∧ a' (7 + 4 * c + 3) = a (7 + 4 * c + 3)) (e2 : a' (7 + 4 * b + 2) = a (7 + 4 * b + 2)) {h' : zw_H} (hu : h' = zw_up h (z.2.2 b) (.inr (zkd a b, [.int (a' (7 + 4 * b)), .int (a' (7 + 4 * b + 1)), .int (a' (7 + 4 * b + 3)), .int (zmv a b)]))) : zLn h' z a' n fm f := by
  obtain ⟨g1, ⟨mc, te, cap, fe, g2, g3, g4⟩, g5, ⟨⟨fr, g6, g7⟩, g8, g9⟩, g10, ⟨ft, g11⟩, g12⟩ := g
  have key : ∀ {q : Nat} {c : zw_C}, h q = some c → c ≠ .inr (zkd a b, [.int (a (7 + 4 * b)), .int (a (7 + 4 * b + 1)), .int (a (7 + 4 * b + 3)), .int (zmv a b)]) → h' q = some c := by
    intro q c hq hc
    rw [hu, k_u2 (z_ne hq (g5 b hb) hc)]
    exact hq
  have kd : ∀ k, k ≠ 6 → k ≠ 7 → k ≠ zkd a b := fun k h6 h7 => by rcases zkd_cases a b with e | e <;> rw [e] <;> assumption
  refine ⟨?_, ⟨mc, te, cap, fe, key g2 (zn_rr (kd 9 (by decide) (by decide))), key g3 zn_lr, g4⟩, fun c hc => ?_, ⟨⟨fr, key g6 zn_lr, g7⟩, fun l hl => ?_, fun l hl i hi => key (g9 l hl i hi) (zn_rr (kd 4 (by decide) (by decide)))⟩, key g10 zn_lr, ⟨ft, key g11 zn_lr⟩, g12⟩
  · unfold zl_obj
    rw [e0 3 (by decide), e0 4 (by decide), e0 5 (by decide), e0 6 (by decide), e0 1 (by decide)]
    exact key g1 (zn_rr (kd 2 (by decide) (by decide)))
  · by_cases e : c = b
    · subst e
      have hk : zkd a' c = zkd a c := by unfold zkd; rw [e2]
      have hm : zmv a' c = zmv a c := by unfold zmv; rw [e2]
      rw [hu, hk, hm]
      exact k_u1 _ _ _
    · obtain ⟨k1, k2, k3, k4⟩ := e1 c hc e
      have hk : zkd a' c = zkd a c := by unfold zkd; rw [k3]
      have hm : zmv a' c = zmv a c := by unfold zmv; rw [k3]
      rw [hu, k_u2 (fun k => e (g12 c b hc hb k)), k1, k2, k4, hk, hm]
      exact g5 c hc
  · obtain ⟨fb, k1, k2⟩ := g8 l hl
    exact ⟨fb, key k1 zn_lr, k2⟩
theorem zLq.refl {h : zw_H} {z : zW} {a : Nat → Int32} {n : Nat} {fm : Int32} {f : zAr} (g : zLn h z a n fm f) : zLq z a n h h := ⟨zFr.refl _ _, fm, f, g⟩
theorem zLq.trans {z : zW} {a : Nat → Int32} {n : Nat} {h1 h2 h3 : zw_H} (p : zLq z a n h1 h2) (q : zLq z a n h2 h3) : zLq z a n h1 h3 := ⟨p.1.trans q.1, q.2⟩
theorem sp_goes_cases (p f : UInt64) (x : Int32) : sp_goes p f x = -1 ∨ sp_goes p f x = 0 ∨ sp_goes p f x = 1 := by
  unfold sp_goes
  split
  · split
    · exact Or.inr (Or.inl rfl)
    · rcases sp_b_cases (0 < x) with e | e <;> rw [e]
      · exact Or.inr (Or.inl (by decide))
      · exact Or.inl rfl
  · rcases sp_b_cases (x < 255) with e | e <;> rw [e]
    · exact Or.inr (Or.inl rfl)
    · exact Or.inr (Or.inr rfl)
theorem sp_iab_go (a : Nat → Int32) (n l o b : Nat) : sp_iab (sp_moves a n l o b) = sp_b (sp_moves a n l o b ≠ 0) := by
  have h : sp_moves a n l o b = -1 ∨ sp_moves a n l o b = 0 ∨ sp_moves a n l o b = 1 := by
    unfold sp_moves
    split
    · exact Or.inr (Or.inl rfl)
    · exact sp_goes_cases _ _ _
  rcases h with e | e | e <;> rw [e] <;> decide
def zMs (z : zW) (n q : Nat) : Prop := q = z.1 0 ∨ q = z.1 4 ∨ q = z.1 5 ∨ ∃ b, b < n ∧ q = z.2.2 b
theorem zMf.ms {z : zW} {n : Nat} : ∀ q, zMf z q → zMs z n q := fun q h => h.elim Or.inl (fun e => Or.inr (Or.inl e))
def zLs (z : zW) (n : Nat) (a' : Nat → Int32) (h h' : zw_H) : Prop := zFr (zMs z n) h h' ∧ zLine h' z a' n
section ZC4
variable {K : Nat → Option Nat} {X : String → Nat → zw_H → Prop} {h : zw_H} {z : zW} {a : Nat → Int32} {n l o : Nat} {fm : Int32} {f : zAr}
theorem k_pull (g : zLn h z a n fm f) (hr : zRow a n l o) {y : Nat} (hy : y < 256) {nr : Int32} {Q : UInt64 → zw_H → Prop} (hQ : Q (sp_pullOf a (Int32.ofNat y) (if nr = 0 then 1 else 0) n) h) : f_X4_pull K (some (z.1 0)) (Int32.ofNat y) nr h Q X := by
  have h24 := hr.2.1
  have hl := hr.2.2.1
  have h5 := hr.2.2.2.2.1
  have hb0 := hr.2.2.2.2.2.2.2.2
  unfold f_X4_pull
  refine zl3_run (B := f_X4_pull_B5 K Q X _ (some (z.1 0)) (Int32.ofNat y) nr) (fun b => sp_pullOf a (Int32.ofNat y) (if nr = 0 then 1 else 0) b) (fun b => Int32.ofNat b) (fun _ => h) (n := n) (fun R b hb hR => ?_) (fun R => ?_) n zfu 0 (by omega) (Nat.lt_of_le_of_lt h24 (by decide))
  · obtain ⟨⟨x, hx, hx2⟩, -⟩ := hb0 b hb
    have es : sp_pullOf a (Int32.ofNat y) (if nr = 0 then 1 else 0) (b + 1) = (if a (7 + 4 * b) = Int32.ofNat y then sp_pullOf a (Int32.ofNat y) (if nr = 0 then 1 else 0) b else if (if nr = 0 then (1 : Int32) else 0) ≠ 0 then sp_psum a (Int32.ofNat y) b (sp_pullOf a (Int32.ofNat y) (if nr = 0 then 1 else 0) b) else if sp_far (a (7 + 4 * b) / sp_wide (a 3)) (Int32.ofNat y / sp_wide (a 3)) ≤ 1 then sp_psum a (Int32.ofNat y) b (sp_pullOf a (Int32.ofNat y) (if nr = 0 then 1 else 0) b) else sp_pullOf a (Int32.ofNat y) (if nr = 0 then 1 else 0) b) := rfl
    rw [es] at hR
    unfold f_X4_pull_B5 f_X4_pull_J48 f_X4_pull_J91 f_X4_pull_J92
    simp only [l_c g, l_size g, l_at g h24 hb, l_x g hb, l_ch g hb, l_od g hb, l_dist g hb, l_near g (show l < 6 by omega) hl hb hx hx2 hy, olet_iff, zi_succ]
    rw [if_neg (by rw [zi_le (by omega) (by omega)]; omega)]
    by_cases g2 : a (7 + 4 * b) = Int32.ofNat y
    · rw [if_pos g2] at hR ⊢
      exact hR
    · rw [if_neg g2] at hR ⊢
      have ih := zb_pullOf (a := a) (all := if nr = 0 then 1 else 0) hy (fun b hb2 => (hb0 b hb2).1) (n := b) (by omega) (by omega)
      have hp := zb_psum (a := a) (b := b) (x := Int32.ofNat y) (by rw [hx2] at g2 ⊢; exact zi_fsq hx hy g2) ih (by omega) (by omega)
      have n1 := hp.1.n64
      have n2 := hp.2.n64
      unfold sp_pshare at n1
      have hfin : ∀ s, s = sp_psum a (Int32.ofNat y) b (sp_pullOf a (Int32.ofNat y) (if nr = 0 then 1 else 0) b) → R s (Int32.ofNat (b + 1)) h → (vf_n64 (FP.ddiv (FP.i2d (a (7 + 4 * b + 1))) (FP.i2d (sp_far (a (7 + 4 * b)) (Int32.ofNat y) * sp_far (a (7 + 4 * b)) (Int32.ofNat y)))) ∧ if a (7 + 4 * b) ≤ Int32.ofNat y then vf_n64 (FP.dsub (sp_pullOf a (Int32.ofNat y) (if nr = 0 then 1 else 0) b) (FP.ddiv (FP.i2d (a (7 + 4 * b + 1))) (FP.i2d (sp_far (a (7 + 4 * b)) (Int32.ofNat y) * sp_far (a (7 + 4 * b)) (Int32.ofNat y))))) ∧ R (FP.dsub (sp_pullOf a (Int32.ofNat y) (if nr = 0 then 1 else 0) b) (FP.ddiv (FP.i2d (a (7 + 4 * b + 1))) (FP.i2d (sp_far (a (7 + 4 * b)) (Int32.ofNat y) * sp_far (a (7 + 4 * b)) (Int32.ofNat y))))) (Int32.ofNat (b + 1)) h else vf_n64 (FP.dadd (sp_pullOf a (Int32.ofNat y) (if nr = 0 then 1 else 0) b) (FP.ddiv (FP.i2d (a (7 + 4 * b + 1))) (FP.i2d (sp_far (a (7 + 4 * b)) (Int32.ofNat y) * sp_far (a (7 + 4 * b)) (Int32.ofNat y))))) ∧ R (FP.dadd (sp_pullOf a (Int32.ofNat y) (if nr = 0 then 1 else 0) b) (FP.ddiv (FP.i2d (a (7 + 4 * b + 1))) (FP.i2d (sp_far (a (7 + 4 * b)) (Int32.ofNat y) * sp_far (a (7 + 4 * b)) (Int32.ofNat y))))) (Int32.ofNat (b + 1)) h) := by
        intro s hs hRs
        subst hs
        unfold sp_psum sp_pshare at n2 hRs
        refine ⟨n1, ?_⟩
        by_cases g3 : a (7 + 4 * b) ≤ Int32.ofNat y
        · rw [if_pos g3] at n2 hRs ⊢
          exact ⟨n2, hRs⟩
        · rw [if_neg g3] at n2 hRs ⊢
          exact ⟨n2, hRs⟩
      by_cases g3 : nr = 0
      · rw [if_pos (show (if nr = 0 then (1 : Int32) else 0) ≠ 0 by rw [if_pos g3]; decide)] at hR
        rw [if_pos g3]
        exact hfin _ rfl hR
      · rw [if_neg (show ¬ (if nr = 0 then (1 : Int32) else 0) ≠ 0 by rw [if_neg g3]; decide)] at hR
        rw [if_neg g3]
        by_cases g4 : sp_far (a (7 + 4 * b) / sp_wide (a 3)) (Int32.ofNat y / sp_wide (a 3)) ≤ 1
        · rw [if_pos g4] at hR
          rw [sp_bt g4, if_pos (by decide)]
          exact hfin _ rfl hR
        · rw [if_neg g4] at hR
          rw [sp_bf g4, if_neg (by decide)]
          exact hR
  · unfold f_X4_pull_B5
    simp only [l_c g, l_size g]
    rw [if_pos (by rw [zi_le (by omega) (by omega)]; omega)]
    exact hQ
theorem k_pullFar (g : zLn h z a n fm f) (hr : zRow a n l o) {y : Nat} (hy : y < 256) {Q : UInt64 → zw_H → Prop} (hQ : ∀ h', zLq z a n h h' → Q (sp_farPull a n l o y) h') : f_X4_pullFar K (some (z.1 0)) (Int32.ofNat y) h Q X := by
  unfold f_X4_pullFar
  rw [l_c g]
  refine k_laysFar g hr hy (fun h' fm' f' hfr g' hf => ?_)
  have hQ := hQ h' ⟨hfr, fm', f', g'⟩
  have h24 := hr.2.1
  have h5 := hr.2.2.2.2.1
  have h2 := hr.2.2.2.1
  have ho := hr.2.2.2.2.2.1
  have h4 := hr.2.2.2.2.2.2.1
  unfold sp_farPull at hQ
  have hc := zc_fars a n y (l - 1)
  have hok := zfok_fars a n y (l - 1)
  generalize sp_fars a n y (l - 1) = s at hQ hc hok hf
  refine zl3_run (B := f_X4_pullFar_B11 K Q X _ (some (z.1 0)) (Int32.ofNat y) (Int32.ofNat s.1)) (fun k => sp_fpS a n o y s k) (fun k => Int32.ofNat k) (fun _ => h') (n := s.1) (fun R k hk hR => ?_) (fun R => ?_) s.1 zfu 0 (by omega) (Nat.lt_of_le_of_lt (show s.1 ≤ 16 by omega) (by decide))
  · obtain ⟨k1, k2, k3, k4⟩ := hok k hk
    have hb := (zb_fpS (a := a) (n := n) h4 hy (by omega) hok (k := k + 1) (by omega) (by omega)).n64
    have es : sp_fpS a n o y s (k + 1) = (if Int32.ofNat y - sp_centre (Int32.ofNat (s.2.1 k)) (Int32.ofNat (s.2.2 k)) ≤ 0 then FP.dadd (sp_fpS a n o y s k) (sp_fp1 a n o (Int32.ofNat y) (s.2.1 k) (s.2.2 k)) else FP.dsub (sp_fpS a n o y s k) (sp_fp1 a n o (Int32.ofNat y) (s.2.1 k) (s.2.2 k))) := rfl
    rw [es] at hR hb
    unfold sp_fp1 at hR hb
    unfold f_X4_pullFar_B11
    have hfa : ∀ F : Option Nat → Prop, oa_A h' (some (z.1 4)) [6] (Int32.ofNat k) F = F (some (z.2.1 (s.2.1 k) (s.2.2 k))) := fun F => by rw [k_rA g'.2.2.2.2.1 (by decide) (zi_inn (by omega) (by decide)), zi_clamp (by omega), hf.2 k hk]
    rw [if_neg (by rw [zi_le (by omega) (by omega)]; omega), l_far g', hfa, b_ct g' (by omega) k3]
    simp only [olet_iff]
    have hne := zfar_ne (show s.2.1 k ≤ 8 by omega) k3 hy k4
    generalize Int32.ofNat y - sp_centre (Int32.ofNat (s.2.1 k)) (Int32.ofNat (s.2.2 k)) = v at hR hb hne
    have hyv := zBd_i2d v
    have lyv := zLb_i2d hne
    refine c1_power (k := 2) (fun b hb => (zb_times zBd_1 hyv (k := b + 1) (by omega)).n64) (by decide) ?_
    refine zl4_run (B := f_X4_pullFar_B47 K Q X _ (some (z.1 0)) (Int32.ofNat y) (Int32.ofNat s.1) (sp_fpS a n o y s k) (Int32.ofNat k) (FP.i2d v)) (fun b => sp_pbS a n (Int32.ofNat (s.2.1 k)) (Int32.ofNat (s.2.2 k)) (FP.i2d v) b) (fun b => sp_times (sp_times FP.dconst1 (FP.i2d v) 2) (FP.i2d v) b) (fun b => Int32.ofNat b) (fun _ => h') (n := o + 1) (fun R2 b hb hR2 => ?_) (fun R2 => ?_) (o + 1) zfu 0 (by omega) (Nat.lt_of_le_of_lt (show o + 1 ≤ 5 by omega) (by decide))
    · unfold f_X4_pullFar_B47
      rw [l_ord g', ho, if_neg (by rw [zi_lt (by omega) (by omega)]; omega), l_far g', hfa, l_c g']
      refine k_moment g' h24 (by omega) k3 (by omega) ?_
      simp only [olet_iff, zi_succ]
      exact ⟨(zb_pb1 hyv lyv (by omega)).n64, (zb_pbS (a := a) (n := n) (l := Int32.ofNat (s.2.1 k)) (i := Int32.ofNat (s.2.2 k)) hyv lyv (o := b + 1) (by omega)).n64, (zb_times (zb_t2 hyv) hyv (k := b + 1) (by omega)).n64, hR2⟩
    · unfold f_X4_pullFar_B47 f_X4_pullFar_J115
      rw [l_ord g', ho, if_pos (by rw [zi_lt (by omega) (by omega)]; omega)]
      simp only [olet_iff, zi_succ]
      by_cases e : v ≤ 0
      · rw [if_pos e] at hR hb
        rw [if_pos ((zf_le0 v).mpr e)]
        exact ⟨hb, hR⟩
      · rw [if_neg e] at hR hb
        rw [if_neg (fun k => e ((zf_le0 v).mp k))]
        exact ⟨hb, hR⟩
  · unfold f_X4_pullFar_B11
    rw [if_pos (by rw [zi_le (by omega) (by omega)]; omega)]
    exact hQ
theorem k_pull2 (g : zLn h z a n fm f) (hr : zRow a n l o) {y : Nat} (hy : y < 256) {Q : UInt64 → zw_H → Prop} (hQ : ∀ h', zLq z a n h h' → Q (sp_pullAll a n l o y) h') : f_X4_pull_2 K (some (z.1 0)) (Int32.ofNat y) h Q X := by
  unfold f_X4_pull_2
  rw [l_c g]
  refine k_pull g hr hy ?_
  rw [l_c g]
  refine k_pullFar g hr hy (fun h' hq => ?_)
  simp only [olet_iff]
  exact ⟨(zb_pullAll hr hy).n64, hQ h' hq⟩
theorem k_goes (g : zLn h z a n fm f) (hr : zRow a n l o) {b : Nat} (hb : b < n) {Q : Int32 → zw_H → Prop} (hQ : ∀ h', zLq z a n h h' → Q (sp_moves a n l o b) h') : f_X4_goes K (some (z.1 0)) (some (z.2.2 b)) h Q X := by
  obtain ⟨e1, e2⟩ := zpt_eq hr hb
  unfold f_X4_goes f_X4_goes_J51 f_X4_goes_J76
  rw [l_mv g hb]
  unfold sp_moves at hQ
  by_cases c : a (7 + 4 * b + 2) = 1
  · simp only [if_pos c] at hQ
    rw [if_neg (by unfold zmv; rw [if_pos c]; decide)]
    exact hQ h (zLq.refl g)
  · simp only [if_neg c] at hQ
    rw [if_pos (by unfold zmv; rw [if_neg c]; decide), l_x g hb, l_c g, e1]
    refine k_pull2 g hr e2 (fun h' hq => ?_)
    have hQ := hQ h' hq
    obtain ⟨-, fm', f', g'⟩ := hq
    simp only [l_fri g', l_x g' hb, e1_flag, olet_iff]
    have n1 := (zb_k1000 (a 5)).n64
    have n2 := (zBd_sub (K := 1108) (zBd.mono zBd_0 (by decide)) (zb_k1000 (a 5)) (by decide)).n64
    refine ⟨n1, ?_⟩
    unfold sp_goes at hQ
    by_cases g1 : (Op.cmpValue (FP.dcmp (sp_pullAll a n l o (zpt a b)) (FP.ddiv (FP.i2d (a 5)) (4652007308841189376 : UInt64))) .l) ≤ 0
    · rw [if_pos g1] at hQ ⊢
      refine ⟨n2, ?_⟩
      by_cases g2 : (0 : Int32) ≤ (Op.cmpValue (FP.dcmp (sp_pullAll a n l o (zpt a b)) (FP.dsub FP.dconst0 (FP.ddiv (FP.i2d (a 5)) (4652007308841189376 : UInt64)))) .g)
      · rw [if_pos g2] at hQ ⊢
        exact hQ
      · rw [if_neg g2] at hQ ⊢
        by_cases g3 : 0 < a (7 + 4 * b)
        · rw [sp_bt g3] at hQ
          rw [if_neg (Int32.not_le.mpr g3)]
          exact hQ
        · rw [sp_bf g3] at hQ
          rw [if_pos (Int32.not_lt.mp g3)]
          exact hQ
    · rw [if_neg g1] at hQ ⊢
      by_cases g3 : a (7 + 4 * b) < 255
      · rw [sp_bt g3] at hQ
        rw [if_neg (Int32.not_le.mpr g3)]
        exact hQ
      · rw [sp_bf g3] at hQ
        rw [if_pos (Int32.not_lt.mp g3)]
        exact hQ
theorem k_isStill (g : zLn h z a n fm f) (hr : zRow a n l o) {Q : Int32 → zw_H → Prop} (hQ : ∀ h', zLq z a n h h' → Q (sp_b (¬ sp_still a n l o < n)) h') : f_X4_isStill K (some (z.1 0)) h Q X := by
  have h24 := hr.2.1
  have hle : sp_still a n l o ≤ n := zfirst_le _ n
  have hno : ∀ b, b < sp_still a n l o → sp_moves a n l o b = 0 := fun b hb => Classical.not_not.mp (of_decide_eq_false (zfirst_no (fun b => decide (sp_moves a n l o b ≠ 0)) n b hb))
  have hyes : sp_still a n l o < n → sp_moves a n l o (sp_still a n l o) ≠ 0 := fun e => of_decide_eq_true (zfirst_yes (fun b => decide (sp_moves a n l o b ≠ 0)) n e)
  generalize sp_still a n l o = kk at hle hno hyes hQ
  unfold f_X4_isStill
  refine zl2_inv (B := f_X4_isStill_B2 K Q X _ _ (some (z.1 0))) (fun b x hh => x = Int32.ofNat b ∧ zLq z a n h hh) (n := kk) (fun R b hb x hh hp hR => ?_) (fun R x hh hp => ?_) kk zfu 0 (by omega) (Nat.lt_of_le_of_lt (Nat.le_trans hle h24) (by decide)) _ _ ⟨rfl, zLq.refl g⟩
  · obtain ⟨rfl, hq⟩ := hp
    obtain ⟨fm', f', g'⟩ := hq.2
    unfold f_X4_isStill_B2
    rw [l_c g', l_size g', if_neg (by rw [zi_le (by omega) (by omega)]; omega), l_c g', l_at g' h24 (by omega), l_c g']
    refine k_goes g' hr (by omega) (fun h2 hq2 => ?_)
    rw [if_pos (hno b hb)]
    simp only [olet_iff, zi_succ]
    exact hR _ _ ⟨rfl, hq.trans hq2⟩
  · obtain ⟨hx, hq⟩ := hp
    obtain ⟨fm', f', g'⟩ := hq.2
    rw [hx]
    unfold f_X4_isStill_B2
    by_cases e : kk < n
    · rw [sp_bf (fun k => k e)] at hQ
      rw [l_c g', l_size g', if_neg (by rw [zi_le (by omega) (by omega)]; omega), l_c g', l_at g' h24 e, l_c g']
      refine k_goes g' hr e (fun h2 hq2 => ?_)
      rw [if_neg (hyes e)]
      exact hQ h2 (hq.trans hq2)
    · rw [sp_bt e] at hQ
      rw [l_c g', l_size g', if_pos (by rw [zi_le (by omega) (by omega)]; omega)]
      exact hQ hh hq
theorem k_step (g : zLn h z a n fm f) (hr : zRow a n l o) {Q : Int32 → zw_H → Prop} (hQ : ∀ h', zLs z n (sp_step a n l o) h h' → Q (sp_stN a n l o) h') : f_X4_step K (some (z.1 0)) h Q X := by
  have h24 := hr.2.1
  unfold f_X4_step
  refine zl2_inv (B := f_X4_step_B4 K Q X _ (some (z.1 0)) 0) (fun b x hh => x = Int32.ofNat b ∧ zFr (zMs z n) h hh ∧ zLine hh z a n ∧ ∃ t : Nat → Int32, hh (z.1 5) = some (.inl (0, 24, .inl t)) ∧ ∀ c, c < b → t c = sp_moves a n l o c) (n := n) (fun R b hb x hh hp hR => ?_) (fun R x hh hp => ?_) n zfu 0 (by omega) (Nat.lt_of_le_of_lt h24 (by decide)) _ _ ⟨rfl, zFr.refl _ _, ⟨fm, f, g⟩, by obtain ⟨t, ht⟩ := g.2.2.2.2.2.1; exact ⟨t, ht, fun c hc => absurd hc (Nat.not_lt_zero c)⟩⟩
  · obtain ⟨rfl, hfr, ⟨fm1, f1, g1⟩, t, ht, htv⟩ := hp
    unfold f_X4_step_B4
    rw [l_c g1, l_size g1, if_neg (by rw [zi_le (by omega) (by omega)]; omega), l_to g1, l_c g1, l_at g1 h24 hb, l_c g1]
    refine k_goes g1 hr hb (fun h2 hq2 => ?_)
    have ht2 : h2 (z.1 5) = some (.inl (0, 24, .inl t)) := (hq2.1 _ (by rw [ht]; exact Option.some_ne_none _) g1.dis.1).trans ht
    obtain ⟨fm2, f2, g2⟩ := hq2.2
    rw [k_sI ht2 (by decide) (zi_inn (by omega) (by decide)), zi_clamp (by omega)]
    simp only [olet_iff, zi_succ]
    refine hR _ _ ⟨rfl, ((hfr.trans (hq2.1.mono zMf.ms)).up (p := z.1 5) (Or.inr (Or.inr (Or.inl rfl))) _), ⟨fm2, f2, g2.tow rfl⟩, _, k_u1 _ _ _, fun c hc => ?_⟩
    by_cases e : c = b
    · rw [e, upd_at]
    · rw [upd_ot e]
      exact htv c (by omega)
  · obtain ⟨rfl, hfr, ⟨fm1, f1, g1⟩, t, ht, htv⟩ := hp
    unfold f_X4_step_B4
    rw [l_c g1, l_size g1, if_pos (by rw [zi_le (by omega) (by omega)]; omega)]
    refine zl3_inv (B := f_X4_step_B35 K Q X _ (some (z.1 0))) (fun b s x hh => s = sp_gon (fun b => sp_moves a n l o b) b ∧ x = Int32.ofNat b ∧ zFr (zMs z n) h hh ∧ zLine hh z (sp_gone a (fun b => sp_moves a n l o b) b) n ∧ hh (z.1 5) = some (.inl (0, 24, .inl t))) (n := n) (fun R2 b hb s x hh2 hp hR => ?_) (fun R2 s x hh2 hp => ?_) n zfu 0 (by omega) (Nat.lt_of_le_of_lt h24 (by decide)) _ _ _ ⟨rfl, rfl, hfr, ⟨fm1, f1, by rw [sp_gone_0]; exact g1⟩, ht⟩
    · obtain ⟨rfl, rfl, hfr, ⟨fm2, f2, g2⟩, ht⟩ := hp
      have hb1 := htv b hb
      have hti : ∀ (H : zw_H), H (z.1 5) = some (.inl (0, 24, .inl t)) → ∀ F : Int32 → Prop, oa_I H (some (z.1 5)) [0, 11] (Int32.ofNat b) F = F (sp_moves a n l o b) := fun H hH F => by rw [k_rI hH (by decide) (zi_inn (by omega) (by decide)), zi_clamp (by omega), hb1]
      generalize hrow : sp_gone a (fun b => sp_moves a n l o b) b = r at g2
      have r0 : r (7 + 4 * b) = a (7 + 4 * b) := by rw [← hrow]; exact sp_gone_ne _ _ (Or.inr (Nat.le_refl _))
      have r3 : r (7 + 4 * b + 3) = a (7 + 4 * b + 3) := by rw [← hrow]; exact sp_gone_ne _ _ (Or.inr (by omega))
      unfold f_X4_step_B35
      rw [l_c g2, l_size g2, if_neg (by rw [zi_le (by omega) (by omega)]; omega), l_c g2, l_at g2 h24 hb, l_x g2 hb, l_to g2, hti hh2 ht, k_p (g2.2.2.1 b hb) (zkd_in r b) (show 0 < 4 by decide)]
      have hne5 : z.1 5 ≠ z.2.2 b := z_ne ht (g2.2.2.1 b hb) zn_lr
      have g3 : zLn (zw_up hh2 (z.2.2 b) (.inr (zkd r b, [.int (r (7 + 4 * b) + sp_moves a n l o b), .int (r (7 + 4 * b + 1)), .int (r (7 + 4 * b + 3)), .int (zmv r b)]))) z (upd r (7 + 4 * b) (r (7 + 4 * b) + sp_moves a n l o b)) n fm2 f2 := by
        refine g2.bod hb (fun q hq => upd_ot (by omega)) (fun c hc hne => ⟨upd_ot (by omega), upd_ot (by omega), upd_ot (by omega), upd_ot (by omega)⟩) (upd_ot (by omega)) ?_
        rw [upd_at, upd_ot (by omega), upd_ot (by omega)]
      have ht3 : zw_up hh2 (z.2.2 b) (.inr (zkd r b, [.int (r (7 + 4 * b) + sp_moves a n l o b), .int (r (7 + 4 * b + 1)), .int (r (7 + 4 * b + 3)), .int (zmv r b)])) (z.1 5) = some (.inl (0, 24, .inl t)) := (k_u2 hne5).trans ht
      have hfr3 := hfr.up (p := z.2.2 b) (Or.inr (Or.inr (Or.inr ⟨b, hb, rfl⟩))) (.inr (zkd r b, [.int (r (7 + 4 * b) + sp_moves a n l o b), .int (r (7 + 4 * b + 1)), .int (r (7 + 4 * b + 3)), .int (zmv r b)]))
      simp only [List.set_cons_succ, List.set_cons_zero]
      generalize zw_up hh2 (z.2.2 b) (.inr (zkd r b, [.int (r (7 + 4 * b) + sp_moves a n l o b), .int (r (7 + 4 * b + 1)), .int (r (7 + 4 * b + 3)), .int (zmv r b)])) = H3 at g3 ht3 hfr3
      have hrow2 : upd (upd r (7 + 4 * b) (r (7 + 4 * b) + sp_moves a n l o b)) (7 + 4 * b + 3) (r (7 + 4 * b + 3) + sp_b (sp_moves a n l o b ≠ 0)) = sp_gone a (fun b => sp_moves a n l o b) (b + 1) := by
        rw [r0, r3, ← hrow]
        exact sp_gone_s a (fun b => sp_moves a n l o b) b
      have r33 : upd r (7 + 4 * b) (r (7 + 4 * b) + sp_moves a n l o b) (7 + 4 * b + 3) = r (7 + 4 * b + 3) := upd_ot (by omega)
      generalize hr9 : upd r (7 + 4 * b) (r (7 + 4 * b) + sp_moves a n l o b) = r9 at g3 hrow2 r33
      rw [l_c g3, l_at g3 h24 hb, l_mo g3 hb, l_to g3, hti H3 ht3, e_abs, sp_iab_go, k_p (g3.2.2.1 b hb) (zkd_in r9 b) (show 2 < 4 by decide)]
      have hne6 : z.1 5 ≠ z.2.2 b := hne5
      have g4 : zLn (zw_up H3 (z.2.2 b) (.inr (zkd r9 b, [.int (r9 (7 + 4 * b)), .int (r9 (7 + 4 * b + 1)), .int (r9 (7 + 4 * b + 3) + sp_b (sp_moves a n l o b ≠ 0)), .int (zmv r9 b)]))) z (upd r9 (7 + 4 * b + 3) (r9 (7 + 4 * b + 3) + sp_b (sp_moves a n l o b ≠ 0))) n fm2 f2 := by
        refine g3.bod hb (fun q hq => upd_ot (by omega)) (fun c hc hne => ⟨upd_ot (by omega), upd_ot (by omega), upd_ot (by omega), upd_ot (by omega)⟩) (upd_ot (by omega)) ?_
        rw [upd_at, upd_ot (by omega), upd_ot (by omega)]
      have ht4 : zw_up H3 (z.2.2 b) (.inr (zkd r9 b, [.int (r9 (7 + 4 * b)), .int (r9 (7 + 4 * b + 1)), .int (r9 (7 + 4 * b + 3) + sp_b (sp_moves a n l o b ≠ 0)), .int (zmv r9 b)])) (z.1 5) = some (.inl (0, 24, .inl t)) := (k_u2 hne6).trans ht3
      have hfr4 := hfr3.up (p := z.2.2 b) (Or.inr (Or.inr (Or.inr ⟨b, hb, rfl⟩))) (.inr (zkd r9 b, [.int (r9 (7 + 4 * b)), .int (r9 (7 + 4 * b + 1)), .int (r9 (7 + 4 * b + 3) + sp_b (sp_moves a n l o b ≠ 0)), .int (zmv r9 b)]))
      simp only [List.set_cons_succ, List.set_cons_zero]
      generalize zw_up H3 (z.2.2 b) (.inr (zkd r9 b, [.int (r9 (7 + 4 * b)), .int (r9 (7 + 4 * b + 1)), .int (r9 (7 + 4 * b + 3) + sp_b (sp_moves a n l o b ≠ 0)), .int (zmv r9 b)])) = H4 at g4 ht4 hfr4
      rw [r33, hrow2] at g4
      rw [l_to g4, hti H4 ht4, e_abs, sp_iab_go]
      simp only [olet_iff, zi_succ]
      exact hR _ _ _ ⟨rfl, rfl, hfr4, ⟨fm2, f2, g4⟩, ht4⟩
    · obtain ⟨rfl, rfl, hfr, ⟨fm2, f2, g2⟩, ht⟩ := hp
      unfold f_X4_step_B35
      rw [l_c g2, l_size g2, if_pos (by rw [zi_le (by omega) (by omega)]; omega)]
      try dsimp only
      have hQ2 : ∀ h', zLs z n (sp_fin (sp_gone a (fun b => sp_moves a n l o b) n) (sp_stN a n l o)) h h' → Q (sp_stN a n l o) h' := hQ
      have hN : sp_gon (fun b => sp_moves a n l o b) n = sp_stN a n l o := rfl
      rw [hN]
      generalize sp_gone a (fun b => sp_moves a n l o b) n = r at g2 hQ2
      generalize sp_stN a n l o = N at hQ2
      rw [l_mov g2, k_p g2.1 (by decide) (show 6 < 10 by decide)]
      have g3 := g2.obj (a' := upd r 1 (r 1 + N)) (fm' := fm2) (fun b hb => ⟨upd_ot (by omega), upd_ot (by omega), upd_ot (by omega), upd_ot (by omega)⟩) (h' := zw_up hh2 (z.1 0) (.inr (2, [.ref (z.1 1), .ref (z.1 3), .int (r 3), .int (r 4), .int (r 5), .int (r 6), .int (r 1 + N), .ref (z.1 4), .ref (z.1 5), .int fm2]))) rfl
      have hfr3 := hfr.up (p := z.1 0) (Or.inl rfl) (.inr (2, [.ref (z.1 1), .ref (z.1 3), .int (r 3), .int (r 4), .int (r 5), .int (r 6), .int (r 1 + N), .ref (z.1 4), .ref (z.1 5), .int fm2]))
      simp only [List.set_cons_succ, List.set_cons_zero]
      generalize zw_up hh2 (z.1 0) (.inr (2, [.ref (z.1 1), .ref (z.1 3), .int (r 3), .int (r 4), .int (r 5), .int (r 6), .int (r 1 + N), .ref (z.1 4), .ref (z.1 5), .int fm2])) = H3 at g3 hfr3
      rw [l_tim g3, k_p g3.1 (by decide) (show 5 < 10 by decide)]
      have g4 := g3.obj (a' := sp_fin r N) (fm' := fm2) (fun b hb => ⟨by unfold sp_fin; rw [upd_ot (by omega), upd_ot (by omega), upd_ot (by omega)], by unfold sp_fin; rw [upd_ot (by omega), upd_ot (by omega), upd_ot (by omega)], by unfold sp_fin; rw [upd_ot (by omega), upd_ot (by omega), upd_ot (by omega)], by unfold sp_fin; rw [upd_ot (by omega), upd_ot (by omega), upd_ot (by omega)]⟩) (h' := zw_up H3 (z.1 0) (.inr (2, [.ref (z.1 1), .ref (z.1 3), .int (r 3), .int (r 4), .int (r 5), .int (r 6 + 1), .int (r 1 + N), .ref (z.1 4), .ref (z.1 5), .int fm2]))) rfl
      simp only [List.set_cons_succ, List.set_cons_zero]
      exact hQ2 _ ⟨hfr3.up (p := z.1 0) (Or.inl rfl) _, fm2, f2, g4⟩
theorem k_steps (g : zLn h z a n fm f) (hr : zRow a n l o) {k : Nat} (hk : k ≤ 50) {Q : Int32 → zw_H → Prop} (hQ : ∀ h', zLs z n (sp_stepsA a n l o k) h h' → Q (sp_stepsN a n l o k) h') : f_X4_steps K (some (z.1 0)) (Int32.ofNat k) h Q X := by
  unfold f_X4_steps
  refine zl3_inv (B := f_X4_steps_B4 K Q X _ (some (z.1 0)) (Int32.ofNat k)) (fun b s x hh => s = sp_stepsN a n l o b ∧ x = Int32.ofNat b ∧ zLs z n (sp_stepsA a n l o b) h hh) (n := k) (fun R b hb s x hh hp hR => ?_) (fun R s x hh hp => ?_) k zfu 0 (by omega) (Nat.lt_of_le_of_lt hk (by decide)) _ _ _ ⟨rfl, rfl, zFr.refl _ _, fm, f, g⟩
  · obtain ⟨rfl, rfl, hfr, fm1, f1, g1⟩ := hp
    unfold f_X4_steps_B4
    rw [if_neg (by rw [zi_le (by omega) (by omega)]; omega), l_c g1]
    refine k_step g1 (zRow_steps hr b) (fun h2 hq2 => ?_)
    simp only [olet_iff, zi_succ]
    exact hR _ _ _ ⟨rfl, rfl, hfr.trans hq2.1, hq2.2⟩
  · obtain ⟨rfl, rfl, hp⟩ := hp
    unfold f_X4_steps_B4
    rw [if_pos (by rw [zi_le (by omega) (by omega)]; omega)]
    exact hQ hh hp
theorem k_extreme (g : zLn h z a n fm f) (hr : zRow a n l o) {t : Int32} {Q : Int32 → zw_H → Prop} (hQ : Q (sp_end a t n) h) : f_X1_extreme K (some (z.1 0)) t h Q X := by
  have h24 := hr.2.1
  unfold f_X1_extreme
  refine zl3_run (B := f_X1_extreme_B4 K Q X _ (some (z.1 0)) t) (fun b => sp_end a t b) (fun b => Int32.ofNat b) (fun _ => h) (n := n) (fun R b hb hR => ?_) (fun R => ?_) n zfu 0 (by omega) (Nat.lt_of_le_of_lt h24 (by decide))
  · have es : sp_end a t (b + 1) = (if sp_end a t b = -1 then a (7 + 4 * b) else if t = 0 then (if sp_end a t b ≤ a (7 + 4 * b) then sp_end a t b else a (7 + 4 * b)) else (if a (7 + 4 * b) ≤ sp_end a t b then sp_end a t b else a (7 + 4 * b))) := rfl
    rw [es] at hR
    unfold f_X1_extreme_B4 f_X1_extreme_J46 f_X1_extreme_J49
    simp only [l_c g, l_size g, l_at g h24 hb, l_x g hb, olet_iff, zi_succ]
    rw [if_neg (by rw [zi_le (by omega) (by omega)]; omega)]
    split
    · rename_i c
      rw [if_pos c] at hR
      exact hR
    · rename_i c
      rw [if_neg c] at hR
      split
      · rename_i c2
        rw [if_pos c2] at hR
        split
        · rename_i c3
          rw [if_pos c3] at hR
          exact hR
        · rename_i c3
          rw [if_neg c3] at hR
          exact hR
      · rename_i c2
        rw [if_neg c2] at hR
        split
        · rename_i c3
          rw [if_pos c3] at hR
          exact hR
        · rename_i c3
          rw [if_neg c3] at hR
          exact hR
  · unfold f_X1_extreme_B4
    simp only [l_c g, l_size g]
    rw [if_pos (by rw [zi_le (by omega) (by omega)]; omega)]
    exact hQ
end ZC4
