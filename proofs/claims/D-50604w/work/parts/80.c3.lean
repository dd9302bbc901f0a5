set_option maxRecDepth 100000
/-! far lists of the class -/
def zFr (M : Nat → Prop) (h h' : zw_H) : Prop := ∀ q, h q ≠ none → ¬ M q → h' q = h q
theorem zFr.refl (M : Nat → Prop) (h : zw_H) : zFr M h h := fun _ _ _ => rfl
theorem zFr.trans {M : Nat → Prop} {h1 h2 h3 : zw_H} (a : zFr M h1 h2) (b : zFr M h2 h3) : zFr M h1 h3 := fun q hq hm => (b q (by rw [a q hq hm]; exact hq) hm).trans (a q hq hm)
theorem zFr.mono {M N : Nat → Prop} {h h' : zw_H} (a : zFr M h h') (b : ∀ q, M q → N q) : zFr N h h' := fun q hq hm => a q hq (fun e => hm (b q e))
theorem zFr.up {M : Nat → Prop} {h h' : zw_H} (a : zFr M h h') {p : Nat} (hp : M p) (x : zw_C) : zFr M h (zw_up h' p x) := fun q hq hm => by
  rw [k_u2 (fun e => hm (by rw [e]; exact hp))]
  exact a q hq hm
theorem zFr.new {M : Nat → Prop} {h h' : zw_H} (a : zFr M h h') {p : Nat} (hp : h' p = none) (x : zw_C) : zFr M h (zw_up h' p x) := fun q hq hm => by
  have e := a q hq hm
  rw [k_u2 (fun g => hq (by rw [← e, g]; exact hp))]
  exact e
/-- what a query of a line writes -/
def zMf (z : zW) (q : Nat) : Prop := q = z.1 0 ∨ q = z.1 4
def zFlc (z : zW) (s : zFa) (fm : Int32) (f : zAr) : Prop := fm = Int32.ofNat s.1 ∧ ∀ k, k < s.1 → f k = some (z.2.1 (s.2.1 k) (s.2.2 k))
theorem sp_frow_skip {a : Nat → Int32} {n y l : Nat} {s : zFa} {p : Nat} : ∀ q, (∀ i, p ≤ i → i < p + q → ¬ zfarP a n y l i) → sp_frow a n y l s (p + q) = sp_frow a n y l s p
  | 0, _ => rfl
  | q + 1, h => by
    have e : sp_frow a n y l s (p + (q + 1)) = sp_frow a n y l s (p + q) := if_neg (h (p + q) (by omega) (by omega))
    rw [e, sp_frow_skip q (fun i h1 h2 => h i h1 (by omega))]
theorem zfarP_rng {a : Nat → Int32} {n y l i : Nat} (h : zfarP a n y l i) : zbx l y - 3 ≤ i ∧ i < zbx l y + 4 := by
  obtain ⟨h1, h2, -⟩ := h
  unfold zdi at h1 h2
  omega
theorem zi_max3 {f : Nat} (hf : f < 2 ^ 30) : (if (0 : Int32) < Int32.ofNat f - 3 then Int32.ofNat f - 3 else 0) = Int32.ofNat (f - 3) := by
  have e := zi_subI (i := f) (j := 3) hf (by decide)
  have e : (Int32.ofNat f - 3).toInt = (f : Int) - 3 := e
  have h0 : (0 : Int32).toInt = 0 := rfl
  by_cases g : 3 < f
  · rw [if_pos (by rw [Int32.lt_iff_toInt_lt, e, h0]; omega)]
    exact (Int32.ofNat_sub f 3 (by omega)).symm
  · rw [if_neg (by rw [Int32.lt_iff_toInt_lt, e, h0]; omega), show f - 3 = 0 by omega]
    rfl
section ZC3
variable {K : Nat → Option Nat} {X : String → Nat → zw_H → Prop} {h : zw_H} {z : zW} {a : Nat → Int32} {n l o : Nat} {fm : Int32} {f : zAr}
/-- how a query ends: the line stands as before, with some far list -/
def zLq (z : zW) (a : Nat → Int32) (n : Nat) (h h' : zw_H) : Prop := zFr (zMf z) h h' ∧ zLine h' z a n
theorem k_laysFar2 (g : zLn h z a n fm f) (h24 : n ≤ 24) {lv y : Nat} (hlv : lv ≤ 5) (hy : y < 256) {s : zFa} (hs : zFlc z s fm f) (hc : s.1 ≤ 16) {Q : zw_H → Prop} (hQ : ∀ h' fm' f', zFr (zMf z) h h' → zLn h' z a n fm' f' → zFlc z (sp_frow a n y lv s (2 ^ lv)) fm' f' → Q h') : f_X4_laysFar_2 K (some (z.1 0)) (Int32.ofNat lv) (Int32.ofNat y) h Q X := by
  have hi := zbx_lt (l := lv) (y := y) (by omega) hy
  have hp := zi_p5 hlv
  unfold f_X4_laysFar_2
  rw [l_c g, l_around g (by omega) hy]
  try dsimp only
  rw [b_no g (by omega) hi, e_max, zi_max3 (by omega)]
  have hrow := zc_frow a n y lv s
  have hskip : ∀ p q, (q ≤ zbx lv y - 3 ∨ zbx lv y + 4 ≤ p) → p ≤ q → sp_frow a n y lv s q = sp_frow a n y lv s p := by
    intro p q h1 h2
    have := sp_frow_skip (a := a) (n := n) (y := y) (l := lv) (s := s) (p := p) (q - p) (fun i h3 h4 h5 => by have := zfarP_rng h5; omega)
    rw [show p + (q - p) = q by omega] at this
    exact this
  have e0 : sp_frow a n y lv s (zbx lv y - 3) = s := hskip 0 _ (Or.inl (Nat.le_refl _)) (Nat.zero_le _)
  have e9 : sp_frow a n y lv s (min (2 ^ lv) (zbx lv y + 4)) = sp_frow a n y lv s (2 ^ lv) := by
    rcases Nat.le_total (2 ^ lv) (zbx lv y + 4) with k | k
    · rw [Nat.min_eq_left k]
    · rw [Nat.min_eq_right k]
      exact (hskip _ _ (Or.inr (Nat.le_refl _)) k).symm
  have hlim : zbx lv y - 3 ≤ min (2 ^ lv) (zbx lv y + 4) := by omega
  refine zl2_inv (B := f_X4_laysFar_2_B19 K Q X _ (some (z.1 0)) (Int32.ofNat lv) (Int32.ofNat (zbx lv y))) (fun c x hh => x = Int32.ofNat (zbx lv y - 3 + c) ∧ ∃ fm' f', zFr (zMf z) h hh ∧ zLn hh z a n fm' f' ∧ zFlc z (sp_frow a n y lv s (zbx lv y - 3 + c)) fm' f') (n := min (2 ^ lv) (zbx lv y + 4) - (zbx lv y - 3)) (fun R c hc2 x hh hp2 hR => ?_) (fun R x hh hp2 => ?_) (min (2 ^ lv) (zbx lv y + 4) - (zbx lv y - 3)) zfu 0 (by omega) (Nat.lt_of_le_of_lt (show min (2 ^ lv) (zbx lv y + 4) - (zbx lv y - 3) ≤ 32 by omega) (by decide)) _ _ ⟨rfl, fm, f, zFr.refl _ _, g, by rw [Nat.add_zero, e0]; exact hs⟩
  · obtain ⟨rfl, fm', f', hfr, g', hf⟩ := hp2
    have hii : zbx lv y - 3 + c < 2 ^ lv := by omega
    have hle := hrow (zbx lv y - 3 + c)
    have hle2 : (sp_frow a n y lv s (zbx lv y - 3 + c)).1 < 20 ∨ (sp_frow a n y lv s (zbx lv y - 3 + c)).1 = 20 := by unfold zcnt at hle; omega
    have hstep : sp_frow a n y lv s (zbx lv y - 3 + c + 1) = sp_fpush a n y lv (zbx lv y - 3 + c) (sp_frow a n y lv s (zbx lv y - 3 + c)) := rfl
    have hcn : zfarP a n y lv (zbx lv y - 3 + c) → (sp_frow a n y lv s (zbx lv y - 3 + c)).1 < 20 := by
      intro k
      have k2 := hrow (zbx lv y - 3 + c)
      obtain ⟨k3, k4, -⟩ := k
      unfold zdi at k3 k4
      unfold zcnt at k2
      omega
    unfold f_X4_laysFar_2_B19 f_X4_laysFar_2_J84
    rw [zi_shl (by omega), show Int32.ofNat (zbx lv y) + 4 = Int32.ofNat (zbx lv y + 4) from (Int32.ofNat_add (zbx lv y) 4).symm, e_min]
    have emin : (if Int32.ofNat (zbx lv y + 4) < Int32.ofNat (2 ^ lv) then Int32.ofNat (zbx lv y + 4) else Int32.ofNat (2 ^ lv)) = Int32.ofNat (min (2 ^ lv) (zbx lv y + 4)) := by
      by_cases k : zbx lv y + 4 < 2 ^ lv
      · rw [if_pos ((zi_lt (by omega) (by omega)).mpr k), Nat.min_eq_right (by omega)]
      · rw [if_neg (fun e => k ((zi_lt (by omega) (by omega)).mp e)), Nat.min_eq_left (by omega)]
    rw [emin, if_neg (by rw [zi_le (by omega) (by omega)]; omega), l_c g', l_box g' (by omega) hii, b_c g' (by omega) hii, b_isFar g' (by omega) hii (by omega)]
    have e1c : zbx lv y - 3 + (c + 1) = zbx lv y - 3 + c + 1 := rfl
    rw [e1c] at hR
    generalize zbx lv y - 3 + c = i at hf hii hstep hcn hR
    by_cases k1 : 1 < zdi i (zbx lv y) ∧ zdi (i / 2) (zbx lv y / 2) ≤ 1
    · rw [sp_bt k1, if_neg (by decide), l_c g']
      refine k_bodiesIn g' h24 (by omega) hii ?_
      obtain ⟨m, hm1, hm2⟩ := zc_bodiesIn a (Int32.ofNat lv) (Int32.ofNat i) n h24
      by_cases k2 : sp_bodiesIn a n (Int32.ofNat lv) (Int32.ofNat i) = 0
      · rw [if_neg (fun e => e k2)]
        have hnf : ¬ zfarP a n y lv i := fun e => by
          have := e.2.2
          rw [k2] at this
          exact absurd this (by decide)
        have es : sp_fpush a n y lv i (sp_frow a n y lv s i) = sp_frow a n y lv s i := if_neg hnf
        rw [es] at hstep
        simp only [olet_iff, zi_succ]
        exact hR _ _ ⟨rfl, fm', f', hfr, g', by rw [hstep]; exact hf⟩
      · rw [if_pos k2]
        have hm0 : m ≠ 0 := fun e => k2 (by rw [hm2, e]; rfl)
        have hyf : zfarP a n y lv i := ⟨k1.1, k1.2, by rw [hm2]; exact (zi_lt (a := 0) (by decide) (by omega)).mpr (by omega)⟩
        have es : sp_fpush a n y lv i (sp_frow a n y lv s i) = ((sp_frow a n y lv s i).1 + 1, zun (sp_frow a n y lv s i).2.1 (sp_frow a n y lv s i).1 lv, zun (sp_frow a n y lv s i).2.2 (sp_frow a n y lv s i).1 i) := if_pos hyf
        have hlt := hcn hyf
        rw [es] at hstep
        generalize sp_frow a n y lv s i = t at hf hlt hstep
        rw [l_far g', l_fm g', hf.1, k_sA g'.2.2.2.2.1 (zi_inn hlt (by decide)) (k_ok (g'.2.2.2.1.2.2 lv (by omega) i hii) (by decide)), zi_clamp (by omega)]
        have g2 := g'.fr (f' := va_up f' t.1 (some (z.2.1 lv i))) rfl
        have hfr2 := hfr.up (p := z.1 4) (Or.inr rfl) (.inl (6, 20, .inr (.inr (.inr (.inr (va_up f' t.1 (some (z.2.1 lv i))))))))
        rw [l_fm g2, hf.1, k_p g2.1 (by decide) (show 9 < 10 by decide)]
        have g3 := g2.obj (a' := a) (fm' := Int32.ofNat (t.1 + 1)) (fun _ _ => ⟨rfl, rfl, rfl, rfl⟩) rfl
        have hfr3 := hfr2.up (p := z.1 0) (Or.inl rfl) (.inr (2, [.ref (z.1 1), .ref (z.1 3), .int (a 3), .int (a 4), .int (a 5), .int (a 6), .int (a 1), .ref (z.1 4), .ref (z.1 5), .int (Int32.ofNat (t.1 + 1))]))
        simp only [olet_iff, zi_succ]
        refine hR _ _ ⟨rfl, _, _, hfr3, g3, ?_⟩
        · rw [hstep]
          refine ⟨rfl, fun k hk => ?_⟩
          have hk : k < t.1 + 1 := hk
          show (if k = t.1 then some (z.2.1 lv i) else f' k) = some (z.2.1 (if k = t.1 then lv else t.2.1 k) (if k = t.1 then i else t.2.2 k))
          by_cases e : k = t.1
          · simp only [if_pos e]
          · simp only [if_neg e]
            exact hf.2 k (by omega)
    · rw [sp_bf k1, if_pos rfl]
      have hnf : ¬ zfarP a n y lv i := fun e => k1 ⟨e.1, e.2.1⟩
      have es : sp_fpush a n y lv i (sp_frow a n y lv s i) = sp_frow a n y lv s i := if_neg hnf
      rw [es] at hstep
      simp only [olet_iff, zi_succ]
      exact hR _ _ ⟨rfl, fm', f', hfr, g', by rw [hstep]; exact hf⟩
  · obtain ⟨rfl, fm', f', hfr, g', hf⟩ := hp2
    unfold f_X4_laysFar_2_B19
    rw [zi_shl (by omega), show Int32.ofNat (zbx lv y) + 4 = Int32.ofNat (zbx lv y + 4) from (Int32.ofNat_add (zbx lv y) 4).symm, e_min]
    have emin : (if Int32.ofNat (zbx lv y + 4) < Int32.ofNat (2 ^ lv) then Int32.ofNat (zbx lv y + 4) else Int32.ofNat (2 ^ lv)) = Int32.ofNat (min (2 ^ lv) (zbx lv y + 4)) := by
      by_cases k : zbx lv y + 4 < 2 ^ lv
      · rw [if_pos ((zi_lt (by omega) (by omega)).mpr k), Nat.min_eq_right (by omega)]
      · rw [if_neg (fun e => k ((zi_lt (by omega) (by omega)).mp e)), Nat.min_eq_left (by omega)]
    rw [emin, if_pos (by rw [zi_le (by omega) (by omega)]; omega)]
    refine hQ hh fm' f' hfr g' ?_
    rw [show zbx lv y - 3 + (min (2 ^ lv) (zbx lv y + 4) - (zbx lv y - 3)) = min (2 ^ lv) (zbx lv y + 4) by omega, e9] at hf
    exact hf
theorem k_laysFar (g : zLn h z a n fm f) (hr : zRow a n l o) {y : Nat} (hy : y < 256) {Q : Int32 → zw_H → Prop} (hQ : ∀ h' fm' f', zFr (zMf z) h h' → zLn h' z a n fm' f' → zFlc z (sp_fars a n y (l - 1)) fm' f' → Q (Int32.ofNat (sp_fars a n y (l - 1)).1) h') : f_X4_laysFar K (some (z.1 0)) (Int32.ofNat y) h Q X := by
  obtain ⟨hn, h24, hl, h2, h5, -⟩ := hr
  unfold f_X4_laysFar
  rw [k_p g.1 (by decide) (show 9 < 10 by decide)]
  have g1 := g.obj (a' := a) (fm' := 0) (fun _ _ => ⟨rfl, rfl, rfl, rfl⟩) rfl
  have hfr1 := (zFr.refl (zMf z) h).up (p := z.1 0) (Or.inl rfl) (.inr (2, [.ref (z.1 1), .ref (z.1 3), .int (a 3), .int (a 4), .int (a 5), .int (a 6), .int (a 1), .ref (z.1 4), .ref (z.1 5), .int 0]))
  refine zl2_inv (B := f_X4_laysFar_B7 K Q X _ (some (z.1 0)) (Int32.ofNat y)) (fun c x hh => x = Int32.ofNat (2 + c) ∧ ∃ fm' f', zFr (zMf z) h hh ∧ zLn hh z a n fm' f' ∧ zFlc z (sp_fars a n y c) fm' f') (n := l - 1) (fun R c hc x hh hp hR => ?_) (fun R x hh hp => ?_) (l - 1) zfu 0 (by omega) (Nat.lt_of_le_of_lt (show l - 1 ≤ 4 by omega) (by decide)) _ _ ⟨rfl, 0, f, hfr1, g1, rfl, fun k hk => absurd hk (Nat.not_lt_zero k)⟩
  · obtain ⟨rfl, fm', f', hfr, g', hf⟩ := hp
    have hcn := zc_fars a n y c
    unfold f_X4_laysFar_B7
    rw [l_lev g', hl, if_neg (by rw [zi_lt (by omega) (by omega)]; omega), l_c g']
    refine k_laysFar2 g' h24 (by omega) hy hf (by omega) (fun h2 fm2 f2 hfr2 g2 hf2 => ?_)
    simp only [olet_iff, zi_succ]
    exact hR _ _ ⟨rfl, fm2, f2, hfr.trans hfr2, g2, hf2⟩
  · obtain ⟨rfl, fm', f', hfr, g', hf⟩ := hp
    unfold f_X4_laysFar_B7
    rw [l_lev g', hl, if_pos (by rw [zi_lt (by omega) (by omega)]; omega)]
    try dsimp only
    rw [l_fm g', hf.1]
    exact hQ hh fm' f' hfr g' hf
theorem k_farSum (g : zLn h z a n fm f) (hr : zRow a n l o) {y : Nat} (hy : y < 256) {Q : UInt64 → zw_H → Prop} (hQ : ∀ h', zLq z a n h h' → Q (sp_farOf a n l o y) h') : f_X4_farSum K (some (z.1 0)) (Int32.ofNat y) h Q X := by
  unfold f_X4_farSum
  rw [l_c g]
  refine k_laysFar g hr hy (fun h' fm' f' hfr g' hf => ?_)
  have hQ := hQ h' ⟨hfr, fm', f', g'⟩
  have h5 := hr.2.2.2.2.1
  have h2 := hr.2.2.2.1
  have h4 := hr.2.2.2.2.2.2.1
  unfold sp_farOf at hQ
  have hc := zc_fars a n y (l - 1)
  have hok := zfok_fars a n y (l - 1)
  generalize sp_fars a n y (l - 1) = s at hQ hc hok hf
  refine zl3_run (B := f_X4_farSum_B11 K Q X _ (some (z.1 0)) (Int32.ofNat y) (Int32.ofNat s.1)) (fun k => sp_farS a n o y s k) (fun k => Int32.ofNat k) (fun _ => h') (n := s.1) (fun R k hk hR => ?_) (fun R => ?_) s.1 zfu 0 (by omega) (Nat.lt_of_le_of_lt (show s.1 ≤ 16 by omega) (by decide))
  · unfold f_X4_farSum_B11
    obtain ⟨k1, k2, k3, k4⟩ := hok k hk
    rw [if_neg (by rw [zi_le (by omega) (by omega)]; omega), l_far g', k_rA g'.2.2.2.2.1 (by decide) (zi_inn (by omega) (by decide)), zi_clamp (by omega), hf.2 k hk, l_c g']
    refine k_value g' hr (by omega) k3 (zfar_ne (by omega) k3 hy k4) ?_
    simp only [olet_iff, zi_succ]
    exact ⟨(zb_farS (a := a) (n := n) h4 hy (by omega) hok (k := k + 1) (by omega) (by omega)).n64, hR⟩
  · unfold f_X4_farSum_B11
    rw [if_pos (by rw [zi_le (by omega) (by omega)]; omega)]
    exact hQ
theorem k_bound (g : zLn h z a n fm f) (hr : zRow a n l o) {y ord : Nat} (hy : y < 256) (hord : ord ≤ 4) {Q : UInt64 → zw_H → Prop} (hQ : ∀ h', zLq z a n h h' → Q (sp_bound a n l ord y) h') : f_X4_bound K (some (z.1 0)) (Int32.ofNat y) (Int32.ofNat ord) h Q X := by
  unfold f_X4_bound
  rw [l_c g]
  refine k_laysFar g hr hy (fun h' fm' f' hfr g' hf => ?_)
  have hQ := hQ h' ⟨hfr, fm', f', g'⟩
  have h24 := hr.2.1
  have h5 := hr.2.2.2.2.1
  have h2 := hr.2.2.2.1
  unfold sp_bound at hQ
  have hc := zc_fars a n y (l - 1)
  have hok := zfok_fars a n y (l - 1)
  generalize sp_fars a n y (l - 1) = s at hQ hc hok hf
  refine zl3_run (B := f_X4_bound_B12 K Q X _ (some (z.1 0)) (Int32.ofNat y) (Int32.ofNat ord) (Int32.ofNat s.1)) (fun k => sp_bndS a n ord y s k) (fun k => Int32.ofNat k) (fun _ => h') (n := s.1) (fun R k hk hR => ?_) (fun R => ?_) s.1 zfu 0 (by omega) (Nat.lt_of_le_of_lt (show s.1 ≤ 16 by omega) (by decide))
  · unfold f_X4_bound_B12
    obtain ⟨k1, k2, k3, k4⟩ := hok k hk
    have hb1 := zb_bndr (l := s.2.1 k) (by omega) k3 hy k4
    have hct := zct_lt (l := s.2.1 k) (by omega) k3
    have eab : sp_iab (Int32.ofNat y - sp_centre (Int32.ofNat (s.2.1 k)) (Int32.ofNat (s.2.2 k))) = sp_far (Int32.ofNat y) (sp_centre (Int32.ofNat (s.2.1 k)) (Int32.ofNat (s.2.2 k))) := by
      rw [zi_centre (by omega)]
      exact sp_iab_sub (by omega) (by omega)
    rw [if_neg (by rw [zi_le (by omega) (by omega)]; omega), l_far g', k_rA g'.2.2.2.2.1 (by decide) (zi_inn (by omega) (by decide)), zi_clamp (by omega), hf.2 k hk, b_ct g' (by omega) k3, e_abs, eab, b_wd g' (by omega) k3]
    refine ⟨by decide, ?_⟩
    simp only [olet_iff, zi_succ]
    refine ⟨hb1.n64, ?_⟩
    refine c1_power (fun b hb => (zb_pow (k := b + 1) (by decide) hb1 (by omega) (by decide)).n64) (by omega) ?_
    rw [l_c g']
    refine k_weightsIn g' h24 (by omega) k3 ?_
    exact ⟨(zb_bnd0 (a := a) (n := n) (by omega) k3 hy hord k4).n64, (zb_bnd1 (a := a) (n := n) (by omega) k3 hy hord k4).n64, (zb_bndS (a := a) (n := n) hord hy (by omega) hok (k := k + 1) (by omega) (by omega)).n64, hR⟩
  · unfold f_X4_bound_B12
    rw [if_pos (by rw [zi_le (by omega) (by omega)]; omega)]
    exact hQ
theorem k_sumBy0 (g : zLn h z a n fm f) (hr : zRow a n l o) {y : Nat} (hy : y < 256) {Q : UInt64 → zw_H → Prop} (hQ : Q (sp_sumOf a (Int32.ofNat y) 1 (-1) n) h) : f_X4_sumBy K (some (z.1 0)) (Int32.ofNat y) 0 h Q X := by
  unfold f_X4_sumBy
  rw [if_pos rfl, l_c g]
  exact k_sum g hr hy hQ
theorem k_sumBy1 (g : zLn h z a n fm f) (hr : zRow a n l o) {y : Nat} (hy : y < 256) {t : Int32} (ht : t ≠ 0) {Q : UInt64 → zw_H → Prop} (hQ : ∀ h', zLq z a n h h' → Q (FP.dadd (sp_sumOf a (Int32.ofNat y) 0 (-1) n) (sp_farOf a n l o y)) h') : f_X4_sumBy K (some (z.1 0)) (Int32.ofNat y) t h Q X := by
  unfold f_X4_sumBy
  rw [if_neg ht, l_c g]
  refine k_sum g hr hy ?_
  rw [l_c g]
  refine k_farSum g hr hy (fun h' hq => ?_)
  simp only [olet_iff]
  exact ⟨(zb_by hr hy).n64, hQ h' hq⟩
theorem k_gap (g : zLn h z a n fm f) (hr : zRow a n l o) {y : Nat} (hy : y < 256) {Q : UInt64 → zw_H → Prop} (hQ : ∀ h', zLq z a n h h' → Q (sp_gap a n l o y) h') : f_X4_gap K (some (z.1 0)) (Int32.ofNat y) h Q X := by
  unfold f_X4_gap
  rw [l_c g]
  refine k_sumBy0 g hr hy ?_
  rw [l_c g]
  refine k_sumBy1 g hr hy (by decide) (fun h' hq => ?_)
  simp only [olet_iff]
  exact ⟨(zb_gap0 hr hy).n64, c1_absolute (zb_gap0 hr hy) (by decide) (by decide) (hQ h' hq)⟩
theorem k_farBodies (g : zLn h z a n fm f) (hr : zRow a n l o) {y : Nat} (hy : y < 256) {Q : Int32 → zw_H → Prop} (hQ : ∀ h', zLq z a n h h' → Q (sp_farBodies a n l y) h') : f_X4_farBodies K (some (z.1 0)) (Int32.ofNat y) h Q X := by
  have h24 := hr.2.1
  have h5 := hr.2.2.2.2.1
  have h2 := hr.2.2.2.1
  have hc := zc_fars a n y (l - 1)
  have hok := zfok_fars a n y (l - 1)
  unfold sp_farBodies at hQ
  unfold f_X4_farBodies
  refine zl3_inv (B := f_X4_farBodies_B4 K Q X _ (some (z.1 0)) (Int32.ofNat y)) (fun k t x hh => t = sp_farBod a n (sp_fars a n y (l - 1)) k ∧ x = Int32.ofNat k ∧ zLq z a n h hh) (n := (sp_fars a n y (l - 1)).1) (fun R k hk t x hh hp hR => ?_) (fun R t x hh hp => ?_) (sp_fars a n y (l - 1)).1 zfu 0 (by omega) (Nat.lt_of_le_of_lt (show (sp_fars a n y (l - 1)).1 ≤ 16 by omega) (by decide)) _ _ _ ⟨rfl, rfl, zFr.refl _ _, fm, f, g⟩
  · obtain ⟨rfl, rfl, hq, fm1, f1, g1⟩ := hp
    obtain ⟨k1, k2, k3, k4⟩ := hok k hk
    unfold f_X4_farBodies_B4
    rw [l_c g1]
    refine k_laysFar g1 hr hy (fun h' fm' f' hfr g' hf => ?_)
    rw [if_neg (by rw [zi_le (by omega) (by omega)]; omega), l_far g', k_rA g'.2.2.2.2.1 (by decide) (zi_inn (by omega) (by decide)), zi_clamp (by omega), hf.2 k hk, l_c g']
    refine k_bodiesIn g' h24 (by omega) k3 ?_
    simp only [olet_iff, zi_succ]
    exact hR _ _ _ ⟨rfl, rfl, hq.trans hfr, fm', f', g'⟩
  · obtain ⟨rfl, rfl, hq, fm1, f1, g1⟩ := hp
    unfold f_X4_farBodies_B4
    rw [l_c g1]
    refine k_laysFar g1 hr hy (fun h' fm' f' hfr g' hf => ?_)
    rw [if_pos (by rw [zi_le (by omega) (by omega)]; omega)]
    exact hQ h' ⟨hq.trans hfr, fm', f', g'⟩
theorem k_cost (g : zLn h z a n fm f) (hr : zRow a n l o) {y : Nat} (hy : y < 256) {all : Int32} {Q : Int32 → zw_H → Prop} (hQ : ∀ h', zLq z a n h h' → Q (sp_cost a n l y all) h') : f_X4_cost K (some (z.1 0)) (Int32.ofNat y) all h Q X := by
  have h24 := hr.2.1
  have hl := hr.2.2.1
  have h5 := hr.2.2.2.2.1
  have hb0 := hr.2.2.2.2.2.2.2.2
  unfold f_X4_cost
  refine zl3_run (B := f_X4_cost_B5 K Q X _ (some (z.1 0)) (Int32.ofNat y) all) (fun b => sp_cost0 a b (Int32.ofNat y) all) (fun b => Int32.ofNat b) (fun _ => h) (n := n) (fun R b hb hR => ?_) (fun R => ?_) n zfu 0 (by omega) (Nat.lt_of_le_of_lt h24 (by decide))
  · obtain ⟨⟨x, hx, hx2⟩, -⟩ := hb0 b hb
    have es : sp_cost0 a (b + 1) (Int32.ofNat y) all = sp_cost0 a b (Int32.ofNat y) all + (if a (7 + 4 * b) = Int32.ofNat y then 0 else if all ≠ 0 then 1 else sp_b (sp_far (a (7 + 4 * b) / sp_wide (a 3)) (Int32.ofNat y / sp_wide (a 3)) ≤ 1)) := rfl
    rw [es] at hR
    unfold f_X4_cost_B5 f_X4_cost_J50 f_X4_cost_J46 f_X4_cost_J51
    simp only [l_c g, l_size g, l_at g h24 hb, l_x g hb, l_near g (show l < 6 by omega) hl hb hx hx2 hy, e1_flag, olet_iff, zi_succ]
    rw [if_neg (by rw [zi_le (by omega) (by omega)]; omega)]
    by_cases g1 : a (7 + 4 * b) = Int32.ofNat y
    · rw [if_pos g1] at hR ⊢
      exact hR
    · rw [if_neg g1] at hR ⊢
      by_cases g2 : all ≠ 0
      · rw [if_pos g2] at hR ⊢
        exact hR
      · rw [if_neg g2] at hR ⊢
        by_cases g3 : sp_far (a (7 + 4 * b) / sp_wide (a 3)) (Int32.ofNat y / sp_wide (a 3)) ≤ 1
        · rw [sp_bt g3] at hR ⊢
          exact hR
        · rw [sp_bf g3] at hR ⊢
          exact hR
  · unfold f_X4_cost_B5
    simp only [l_c g, l_size g]
    rw [if_pos (by rw [zi_le (by omega) (by omega)]; omega)]
    try dsimp only
    unfold sp_cost at hQ
    by_cases e : all = 0
    · simp only [if_pos e] at hQ
      rw [if_pos e, l_ord g]
      exact k_laysFar g hr hy (fun h' fm' f' hfr g' hf => hQ h' ⟨hfr, fm', f', g'⟩)
    · simp only [if_neg e] at hQ
      rw [if_neg e]
      exact hQ h ⟨zFr.refl _ _, fm, f, g⟩
end ZC3
