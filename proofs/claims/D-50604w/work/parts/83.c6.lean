set_option maxRecDepth 100000
/-! local rows of the class -/
theorem zFr.own {M : Nat → Prop} {h h' : zw_H} (a : zFr M h h') {p : Nat} (hp : h p = none) (x : zw_C) : zFr M h (zw_up h' p x) := fun q hq hm => by
  rw [k_u2 (fun e => hq (by rw [e]; exact hp))]
  exact a q hq hm
abbrev zNo : Nat → Prop := fun _ => False
theorem zLn.ext {h h' : zw_H} {z : zW} {a : Nat → Int32} {n : Nat} {fm : Int32} {f : zAr} (g : zLn h z a n fm f) (e : zFr zNo h h') : zLn h' z a n fm f := g.frame (fun q hq => e q (g.dom hq) (fun k => k))
theorem zf_li (x : Int32) : FP.l2d x.toInt64 = FP.i2d x := by
  show UInt64.ofNat (FP.Core.encode FP.Core.b64 (FP.Core.round FP.Core.b64 (FP.Core.ofInt x.toInt64.toInt))) = UInt64.ofNat (FP.Core.encode FP.Core.b64 (FP.Core.round FP.Core.b64 (FP.Core.ofInt x.toInt)))
  rw [Int32.toInt_toInt64]
theorem zf_00 : (0 : UInt64) = FP.dconst0 := by decide +kernel
abbrev zDs (m : Nat) (r : Nat → UInt64) : zw_C := .inl (4, m, .inr (.inr (.inr (.inl r))))
/-- the row that a box's own begins with -/
def sp_ini (a : Nat → Int32) (n o c i : Nat) : Nat → UInt64 := match c with
  | 0 => fun _ => FP.dconst0
  | c + 1 => fun j => sp_ab (sp_aby (2 + (c + 1)) i) (sp_row a n o c (i / 2)) j (o + 1 - j)
theorem sp_row_eq (a : Nat → Int32) (n o c i : Nat) : sp_row a n o c i = sp_rowF a n o (2 + c) i (sp_ini a n o c i) (2 ^ (2 + c)) := by
  cases c <;> rfl
theorem zb_ini {a : Nat → Int32} {n o c i : Nat} (ho : o ≤ 4) (hc : c ≤ 3) (hi : i < 2 ^ (2 + c)) {j : Nat} (hj : j ≤ o) : zBd (sp_ini a n o c i j) (1150 + 189 * c) := by
  cases c with
  | zero => exact zBd.mono zBd_0 (by decide)
  | succ c =>
    have hi2 : i / 2 < 2 ^ (2 + c) := by
      rw [show 2 + (c + 1) = 2 + c + 1 by omega, Nat.pow_succ] at hi
      omega
    exact (zb_ab (j := j) (zBd_i2d _) ho (by omega) (by omega) (fun m hm => zb_row (a := a) (n := n) ho (by omega) hi2 hm) (c := o + 1 - j) (by omega)).mono (by omega)
section ZC6
variable {K : Nat → Option Nat} {X : String → Nat → zw_H → Prop} {h : zw_H} {z : zW} {a : Nat → Int32} {n l o : Nat} {fm : Int32} {f : zAr}
theorem k_part (g : zLn h z a n fm f) (hr : zRow a n l o) {lv q j : Nat} {y : Int32} (hl : lv < 6) (hq : q < 2 ^ lv) (hy : y ≠ 0) (hj : j ≤ 4) {Q : UInt64 → zw_H → Prop} (hQ : Q (sp_part a n lv q y j (o + 1)) h) : f_X4_part K (some (z.1 0)) (some (z.2.1 lv q)) y (Int32.ofNat j) h Q X := by
  have h24 := hr.2.1
  have ho := hr.2.2.2.2.2.1
  have h4 := hr.2.2.2.2.2.2.1
  unfold f_X4_part
  rw [zi_succ]
  refine c1_power (fun b hb => (zb_t1 (zBd_i2d y) (k := b + 1) (by omega)).n64) (by omega) ?_
  refine zl4_run (B := f_X4_part_B17 K Q X _ (some (z.1 0)) (some (z.2.1 lv q)) y (Int32.ofNat j)) (fun k => sp_part a n lv q y j k) (fun k => sp_times (sp_times FP.dconst1 (FP.i2d y) (j + 1)) (FP.i2d y) k) (fun k => Int32.ofNat k) (fun _ => h) (n := o + 1) (fun R k hk hR => ?_) (fun R => ?_) (o + 1) zfu 0 (by omega) (Nat.lt_of_le_of_lt (show o + 1 ≤ 5 by omega) (by decide))
  · unfold f_X4_part_B17
    rw [l_ord g, ho, if_neg (by rw [zi_lt (by omega) (by omega)]; omega), ← Int32.ofNat_add]
    refine c1_choose (by omega) ?_
    rw [l_c g, sp_chl_eq (by omega) (by omega)]
    refine k_moment g h24 hl hq (by omega) ?_
    simp only [olet_iff, zi_succ]
    exact ⟨(zb_part1 (a := a) (n := n) (l := lv) (q := q) (c := k) hy (show j ≤ 4 by omega) (by omega)).n64, (zb_part (a := a) (n := n) (l := lv) (q := q) hy (show j ≤ 4 by omega) (c := k + 1) (by omega)).n64, (zb_part2 (y := y) (j := j) (c := k + 1) (by omega) (by omega)).n64, hR⟩
  · unfold f_X4_part_B17
    rw [l_ord g, ho, if_pos (by rw [zi_lt (by omega) (by omega)]; omega)]
    exact hQ
theorem k_inh3 (g : zLn h z a n fm f) (hr : zRow a n l o) {c i : Nat} (hc : c ≤ 0) (hc2 : c ≤ 3) (hi : i < 2 ^ (2 + c)) {Q : Option Nat → zw_H → Prop} (hQ : ∀ h' p, zFr zNo h h' → ∀ r, (h p = none ∧ h' p = some (zDs (o + 1) r)) → (∀ j, j ≤ o → r j = sp_ini a n o c i j) → Q (some p) h') : f_X4_inheritsl3 K (some (z.1 0)) (some (z.2.1 (2 + c) i)) h Q X := by
  have ho := hr.2.2.2.2.2.1
  have h4 := hr.2.2.2.2.2.2.1
  have hp32 := zi_p5 (show 2 + c ≤ 5 by omega)
  unfold f_X4_inheritsl3
  rw [l_ord g, ho, zi_succ]
  refine ⟨zi_nn (by omega), by rw [zi_clamp (by omega)]; omega, fun q hq => ?_⟩
  rw [zi_clamp (by omega)]
  have g1 : zLn (zw_up h q (zDs (o + 1) (fun _ => 0))) z a n fm f := g.ext ((zFr.refl zNo h).own hq _)
  dsimp only
  rw [b_lv g1 (by omega) hi]
  cases c with
  | zero =>
    rw [if_neg (by decide)]
    exact hQ _ q ((zFr.refl zNo h).own hq _) _ ⟨hq, k_u1 _ _ _⟩ (fun j _ => zf_00)
  | succ c =>
    omega
theorem k_loc3 (g : zLn h z a n fm f) (hr : zRow a n l o) {c i : Nat} (hc : c ≤ 0) (hc2 : c ≤ 3) (hi : i < 2 ^ (2 + c)) {Q : Option Nat → zw_H → Prop} (hQ : ∀ h' p, zFr zNo h h' → ∀ r, (h p = none ∧ h' p = some (zDs (o + 1) r)) → (∀ j, j ≤ o → r j = sp_row a n o c i j) → Q (some p) h') : f_X4_locall3 K (some (z.1 0)) (some (z.2.1 (2 + c) i)) h Q X := by
  have h24 := hr.2.1
  have ho := hr.2.2.2.2.2.1
  have h4 := hr.2.2.2.2.2.2.1
  have hp32 := zi_p5 (show 2 + c ≤ 5 by omega)
  unfold f_X4_locall3
  rw [l_c g]
  refine k_inh3 g hr hc hc2 hi (fun h1 p0 hfr1 r0 hp0 hrow0 => ?_)
  rw [sp_row_eq] at hQ
  have hbs : ∀ j, j ≤ o → zBd (sp_ini a n o c i j) (1150 + 189 * c) := fun j hj => zb_ini h4 hc2 hi hj
  generalize sp_ini a n o c i = s at hrow0 hQ hbs
  have g1 := g.ext hfr1
  unfold ocl_D
  simp only [hp0.2]
  refine ⟨by decide, by omega, fun q hq => ?_⟩
  have hqh : h q = none := by
    by_cases e : h q = none
    · exact e
    · exact absurd ((hfr1 q e (fun k => k)).symm.trans hq) e
  have hfr2 : zFr zNo h (zw_up h1 q (zDs (o + 1) r0)) := hfr1.own hqh _
  have g2 : zLn (zw_up h1 q (zDs (o + 1) r0)) z a n fm f := g.ext hfr2
  have hq2 : zw_up h1 q (zDs (o + 1) r0) q = some (zDs (o + 1) r0) := k_u1 _ _ _
  show ocA_ (zw_up h1 q (zDs (o + 1) r0)) _ _ _
  generalize zw_up h1 q (zDs (o + 1) r0) = h2 at hfr2 g2 hq2
  obtain ⟨⟨fr, g6, g7⟩, g8, g9⟩ := g2.2.2.2.1
  obtain ⟨fb, kb1, kb2⟩ := g8 (2 + c) (by omega)
  unfold ocA_
  simp only [hq2]
  refine ⟨trivial, ?_⟩
  rw [k_gA g2.1 (by decide) rfl, b_lv g2 (by omega) hi, k_rA g6 (by decide) (zi_inn (by omega) (by decide)), zi_clamp (by omega), g7 (2 + c) (by omega), k_l kb1 (by decide)]
  refine zl2_inv (B := f_X4_locall3_B29 K Q X _ (some (z.1 0)) (some (z.2.1 (2 + c) i)) (some q) (some (z.1 (6 + (2 + c)))) (Int32.ofNat (2 ^ (2 + c)))) (fun e x hh => x = Int32.ofNat e ∧ zFr zNo h hh ∧ ∃ r, hh q = some (zDs (o + 1) r) ∧ ∀ j, j ≤ o → r j = sp_rowF a n o (2 + c) i s e j) (n := 2 ^ (2 + c)) (fun R e he x hh hp2 hR => ?_) (fun R x hh hp2 => ?_) (2 ^ (2 + c)) zfu 0 (by omega) (Nat.lt_of_le_of_lt hp32 (by decide)) _ _ ⟨rfl, hfr2, r0, hq2, hrow0⟩
  · obtain ⟨rfl, hfr3, r, hq3, hrow⟩ := hp2
    have g3 := g.ext hfr3
    obtain ⟨⟨fr, g6, g7⟩, g8, g9⟩ := g3.2.2.2.1
    obtain ⟨fb, kb1, kb2⟩ := g8 (2 + c) (by omega)
    unfold f_X4_locall3_B29 f_X4_locall3_J154
    rw [if_neg (by rw [zi_le (by omega) (by omega)]; omega), k_rA kb1 (by decide) (zi_inn he (by omega)), zi_clamp (by omega), kb2 e he, b_no g3 (by omega) hi, b_c g3 (by omega) he, b_isFar g3 (by omega) he (by omega)]
    by_cases k1 : 1 < zdi e i ∧ zdi (e / 2) (i / 2) ≤ 1
    · rw [sp_bt k1, if_neg (by decide), l_c g3]
      refine k_bodiesIn g3 h24 (by omega) he ?_
      obtain ⟨m, hm1, hm2⟩ := zc_bodiesIn a (Int32.ofNat (2 + c)) (Int32.ofNat e) n h24
      by_cases k2 : sp_bodiesIn a n (Int32.ofNat (2 + c)) (Int32.ofNat e) = 0
      · rw [if_neg (fun k => k k2)]
        have hnf : ¬ zfarQ a n i (2 + c) e := fun k => by
          have := k.2.2
          rw [k2] at this
          exact absurd this (by decide)
        have es : sp_rowF a n o (2 + c) i s (e + 1) = sp_rowF a n o (2 + c) i s e := if_neg hnf
        simp only [olet_iff, zi_succ]
        exact hR _ _ ⟨rfl, hfr3, r, hq3, by rw [es]; exact hrow⟩
      · rw [if_pos k2]
        have hm0 : m ≠ 0 := fun k => k2 (by rw [hm2, k]; rfl)
        have hyf : zfarQ a n i (2 + c) e := ⟨k1.1, k1.2, by rw [hm2]; exact (zi_lt (a := 0) (by decide) (by omega)).mpr (by omega)⟩
        have es : sp_rowF a n o (2 + c) i s (e + 1) = sp_takes a n o (2 + c) i e (sp_rowF a n o (2 + c) i s e) := if_pos hyf
        rw [es] at hR
        have hbb : ∀ j, j ≤ o → zBd (sp_rowF a n o (2 + c) i s e j) (1158 + 189 * c) := fun j hj => (zb_rowF (a := a) (n := n) (S := 1150 + 189 * c) h4 (show 2 + c ≤ 8 by omega) hi (by omega) (by omega) hbs hj (c := e) (by omega)).mono (by unfold zcnt; omega)
        generalize sp_rowF a n o (2 + c) i s e = t at hrow hR hbb
        have hne := zfar_bb (show 2 + c ≤ 8 by omega) hi he k1.1
        rw [b_ct g3 (by omega) hi, b_ct g3 (by omega) he]
        simp only [olet_iff]
        have e0 : sp_centre (Int32.ofNat (2 + c)) (Int32.ofNat i) - sp_centre (Int32.ofNat (2 + c)) (Int32.ofNat e) = sp_bb (2 + c) i e := rfl
        rw [e0]
        unfold sp_takes at hR
        generalize sp_bb (2 + c) i e = y at hne hR
        refine zl2_inv (B := f_X4_locall3_B81 K Q X _ (some (z.1 0)) (some (z.2.1 (2 + c) i)) (some q) (some (z.1 (6 + (2 + c)))) (Int32.ofNat (2 ^ (2 + c))) (Int32.ofNat e) (some (z.2.1 (2 + c) e)) y) (fun j x hh => x = Int32.ofNat j ∧ zFr zNo h hh ∧ ∃ r, hh q = some (zDs (o + 1) r) ∧ (∀ p, p < j → r p = sp_loc1 y p (t p) (sp_part a n (2 + c) e y p (o + 1))) ∧ ∀ p, j ≤ p → p ≤ o → r p = t p) (n := o + 1) (fun R2 j hj x hh hp2 hR2 => ?_) (fun R2 x hh hp2 => ?_) (o + 1) zfu 0 (by omega) (Nat.lt_of_le_of_lt (show o + 1 ≤ 5 by omega) (by decide)) _ _ ⟨rfl, hfr3, r, hq3, fun p hp => absurd hp (Nat.not_lt_zero p), fun p _ hp => hrow p hp⟩
        · obtain ⟨rfl, hfr4, r', hq4, j1, j2⟩ := hp2
          have g4 := g.ext hfr4
          unfold f_X4_locall3_B81
          rw [l_ord g4, ho, if_neg (by rw [zi_lt (by omega) (by omega)]; omega), l_c g4]
          refine k_part g4 hr (by omega) he hne (by omega) ?_
          have hz := zb_loc1 (y := y) (j := j) (hbb j (by omega)) ((zb_part (a := a) (n := n) (l := 2 + c) (q := e) hne (show j ≤ 4 by omega) (c := o + 1) (by omega)).mono (show 1140 + 2 * (o + 1) ≤ 1158 + 189 * c by omega)) (by omega)
          have hfin : ∀ x, x = sp_loc1 y j (t j) (sp_part a n (2 + c) e y j (o + 1)) → R2 (Int32.ofNat (j + 1)) (zw_up hh q (zDs (o + 1) (vf_upd r' j x))) := fun x hx => hR2 _ _ ⟨rfl, hfr4.own hqh _, _, k_u1 _ _ _, fun p hp => by
            show (if p = j then x else r' p) = _
            by_cases k : p = j
            · rw [if_pos k, hx, k]
            · rw [if_neg k]
              exact j1 p (by omega), fun p h1 h2 => (if_neg (show p ≠ j by omega)).trans (j2 p (by omega) h2)⟩
          have hrd : ∀ F : UInt64 → Prop, oa_D hh (some q) [4] (Int32.ofNat j) F = F (t j) := fun F => by rw [k_rD hq4 (by decide) (zi_inn (by omega) (by omega)), zi_clamp (by omega), j2 j (Nat.le_refl j) (by omega)]
          have hwr : ∀ (x : UInt64) (F : zw_H → Prop), os_D hh (some q) [4] (Int32.ofNat j) x F = F (zw_up hh q (zDs (o + 1) (vf_upd r' j x))) := fun x F => by rw [k_sD hq4 (by decide) (zi_inn (by omega) (by omega)), zi_clamp (by omega)]
          unfold f_X4_locall3_J112 f_X4_locall3_J124 f_X4_locall3_J148
          simp only [olet_iff, zi_succ, hrd, hwr]
          unfold sp_loc1 at hz hfin
          by_cases c1 : (0 : Int32) ≤ y
          · simp only [if_pos c1] at hz hfin ⊢
            refine ⟨by decide, ?_⟩
            by_cases c2 : j % 2 ≠ 0
            · rw [if_pos ((zi_par (by omega)).mpr c2)]
              simp only [if_pos c2] at hz hfin
              rw [if_neg (fun e => e rfl)] at hz hfin ⊢
              exact ⟨hz.n64, hfin _ rfl⟩
            · rw [if_neg (fun e => c2 ((zi_par (by omega)).mp e))]
              simp only [if_neg c2] at hz hfin
              rw [if_pos (by decide)] at hz hfin ⊢
              exact ⟨hz.n64, hfin _ rfl⟩
          · simp only [if_neg c1] at hz hfin ⊢
            refine ⟨by decide, ?_⟩
            by_cases c2 : j % 2 ≠ 0
            · rw [if_pos ((zi_par (by omega)).mpr c2)]
              simp only [if_pos c2] at hz hfin
              rw [if_pos (by decide)] at hz hfin ⊢
              exact ⟨hz.n64, hfin _ rfl⟩
            · rw [if_neg (fun e => c2 ((zi_par (by omega)).mp e))]
              simp only [if_neg c2] at hz hfin
              rw [if_neg (fun e => e rfl)] at hz hfin ⊢
              exact ⟨hz.n64, hfin _ rfl⟩
        · obtain ⟨rfl, hfr4, r', hq4, j1, j2⟩ := hp2
          have g4 := g.ext hfr4
          unfold f_X4_locall3_B81
          rw [l_ord g4, ho, if_pos (by rw [zi_lt (by omega) (by omega)]; omega)]
          simp only [olet_iff, zi_succ]
          exact hR _ _ ⟨rfl, hfr4, r', hq4, fun j hj => j1 j (by omega)⟩
    · rw [sp_bf k1, if_pos rfl]
      have hnf : ¬ zfarQ a n i (2 + c) e := fun k => k1 ⟨k.1, k.2.1⟩
      have es : sp_rowF a n o (2 + c) i s (e + 1) = sp_rowF a n o (2 + c) i s e := if_neg hnf
      simp only [olet_iff, zi_succ]
      exact hR _ _ ⟨rfl, hfr3, r, hq3, by rw [es]; exact hrow⟩
  · obtain ⟨rfl, hfr3, r, hq3, hrow⟩ := hp2
    unfold f_X4_locall3_B29
    rw [if_pos (by rw [zi_le (by omega) (by omega)]; omega)]
    exact hQ hh q hfr3 r ⟨hqh, hq3⟩ hrow
theorem k_inh2 (g : zLn h z a n fm f) (hr : zRow a n l o) {c i : Nat} (hc : c ≤ 1) (hc2 : c ≤ 3) (hi : i < 2 ^ (2 + c)) {Q : Option Nat → zw_H → Prop} (hQ : ∀ h' p, zFr zNo h h' → ∀ r, (h p = none ∧ h' p = some (zDs (o + 1) r)) → (∀ j, j ≤ o → r j = sp_ini a n o c i j) → Q (some p) h') : f_X4_inheritsl2 K (some (z.1 0)) (some (z.2.1 (2 + c) i)) h Q X := by
  have ho := hr.2.2.2.2.2.1
  have h4 := hr.2.2.2.2.2.2.1
  have hp32 := zi_p5 (show 2 + c ≤ 5 by omega)
  unfold f_X4_inheritsl2
  rw [l_ord g, ho, zi_succ]
  refine ⟨zi_nn (by omega), by rw [zi_clamp (by omega)]; omega, fun q hq => ?_⟩
  rw [zi_clamp (by omega)]
  have g1 : zLn (zw_up h q (zDs (o + 1) (fun _ => 0))) z a n fm f := g.ext ((zFr.refl zNo h).own hq _)
  dsimp only
  rw [b_lv g1 (by omega) hi]
  cases c with
  | zero =>
    rw [if_neg (by decide)]
    exact hQ _ q ((zFr.refl zNo h).own hq _) _ ⟨hq, k_u1 _ _ _⟩ (fun j _ => zf_00)
  | succ c =>
    have hi2 : i / 2 < 2 ^ (2 + c) := by
      rw [show 2 + (c + 1) = 2 + c + 1 by omega, Nat.pow_succ] at hi
      omega
    have hA : ∀ q, q ≤ o → zBd (sp_row a n o c (i / 2) q) (1158 + 189 * c) := fun q hq => zb_row (a := a) (n := n) h4 (by omega) hi2 hq
    rw [if_pos (show Int32.ofNat (2 + (c + 1)) ≠ 2 from fun e => by have := (zi_inj (b := 2) (by omega) (by decide)).mp e; omega), b_lv g1 (by omega) hi, b_no g1 (by omega) hi]
    refine ⟨by decide, ?_⟩
    rw [l_c g1, show Int32.ofNat (2 + (c + 1)) - 1 = Int32.ofNat (2 + c) from (Int32.ofNat_sub (2 + (c + 1)) 1 (by omega)).symm, show Int32.ofNat i / 2 = Int32.ofNat (i / 2) from zi_div (b := 2) (by omega) (by omega) (by omega), l_box g1 (by omega) hi2]
    try dsimp only
    rw [l_c g1]
    refine k_loc3 g1 hr (by omega) (by omega) hi2 (fun h2 p hfr2 r hp hrow => ?_)
    have g2 := g1.ext hfr2
    have hq2 : h2 q = some (zDs (o + 1) (fun _ => 0)) := (hfr2 q (by rw [k_u1]; exact Option.some_ne_none _) (fun k => k)).trans (k_u1 _ _ _)
    have hne : p ≠ q := fun e => by
      have := hp.1
      rw [e, k_u1] at this
      cases this
    rw [b_ct g2 (by omega) hi, b_ct g2 (by omega) hi2]
    simp only [olet_iff]
    have e0 : FP.i2d (sp_centre (Int32.ofNat (2 + (c + 1))) (Int32.ofNat i) - sp_centre (Int32.ofNat (2 + c)) (Int32.ofNat (i / 2))) = sp_aby (2 + (c + 1)) i := by
      unfold sp_aby
      rw [show Int32.ofNat (2 + (c + 1)) - 1 = Int32.ofNat (2 + c) from (Int32.ofNat_sub (2 + (c + 1)) 1 (by omega)).symm, show Int32.ofNat i / 2 = Int32.ofNat (i / 2) from zi_div (b := 2) (by omega) (by omega) (by omega)]
    have hy : zBd (sp_aby (2 + (c + 1)) i) 1107 := zBd_i2d _
    rw [e0]
    have hQ3 : ∀ h', zFr zNo h h' → ∀ r', h' q = some (zDs (o + 1) r') → (∀ j, j ≤ o → r' j = sp_ab (sp_aby (2 + (c + 1)) i) (sp_row a n o c (i / 2)) j (o + 1 - j)) → Q (some q) h' := fun h' k1 r' k2 k3 => hQ h' q k1 r' ⟨hq, k2⟩ k3
    generalize sp_aby (2 + (c + 1)) i = y at hy hQ3
    generalize sp_row a n o c (i / 2) = A at hA hrow hQ3
    have hfr3 : zFr zNo h h2 := ((zFr.refl zNo h).own hq (zDs (o + 1) (fun _ => 0))).trans hfr2
    refine zl2_inv (B := f_X4_inheritsl2_B58 K Q X _ (some (z.1 0)) (some q) (some p) y) (fun j x hh => x = Int32.ofNat j ∧ zFr zNo h hh ∧ hh p = some (zDs (o + 1) r) ∧ zLn hh z a n fm f ∧ ∃ r', hh q = some (zDs (o + 1) r') ∧ (∀ m, m < j → r' m = sp_ab y A m (o + 1 - m)) ∧ ∀ m, j ≤ m → r' m = FP.dconst0) (n := o + 1) (fun R j hj x hh hp2 hR => ?_) (fun R x hh hp2 => ?_) (o + 1) zfu 0 (by omega) (Nat.lt_of_le_of_lt (show o + 1 ≤ 5 by omega) (by decide)) _ _ ⟨rfl, hfr3, hp.2, g2, _, hq2, fun m hm => absurd hm (Nat.not_lt_zero m), fun m _ => zf_00⟩
    · obtain ⟨rfl, hfr4, hp4, g4, r', hq4, k1, k2⟩ := hp2
      unfold f_X4_inheritsl2_B58
      rw [l_ord g4, ho, if_neg (by rw [zi_lt (by omega) (by omega)]; omega)]
      refine zl2_inv (B := f_X4_inheritsl2_B71 K Q X _ (some (z.1 0)) (some q) (some p) y (Int32.ofNat j)) (fun e x hh => x = Int32.ofNat (j + e) ∧ zFr zNo h hh ∧ hh p = some (zDs (o + 1) r) ∧ zLn hh z a n fm f ∧ ∃ r', hh q = some (zDs (o + 1) r') ∧ (∀ m, m < j → r' m = sp_ab y A m (o + 1 - m)) ∧ (∀ m, j < m → r' m = FP.dconst0) ∧ r' j = sp_ab y A j e) (n := o + 1 - j) (fun R2 e he x hh hp2 hR2 => ?_) (fun R2 x hh hp2 => ?_) (o + 1 - j) zfu 0 (by omega) (Nat.lt_of_le_of_lt (show o + 1 - j ≤ 5 by omega) (by decide)) _ _ ⟨rfl, hfr4, hp4, g4, r', hq4, k1, fun m hm => k2 m (by omega), k2 j (Nat.le_refl j)⟩
      · obtain ⟨rfl, hfr5, hp5, g5, r', hq5, k1, k2, k3⟩ := hp2
        have hb := zb_ab1 (j := j) (c := e) hy (by omega) (show 1074 ≤ 1158 + 189 * c by omega) (by omega) (hA (j + e) (by omega))
        unfold f_X4_inheritsl2_B71
        rw [l_ord g5, ho, if_neg (by rw [zi_lt (by omega) (by omega)]; omega), k_rD hq5 (by decide) (zi_inn (by omega) (by omega)), zi_clamp (by omega), k3]
        refine c1_choose (by omega) ?_
        rw [k_rD hp5 (by decide) (zi_inn (by omega) (by omega)), zi_clamp (by omega), hrow (j + e) (by omega), sp_chl_eq (by omega) (by omega), zf_li]
        simp only [olet_iff, zi_succ]
        refine ⟨hb.1.n64, ?_⟩
        rw [← Int32.ofNat_sub _ _ (show j ≤ j + e by omega), Nat.add_sub_cancel_left]
        refine c1_power (fun b hb => (zb_t1 hy (k := b + 1) (by omega)).n64) (by omega) ?_
        refine ⟨hb.2.n64, (zb_ab (j := j) hy h4 (show 1074 ≤ 1158 + 189 * c by omega) (by omega) hA (c := e + 1) (by omega)).n64, ?_⟩
        rw [k_sD hq5 (by decide) (zi_inn (by omega) (by omega)), zi_clamp (by omega)]
        refine hR2 _ _ ⟨rfl, hfr5.own hq _, (k_u2 hne).trans hp5, g.ext (hfr5.own hq _), _, k_u1 _ _ _, fun m hm => ?_, fun m hm => ?_, ?_⟩
        · exact (if_neg (show m ≠ j by omega)).trans (k1 m hm)
        · exact (if_neg (show m ≠ j by omega)).trans (k2 m hm)
        · exact if_pos rfl
      · obtain ⟨rfl, hfr5, hp5, g5, r', hq5, k1, k2, k3⟩ := hp2
        unfold f_X4_inheritsl2_B71
        rw [l_ord g5, ho, if_pos (by rw [zi_lt (by omega) (by omega)]; omega)]
        simp only [olet_iff, zi_succ]
        refine hR _ _ ⟨rfl, hfr5, hp5, g5, r', hq5, fun m hm => ?_, fun m hm => k2 m (by omega)⟩
        rcases Nat.lt_or_ge m j with k | k
        · exact k1 m k
        · have e : m = j := by omega
          subst e
          exact k3
    · obtain ⟨rfl, hfr4, hp4, g4, r', hq4, k1, k2⟩ := hp2
      unfold f_X4_inheritsl2_B58
      rw [l_ord g4, ho, if_pos (by rw [zi_lt (by omega) (by omega)]; omega)]
      exact hQ3 hh hfr4 r' hq4 (fun j hj => k1 j (by omega))
theorem k_loc2 (g : zLn h z a n fm f) (hr : zRow a n l o) {c i : Nat} (hc : c ≤ 1) (hc2 : c ≤ 3) (hi : i < 2 ^ (2 + c)) {Q : Option Nat → zw_H → Prop} (hQ : ∀ h' p, zFr zNo h h' → ∀ r, (h p = none ∧ h' p = some (zDs (o + 1) r)) → (∀ j, j ≤ o → r j = sp_row a n o c i j) → Q (some p) h') : f_X4_locall2 K (some (z.1 0)) (some (z.2.1 (2 + c) i)) h Q X := by
  have h24 := hr.2.1
  have ho := hr.2.2.2.2.2.1
  have h4 := hr.2.2.2.2.2.2.1
  have hp32 := zi_p5 (show 2 + c ≤ 5 by omega)
  unfold f_X4_locall2
  rw [l_c g]
  refine k_inh2 g hr hc hc2 hi (fun h1 p0 hfr1 r0 hp0 hrow0 => ?_)
  rw [sp_row_eq] at hQ
  have hbs : ∀ j, j ≤ o → zBd (sp_ini a n o c i j) (1150 + 189 * c) := fun j hj => zb_ini h4 hc2 hi hj
  generalize sp_ini a n o c i = s at hrow0 hQ hbs
  have g1 := g.ext hfr1
  unfold ocl_D
  simp only [hp0.2]
  refine ⟨by decide, by omega, fun q hq => ?_⟩
  have hqh : h q = none := by
    by_cases e : h q = none
    · exact e
    · exact absurd ((hfr1 q e (fun k => k)).symm.trans hq) e
  have hfr2 : zFr zNo h (zw_up h1 q (zDs (o + 1) r0)) := hfr1.own hqh _
  have g2 : zLn (zw_up h1 q (zDs (o + 1) r0)) z a n fm f := g.ext hfr2
  have hq2 : zw_up h1 q (zDs (o + 1) r0) q = some (zDs (o + 1) r0) := k_u1 _ _ _
  show ocA_ (zw_up h1 q (zDs (o + 1) r0)) _ _ _
  generalize zw_up h1 q (zDs (o + 1) r0) = h2 at hfr2 g2 hq2
  obtain ⟨⟨fr, g6, g7⟩, g8, g9⟩ := g2.2.2.2.1
  obtain ⟨fb, kb1, kb2⟩ := g8 (2 + c) (by omega)
  unfold ocA_
  simp only [hq2]
  refine ⟨trivial, ?_⟩
  rw [k_gA g2.1 (by decide) rfl, b_lv g2 (by omega) hi, k_rA g6 (by decide) (zi_inn (by omega) (by decide)), zi_clamp (by omega), g7 (2 + c) (by omega), k_l kb1 (by decide)]
  refine zl2_inv (B := f_X4_locall2_B29 K Q X _ (some (z.1 0)) (some (z.2.1 (2 + c) i)) (some q) (some (z.1 (6 + (2 + c)))) (Int32.ofNat (2 ^ (2 + c)))) (fun e x hh => x = Int32.ofNat e ∧ zFr zNo h hh ∧ ∃ r, hh q = some (zDs (o + 1) r) ∧ ∀ j, j ≤ o → r j = sp_rowF a n o (2 + c) i s e j) (n := 2 ^ (2 + c)) (fun R e he x hh hp2 hR => ?_) (fun R x hh hp2 => ?_) (2 ^ (2 + c)) zfu 0 (by omega) (Nat.lt_of_le_of_lt hp32 (by decide)) _ _ ⟨rfl, hfr2, r0, hq2, hrow0⟩
  · obtain ⟨rfl, hfr3, r, hq3, hrow⟩ := hp2
    have g3 := g.ext hfr3
    obtain ⟨⟨fr, g6, g7⟩, g8, g9⟩ := g3.2.2.2.1
    obtain ⟨fb, kb1, kb2⟩ := g8 (2 + c) (by omega)
    unfold f_X4_locall2_B29 f_X4_locall2_J154
    rw [if_neg (by rw [zi_le (by omega) (by omega)]; omega), k_rA kb1 (by decide) (zi_inn he (by omega)), zi_clamp (by omega), kb2 e he, b_no g3 (by omega) hi, b_c g3 (by omega) he, b_isFar g3 (by omega) he (by omega)]
    by_cases k1 : 1 < zdi e i ∧ zdi (e / 2) (i / 2) ≤ 1
    · rw [sp_bt k1, if_neg (by decide), l_c g3]
      refine k_bodiesIn g3 h24 (by omega) he ?_
      obtain ⟨m, hm1, hm2⟩ := zc_bodiesIn a (Int32.ofNat (2 + c)) (Int32.ofNat e) n h24
      by_cases k2 : sp_bodiesIn a n (Int32.ofNat (2 + c)) (Int32.ofNat e) = 0
      · rw [if_neg (fun k => k k2)]
        have hnf : ¬ zfarQ a n i (2 + c) e := fun k => by
          have := k.2.2
          rw [k2] at this
          exact absurd this (by decide)
        have es : sp_rowF a n o (2 + c) i s (e + 1) = sp_rowF a n o (2 + c) i s e := if_neg hnf
        simp only [olet_iff, zi_succ]
        exact hR _ _ ⟨rfl, hfr3, r, hq3, by rw [es]; exact hrow⟩
      · rw [if_pos k2]
        have hm0 : m ≠ 0 := fun k => k2 (by rw [hm2, k]; rfl)
        have hyf : zfarQ a n i (2 + c) e := ⟨k1.1, k1.2, by rw [hm2]; exact (zi_lt (a := 0) (by decide) (by omega)).mpr (by omega)⟩
        have es : sp_rowF a n o (2 + c) i s (e + 1) = sp_takes a n o (2 + c) i e (sp_rowF a n o (2 + c) i s e) := if_pos hyf
        rw [es] at hR
        have hbb : ∀ j, j ≤ o → zBd (sp_rowF a n o (2 + c) i s e j) (1158 + 189 * c) := fun j hj => (zb_rowF (a := a) (n := n) (S := 1150 + 189 * c) h4 (show 2 + c ≤ 8 by omega) hi (by omega) (by omega) hbs hj (c := e) (by omega)).mono (by unfold zcnt; omega)
        generalize sp_rowF a n o (2 + c) i s e = t at hrow hR hbb
        have hne := zfar_bb (show 2 + c ≤ 8 by omega) hi he k1.1
        rw [b_ct g3 (by omega) hi, b_ct g3 (by omega) he]
        simp only [olet_iff]
        have e0 : sp_centre (Int32.ofNat (2 + c)) (Int32.ofNat i) - sp_centre (Int32.ofNat (2 + c)) (Int32.ofNat e) = sp_bb (2 + c) i e := rfl
        rw [e0]
        unfold sp_takes at hR
        generalize sp_bb (2 + c) i e = y at hne hR
        refine zl2_inv (B := f_X4_locall2_B81 K Q X _ (some (z.1 0)) (some (z.2.1 (2 + c) i)) (some q) (some (z.1 (6 + (2 + c)))) (Int32.ofNat (2 ^ (2 + c))) (Int32.ofNat e) (some (z.2.1 (2 + c) e)) y) (fun j x hh => x = Int32.ofNat j ∧ zFr zNo h hh ∧ ∃ r, hh q = some (zDs (o + 1) r) ∧ (∀ p, p < j → r p = sp_loc1 y p (t p) (sp_part a n (2 + c) e y p (o + 1))) ∧ ∀ p, j ≤ p → p ≤ o → r p = t p) (n := o + 1) (fun R2 j hj x hh hp2 hR2 => ?_) (fun R2 x hh hp2 => ?_) (o + 1) zfu 0 (by omega) (Nat.lt_of_le_of_lt (show o + 1 ≤ 5 by omega) (by decide)) _ _ ⟨rfl, hfr3, r, hq3, fun p hp => absurd hp (Nat.not_lt_zero p), fun p _ hp => hrow p hp⟩
        · obtain ⟨rfl, hfr4, r', hq4, j1, j2⟩ := hp2
          have g4 := g.ext hfr4
          unfold f_X4_locall2_B81
          rw [l_ord g4, ho, if_neg (by rw [zi_lt (by omega) (by omega)]; omega), l_c g4]
          refine k_part g4 hr (by omega) he hne (by omega) ?_
          have hz := zb_loc1 (y := y) (j := j) (hbb j (by omega)) ((zb_part (a := a) (n := n) (l := 2 + c) (q := e) hne (show j ≤ 4 by omega) (c := o + 1) (by omega)).mono (show 1140 + 2 * (o + 1) ≤ 1158 + 189 * c by omega)) (by omega)
          have hfin : ∀ x, x = sp_loc1 y j (t j) (sp_part a n (2 + c) e y j (o + 1)) → R2 (Int32.ofNat (j + 1)) (zw_up hh q (zDs (o + 1) (vf_upd r' j x))) := fun x hx => hR2 _ _ ⟨rfl, hfr4.own hqh _, _, k_u1 _ _ _, fun p hp => by
            show (if p = j then x else r' p) = _
            by_cases k : p = j
            · rw [if_pos k, hx, k]
            · rw [if_neg k]
              exact j1 p (by omega), fun p h1 h2 => (if_neg (show p ≠ j by omega)).trans (j2 p (by omega) h2)⟩
          have hrd : ∀ F : UInt64 → Prop, oa_D hh (some q) [4] (Int32.ofNat j) F = F (t j) := fun F => by rw [k_rD hq4 (by decide) (zi_inn (by omega) (by omega)), zi_clamp (by omega), j2 j (Nat.le_refl j) (by omega)]
          have hwr : ∀ (x : UInt64) (F : zw_H → Prop), os_D hh (some q) [4] (Int32.ofNat j) x F = F (zw_up hh q (zDs (o + 1) (vf_upd r' j x))) := fun x F => by rw [k_sD hq4 (by decide) (zi_inn (by omega) (by omega)), zi_clamp (by omega)]
          unfold f_X4_locall2_J112 f_X4_locall2_J124 f_X4_locall2_J148
          simp only [olet_iff, zi_succ, hrd, hwr]
          unfold sp_loc1 at hz hfin
          by_cases c1 : (0 : Int32) ≤ y
          · simp only [if_pos c1] at hz hfin ⊢
            refine ⟨by decide, ?_⟩
            by_cases c2 : j % 2 ≠ 0
            · rw [if_pos ((zi_par (by omega)).mpr c2)]
              simp only [if_pos c2] at hz hfin
              rw [if_neg (fun e => e rfl)] at hz hfin ⊢
              exact ⟨hz.n64, hfin _ rfl⟩
            · rw [if_neg (fun e => c2 ((zi_par (by omega)).mp e))]
              simp only [if_neg c2] at hz hfin
              rw [if_pos (by decide)] at hz hfin ⊢
              exact ⟨hz.n64, hfin _ rfl⟩
          · simp only [if_neg c1] at hz hfin ⊢
            refine ⟨by decide, ?_⟩
            by_cases c2 : j % 2 ≠ 0
            · rw [if_pos ((zi_par (by omega)).mpr c2)]
              simp only [if_pos c2] at hz hfin
              rw [if_pos (by decide)] at hz hfin ⊢
              exact ⟨hz.n64, hfin _ rfl⟩
            · rw [if_neg (fun e => c2 ((zi_par (by omega)).mp e))]
              simp only [if_neg c2] at hz hfin
              rw [if_neg (fun e => e rfl)] at hz hfin ⊢
              exact ⟨hz.n64, hfin _ rfl⟩
        · obtain ⟨rfl, hfr4, r', hq4, j1, j2⟩ := hp2
          have g4 := g.ext hfr4
          unfold f_X4_locall2_B81
          rw [l_ord g4, ho, if_pos (by rw [zi_lt (by omega) (by omega)]; omega)]
          simp only [olet_iff, zi_succ]
          exact hR _ _ ⟨rfl, hfr4, r', hq4, fun j hj => j1 j (by omega)⟩
    · rw [sp_bf k1, if_pos rfl]
      have hnf : ¬ zfarQ a n i (2 + c) e := fun k => k1 ⟨k.1, k.2.1⟩
      have es : sp_rowF a n o (2 + c) i s (e + 1) = sp_rowF a n o (2 + c) i s e := if_neg hnf
      simp only [olet_iff, zi_succ]
      exact hR _ _ ⟨rfl, hfr3, r, hq3, by rw [es]; exact hrow⟩
  · obtain ⟨rfl, hfr3, r, hq3, hrow⟩ := hp2
    unfold f_X4_locall2_B29
    rw [if_pos (by rw [zi_le (by omega) (by omega)]; omega)]
    exact hQ hh q hfr3 r ⟨hqh, hq3⟩ hrow
theorem k_inh1 (g : zLn h z a n fm f) (hr : zRow a n l o) {c i : Nat} (hc : c ≤ 2) (hc2 : c ≤ 3) (hi : i < 2 ^ (2 + c)) {Q : Option Nat → zw_H → Prop} (hQ : ∀ h' p, zFr zNo h h' → ∀ r, (h p = none ∧ h' p = some (zDs (o + 1) r)) → (∀ j, j ≤ o → r j = sp_ini a n o c i j) → Q (some p) h') : f_X4_inheritsl1 K (some (z.1 0)) (some (z.2.1 (2 + c) i)) h Q X := by
  have ho := hr.2.2.2.2.2.1
  have h4 := hr.2.2.2.2.2.2.1
  have hp32 := zi_p5 (show 2 + c ≤ 5 by omega)
  unfold f_X4_inheritsl1
  rw [l_ord g, ho, zi_succ]
  refine ⟨zi_nn (by omega), by rw [zi_clamp (by omega)]; omega, fun q hq => ?_⟩
  rw [zi_clamp (by omega)]
  have g1 : zLn (zw_up h q (zDs (o + 1) (fun _ => 0))) z a n fm f := g.ext ((zFr.refl zNo h).own hq _)
  dsimp only
  rw [b_lv g1 (by omega) hi]
  cases c with
  | zero =>
    rw [if_neg (by decide)]
    exact hQ _ q ((zFr.refl zNo h).own hq _) _ ⟨hq, k_u1 _ _ _⟩ (fun j _ => zf_00)
  | succ c =>
    have hi2 : i / 2 < 2 ^ (2 + c) := by
      rw [show 2 + (c + 1) = 2 + c + 1 by omega, Nat.pow_succ] at hi
      omega
    have hA : ∀ q, q ≤ o → zBd (sp_row a n o c (i / 2) q) (1158 + 189 * c) := fun q hq => zb_row (a := a) (n := n) h4 (by omega) hi2 hq
    rw [if_pos (show Int32.ofNat (2 + (c + 1)) ≠ 2 from fun e => by have := (zi_inj (b := 2) (by omega) (by decide)).mp e; omega), b_lv g1 (by omega) hi, b_no g1 (by omega) hi]
    refine ⟨by decide, ?_⟩
    rw [l_c g1, show Int32.ofNat (2 + (c + 1)) - 1 = Int32.ofNat (2 + c) from (Int32.ofNat_sub (2 + (c + 1)) 1 (by omega)).symm, show Int32.ofNat i / 2 = Int32.ofNat (i / 2) from zi_div (b := 2) (by omega) (by omega) (by omega), l_box g1 (by omega) hi2]
    try dsimp only
    rw [l_c g1]
    refine k_loc2 g1 hr (by omega) (by omega) hi2 (fun h2 p hfr2 r hp hrow => ?_)
    have g2 := g1.ext hfr2
    have hq2 : h2 q = some (zDs (o + 1) (fun _ => 0)) := (hfr2 q (by rw [k_u1]; exact Option.some_ne_none _) (fun k => k)).trans (k_u1 _ _ _)
    have hne : p ≠ q := fun e => by
      have := hp.1
      rw [e, k_u1] at this
      cases this
    rw [b_ct g2 (by omega) hi, b_ct g2 (by omega) hi2]
    simp only [olet_iff]
    have e0 : FP.i2d (sp_centre (Int32.ofNat (2 + (c + 1))) (Int32.ofNat i) - sp_centre (Int32.ofNat (2 + c)) (Int32.ofNat (i / 2))) = sp_aby (2 + (c + 1)) i := by
      unfold sp_aby
      rw [show Int32.ofNat (2 + (c + 1)) - 1 = Int32.ofNat (2 + c) from (Int32.ofNat_sub (2 + (c + 1)) 1 (by omega)).symm, show Int32.ofNat i / 2 = Int32.ofNat (i / 2) from zi_div (b := 2) (by omega) (by omega) (by omega)]
    have hy : zBd (sp_aby (2 + (c + 1)) i) 1107 := zBd_i2d _
    rw [e0]
    have hQ3 : ∀ h', zFr zNo h h' → ∀ r', h' q = some (zDs (o + 1) r') → (∀ j, j ≤ o → r' j = sp_ab (sp_aby (2 + (c + 1)) i) (sp_row a n o c (i / 2)) j (o + 1 - j)) → Q (some q) h' := fun h' k1 r' k2 k3 => hQ h' q k1 r' ⟨hq, k2⟩ k3
    generalize sp_aby (2 + (c + 1)) i = y at hy hQ3
    generalize sp_row a n o c (i / 2) = A at hA hrow hQ3
    have hfr3 : zFr zNo h h2 := ((zFr.refl zNo h).own hq (zDs (o + 1) (fun _ => 0))).trans hfr2
    refine zl2_inv (B := f_X4_inheritsl1_B58 K Q X _ (some (z.1 0)) (some q) (some p) y) (fun j x hh => x = Int32.ofNat j ∧ zFr zNo h hh ∧ hh p = some (zDs (o + 1) r) ∧ zLn hh z a n fm f ∧ ∃ r', hh q = some (zDs (o + 1) r') ∧ (∀ m, m < j → r' m = sp_ab y A m (o + 1 - m)) ∧ ∀ m, j ≤ m → r' m = FP.dconst0) (n := o + 1) (fun R j hj x hh hp2 hR => ?_) (fun R x hh hp2 => ?_) (o + 1) zfu 0 (by omega) (Nat.lt_of_le_of_lt (show o + 1 ≤ 5 by omega) (by decide)) _ _ ⟨rfl, hfr3, hp.2, g2, _, hq2, fun m hm => absurd hm (Nat.not_lt_zero m), fun m _ => zf_00⟩
    · obtain ⟨rfl, hfr4, hp4, g4, r', hq4, k1, k2⟩ := hp2
      unfold f_X4_inheritsl1_B58
      rw [l_ord g4, ho, if_neg (by rw [zi_lt (by omega) (by omega)]; omega)]
      refine zl2_inv (B := f_X4_inheritsl1_B71 K Q X _ (some (z.1 0)) (some q) (some p) y (Int32.ofNat j)) (fun e x hh => x = Int32.ofNat (j + e) ∧ zFr zNo h hh ∧ hh p = some (zDs (o + 1) r) ∧ zLn hh z a n fm f ∧ ∃ r', hh q = some (zDs (o + 1) r') ∧ (∀ m, m < j → r' m = sp_ab y A m (o + 1 - m)) ∧ (∀ m, j < m → r' m = FP.dconst0) ∧ r' j = sp_ab y A j e) (n := o + 1 - j) (fun R2 e he x hh hp2 hR2 => ?_) (fun R2 x hh hp2 => ?_) (o + 1 - j) zfu 0 (by omega) (Nat.lt_of_le_of_lt (show o + 1 - j ≤ 5 by omega) (by decide)) _ _ ⟨rfl, hfr4, hp4, g4, r', hq4, k1, fun m hm => k2 m (by omega), k2 j (Nat.le_refl j)⟩
      · obtain ⟨rfl, hfr5, hp5, g5, r', hq5, k1, k2, k3⟩ := hp2
        have hb := zb_ab1 (j := j) (c := e) hy (by omega) (show 1074 ≤ 1158 + 189 * c by omega) (by omega) (hA (j + e) (by omega))
        unfold f_X4_inheritsl1_B71
        rw [l_ord g5, ho, if_neg (by rw [zi_lt (by omega) (by omega)]; omega), k_rD hq5 (by decide) (zi_inn (by omega) (by omega)), zi_clamp (by omega), k3]
        refine c1_choose (by omega) ?_
        rw [k_rD hp5 (by decide) (zi_inn (by omega) (by omega)), zi_clamp (by omega), hrow (j + e) (by omega), sp_chl_eq (by omega) (by omega), zf_li]
        simp only [olet_iff, zi_succ]
        refine ⟨hb.1.n64, ?_⟩
        rw [← Int32.ofNat_sub _ _ (show j ≤ j + e by omega), Nat.add_sub_cancel_left]
        refine c1_power (fun b hb => (zb_t1 hy (k := b + 1) (by omega)).n64) (by omega) ?_
        refine ⟨hb.2.n64, (zb_ab (j := j) hy h4 (show 1074 ≤ 1158 + 189 * c by omega) (by omega) hA (c := e + 1) (by omega)).n64, ?_⟩
        rw [k_sD hq5 (by decide) (zi_inn (by omega) (by omega)), zi_clamp (by omega)]
        refine hR2 _ _ ⟨rfl, hfr5.own hq _, (k_u2 hne).trans hp5, g.ext (hfr5.own hq _), _, k_u1 _ _ _, fun m hm => ?_, fun m hm => ?_, ?_⟩
        · exact (if_neg (show m ≠ j by omega)).trans (k1 m hm)
        · exact (if_neg (show m ≠ j by omega)).trans (k2 m hm)
        · exact if_pos rfl
      · obtain ⟨rfl, hfr5, hp5, g5, r', hq5, k1, k2, k3⟩ := hp2
        unfold f_X4_inheritsl1_B71
        rw [l_ord g5, ho, if_pos (by rw [zi_lt (by omega) (by omega)]; omega)]
        simp only [olet_iff, zi_succ]
        refine hR _ _ ⟨rfl, hfr5, hp5, g5, r', hq5, fun m hm => ?_, fun m hm => k2 m (by omega)⟩
        rcases Nat.lt_or_ge m j with k | k
        · exact k1 m k
        · have e : m = j := by omega
          subst e
          exact k3
    · obtain ⟨rfl, hfr4, hp4, g4, r', hq4, k1, k2⟩ := hp2
      unfold f_X4_inheritsl1_B58
      rw [l_ord g4, ho, if_pos (by rw [zi_lt (by omega) (by omega)]; omega)]
      exact hQ3 hh hfr4 r' hq4 (fun j hj => k1 j (by omega))
theorem k_loc1 (g : zLn h z a n fm f) (hr : zRow a n l o) {c i : Nat} (hc : c ≤ 2) (hc2 : c ≤ 3) (hi : i < 2 ^ (2 + c)) {Q : Option Nat → zw_H → Prop} (hQ : ∀ h' p, zFr zNo h h' → ∀ r, (h p = none ∧ h' p = some (zDs (o + 1) r)) → (∀ j, j ≤ o → r j = sp_row a n o c i j) → Q (some p) h') : f_X4_locall1 K (some (z.1 0)) (some (z.2.1 (2 + c) i)) h Q X := by
  have h24 := hr.2.1
  have ho := hr.2.2.2.2.2.1
  have h4 := hr.2.2.2.2.2.2.1
  have hp32 := zi_p5 (show 2 + c ≤ 5 by omega)
  unfold f_X4_locall1
  rw [l_c g]
  refine k_inh1 g hr hc hc2 hi (fun h1 p0 hfr1 r0 hp0 hrow0 => ?_)
  rw [sp_row_eq] at hQ
  have hbs : ∀ j, j ≤ o → zBd (sp_ini a n o c i j) (1150 + 189 * c) := fun j hj => zb_ini h4 hc2 hi hj
  generalize sp_ini a n o c i = s at hrow0 hQ hbs
  have g1 := g.ext hfr1
  unfold ocl_D
  simp only [hp0.2]
  refine ⟨by decide, by omega, fun q hq => ?_⟩
  have hqh : h q = none := by
    by_cases e : h q = none
    · exact e
    · exact absurd ((hfr1 q e (fun k => k)).symm.trans hq) e
  have hfr2 : zFr zNo h (zw_up h1 q (zDs (o + 1) r0)) := hfr1.own hqh _
  have g2 : zLn (zw_up h1 q (zDs (o + 1) r0)) z a n fm f := g.ext hfr2
  have hq2 : zw_up h1 q (zDs (o + 1) r0) q = some (zDs (o + 1) r0) := k_u1 _ _ _
  show ocA_ (zw_up h1 q (zDs (o + 1) r0)) _ _ _
  generalize zw_up h1 q (zDs (o + 1) r0) = h2 at hfr2 g2 hq2
  obtain ⟨⟨fr, g6, g7⟩, g8, g9⟩ := g2.2.2.2.1
  obtain ⟨fb, kb1, kb2⟩ := g8 (2 + c) (by omega)
  unfold ocA_
  simp only [hq2]
  refine ⟨trivial, ?_⟩
  rw [k_gA g2.1 (by decide) rfl, b_lv g2 (by omega) hi, k_rA g6 (by decide) (zi_inn (by omega) (by decide)), zi_clamp (by omega), g7 (2 + c) (by omega), k_l kb1 (by decide)]
  refine zl2_inv (B := f_X4_locall1_B29 K Q X _ (some (z.1 0)) (some (z.2.1 (2 + c) i)) (some q) (some (z.1 (6 + (2 + c)))) (Int32.ofNat (2 ^ (2 + c)))) (fun e x hh => x = Int32.ofNat e ∧ zFr zNo h hh ∧ ∃ r, hh q = some (zDs (o + 1) r) ∧ ∀ j, j ≤ o → r j = sp_rowF a n o (2 + c) i s e j) (n := 2 ^ (2 + c)) (fun R e he x hh hp2 hR => ?_) (fun R x hh hp2 => ?_) (2 ^ (2 + c)) zfu 0 (by omega) (Nat.lt_of_le_of_lt hp32 (by decide)) _ _ ⟨rfl, hfr2, r0, hq2, hrow0⟩
  · obtain ⟨rfl, hfr3, r, hq3, hrow⟩ := hp2
    have g3 := g.ext hfr3
    obtain ⟨⟨fr, g6, g7⟩, g8, g9⟩ := g3.2.2.2.1
    obtain ⟨fb, kb1, kb2⟩ := g8 (2 + c) (by omega)
    unfold f_X4_locall1_B29 f_X4_locall1_J154
    rw [if_neg (by rw [zi_le (by omega) (by omega)]; omega), k_rA kb1 (by decide) (zi_inn he (by omega)), zi_clamp (by omega), kb2 e he, b_no g3 (by omega) hi, b_c g3 (by omega) he, b_isFar g3 (by omega) he (by omega)]
    by_cases k1 : 1 < zdi e i ∧ zdi (e / 2) (i / 2) ≤ 1
    · rw [sp_bt k1, if_neg (by decide), l_c g3]
      refine k_bodiesIn g3 h24 (by omega) he ?_
      obtain ⟨m, hm1, hm2⟩ := zc_bodiesIn a (Int32.ofNat (2 + c)) (Int32.ofNat e) n h24
      by_cases k2 : sp_bodiesIn a n (Int32.ofNat (2 + c)) (Int32.ofNat e) = 0
      · rw [if_neg (fun k => k k2)]
        have hnf : ¬ zfarQ a n i (2 + c) e := fun k => by
          have := k.2.2
          rw [k2] at this
          exact absurd this (by decide)
        have es : sp_rowF a n o (2 + c) i s (e + 1) = sp_rowF a n o (2 + c) i s e := if_neg hnf
        simp only [olet_iff, zi_succ]
        exact hR _ _ ⟨rfl, hfr3, r, hq3, by rw [es]; exact hrow⟩
      · rw [if_pos k2]
        have hm0 : m ≠ 0 := fun k => k2 (by rw [hm2, k]; rfl)
        have hyf : zfarQ a n i (2 + c) e := ⟨k1.1, k1.2, by rw [hm2]; exact (zi_lt (a := 0) (by decide) (by omega)).mpr (by omega)⟩
        have es : sp_rowF a n o (2 + c) i s (e + 1) = sp_takes a n o (2 + c) i e (sp_rowF a n o (2 + c) i s e) := if_pos hyf
        rw [es] at hR
        have hbb : ∀ j, j ≤ o → zBd (sp_rowF a n o (2 + c) i s e j) (1158 + 189 * c) := fun j hj => (zb_rowF (a := a) (n := n) (S := 1150 + 189 * c) h4 (show 2 + c ≤ 8 by omega) hi (by omega) (by omega) hbs hj (c := e) (by omega)).mono (by unfold zcnt; omega)
        generalize sp_rowF a n o (2 + c) i s e = t at hrow hR hbb
        have hne := zfar_bb (show 2 + c ≤ 8 by omega) hi he k1.1
        rw [b_ct g3 (by omega) hi, b_ct g3 (by omega) he]
        simp only [olet_iff]
        have e0 : sp_centre (Int32.ofNat (2 + c)) (Int32.ofNat i) - sp_centre (Int32.ofNat (2 + c)) (Int32.ofNat e) = sp_bb (2 + c) i e := rfl
        rw [e0]
        unfold sp_takes at hR
        generalize sp_bb (2 + c) i e = y at hne hR
        refine zl2_inv (B := f_X4_locall1_B81 K Q X _ (some (z.1 0)) (some (z.2.1 (2 + c) i)) (some q) (some (z.1 (6 + (2 + c)))) (Int32.ofNat (2 ^ (2 + c))) (Int32.ofNat e) (some (z.2.1 (2 + c) e)) y) (fun j x hh => x = Int32.ofNat j ∧ zFr zNo h hh ∧ ∃ r, hh q = some (zDs (o + 1) r) ∧ (∀ p, p < j → r p = sp_loc1 y p (t p) (sp_part a n (2 + c) e y p (o + 1))) ∧ ∀ p, j ≤ p → p ≤ o → r p = t p) (n := o + 1) (fun R2 j hj x hh hp2 hR2 => ?_) (fun R2 x hh hp2 => ?_) (o + 1) zfu 0 (by omega) (Nat.lt_of_le_of_lt (show o + 1 ≤ 5 by omega) (by decide)) _ _ ⟨rfl, hfr3, r, hq3, fun p hp => absurd hp (Nat.not_lt_zero p), fun p _ hp => hrow p hp⟩
        · obtain ⟨rfl, hfr4, r', hq4, j1, j2⟩ := hp2
          have g4 := g.ext hfr4
          unfold f_X4_locall1_B81
          rw [l_ord g4, ho, if_neg (by rw [zi_lt (by omega) (by omega)]; omega), l_c g4]
          refine k_part g4 hr (by omega) he hne (by omega) ?_
          have hz := zb_loc1 (y := y) (j := j) (hbb j (by omega)) ((zb_part (a := a) (n := n) (l := 2 + c) (q := e) hne (show j ≤ 4 by omega) (c := o + 1) (by omega)).mono (show 1140 + 2 * (o + 1) ≤ 1158 + 189 * c by omega)) (by omega)
          have hfin : ∀ x, x = sp_loc1 y j (t j) (sp_part a n (2 + c) e y j (o + 1)) → R2 (Int32.ofNat (j + 1)) (zw_up hh q (zDs (o + 1) (vf_upd r' j x))) := fun x hx => hR2 _ _ ⟨rfl, hfr4.own hqh _, _, k_u1 _ _ _, fun p hp => by
            show (if p = j then x else r' p) = _
            by_cases k : p = j
            · rw [if_pos k, hx, k]
            · rw [if_neg k]
              exact j1 p (by omega), fun p h1 h2 => (if_neg (show p ≠ j by omega)).trans (j2 p (by omega) h2)⟩
          have hrd : ∀ F : UInt64 → Prop, oa_D hh (some q) [4] (Int32.ofNat j) F = F (t j) := fun F => by rw [k_rD hq4 (by decide) (zi_inn (by omega) (by omega)), zi_clamp (by omega), j2 j (Nat.le_refl j) (by omega)]
          have hwr : ∀ (x : UInt64) (F : zw_H → Prop), os_D hh (some q) [4] (Int32.ofNat j) x F = F (zw_up hh q (zDs (o + 1) (vf_upd r' j x))) := fun x F => by rw [k_sD hq4 (by decide) (zi_inn (by omega) (by omega)), zi_clamp (by omega)]
          unfold f_X4_locall1_J112 f_X4_locall1_J124 f_X4_locall1_J148
          simp only [olet_iff, zi_succ, hrd, hwr]
          unfold sp_loc1 at hz hfin
          by_cases c1 : (0 : Int32) ≤ y
          · simp only [if_pos c1] at hz hfin ⊢
            refine ⟨by decide, ?_⟩
            by_cases c2 : j % 2 ≠ 0
            · rw [if_pos ((zi_par (by omega)).mpr c2)]
              simp only [if_pos c2] at hz hfin
              rw [if_neg (fun e => e rfl)] at hz hfin ⊢
              exact ⟨hz.n64, hfin _ rfl⟩
            · rw [if_neg (fun e => c2 ((zi_par (by omega)).mp e))]
              simp only [if_neg c2] at hz hfin
              rw [if_pos (by decide)] at hz hfin ⊢
              exact ⟨hz.n64, hfin _ rfl⟩
          · simp only [if_neg c1] at hz hfin ⊢
            refine ⟨by decide, ?_⟩
            by_cases c2 : j % 2 ≠ 0
            · rw [if_pos ((zi_par (by omega)).mpr c2)]
              simp only [if_pos c2] at hz hfin
              rw [if_pos (by decide)] at hz hfin ⊢
              exact ⟨hz.n64, hfin _ rfl⟩
            · rw [if_neg (fun e => c2 ((zi_par (by omega)).mp e))]
              simp only [if_neg c2] at hz hfin
              rw [if_neg (fun e => e rfl)] at hz hfin ⊢
              exact ⟨hz.n64, hfin _ rfl⟩
        · obtain ⟨rfl, hfr4, r', hq4, j1, j2⟩ := hp2
          have g4 := g.ext hfr4
          unfold f_X4_locall1_B81
          rw [l_ord g4, ho, if_pos (by rw [zi_lt (by omega) (by omega)]; omega)]
          simp only [olet_iff, zi_succ]
          exact hR _ _ ⟨rfl, hfr4, r', hq4, fun j hj => j1 j (by omega)⟩
    · rw [sp_bf k1, if_pos rfl]
      have hnf : ¬ zfarQ a n i (2 + c) e := fun k => k1 ⟨k.1, k.2.1⟩
      have es : sp_rowF a n o (2 + c) i s (e + 1) = sp_rowF a n o (2 + c) i s e := if_neg hnf
      simp only [olet_iff, zi_succ]
      exact hR _ _ ⟨rfl, hfr3, r, hq3, by rw [es]; exact hrow⟩
  · obtain ⟨rfl, hfr3, r, hq3, hrow⟩ := hp2
    unfold f_X4_locall1_B29
    rw [if_pos (by rw [zi_le (by omega) (by omega)]; omega)]
    exact hQ hh q hfr3 r ⟨hqh, hq3⟩ hrow
theorem k_inh0 (g : zLn h z a n fm f) (hr : zRow a n l o) {c i : Nat} (hc : c ≤ 3) (hc2 : c ≤ 3) (hi : i < 2 ^ (2 + c)) {Q : Option Nat → zw_H → Prop} (hQ : ∀ h' p, zFr zNo h h' → ∀ r, (h p = none ∧ h' p = some (zDs (o + 1) r)) → (∀ j, j ≤ o → r j = sp_ini a n o c i j) → Q (some p) h') : f_X4_inheritsl0 K (some (z.1 0)) (some (z.2.1 (2 + c) i)) h Q X := by
  have ho := hr.2.2.2.2.2.1
  have h4 := hr.2.2.2.2.2.2.1
  have hp32 := zi_p5 (show 2 + c ≤ 5 by omega)
  unfold f_X4_inheritsl0
  rw [l_ord g, ho, zi_succ]
  refine ⟨zi_nn (by omega), by rw [zi_clamp (by omega)]; omega, fun q hq => ?_⟩
  rw [zi_clamp (by omega)]
  have g1 : zLn (zw_up h q (zDs (o + 1) (fun _ => 0))) z a n fm f := g.ext ((zFr.refl zNo h).own hq _)
  dsimp only
  rw [b_lv g1 (by omega) hi]
  cases c with
  | zero =>
    rw [if_neg (by decide)]
    exact hQ _ q ((zFr.refl zNo h).own hq _) _ ⟨hq, k_u1 _ _ _⟩ (fun j _ => zf_00)
  | succ c =>
    have hi2 : i / 2 < 2 ^ (2 + c) := by
      rw [show 2 + (c + 1) = 2 + c + 1 by omega, Nat.pow_succ] at hi
      omega
    have hA : ∀ q, q ≤ o → zBd (sp_row a n o c (i / 2) q) (1158 + 189 * c) := fun q hq => zb_row (a := a) (n := n) h4 (by omega) hi2 hq
    rw [if_pos (show Int32.ofNat (2 + (c + 1)) ≠ 2 from fun e => by have := (zi_inj (b := 2) (by omega) (by decide)).mp e; omega), b_lv g1 (by omega) hi, b_no g1 (by omega) hi]
    refine ⟨by decide, ?_⟩
    rw [l_c g1, show Int32.ofNat (2 + (c + 1)) - 1 = Int32.ofNat (2 + c) from (Int32.ofNat_sub (2 + (c + 1)) 1 (by omega)).symm, show Int32.ofNat i / 2 = Int32.ofNat (i / 2) from zi_div (b := 2) (by omega) (by omega) (by omega), l_box g1 (by omega) hi2]
    try dsimp only
    rw [l_c g1]
    refine k_loc1 g1 hr (by omega) (by omega) hi2 (fun h2 p hfr2 r hp hrow => ?_)
    have g2 := g1.ext hfr2
    have hq2 : h2 q = some (zDs (o + 1) (fun _ => 0)) := (hfr2 q (by rw [k_u1]; exact Option.some_ne_none _) (fun k => k)).trans (k_u1 _ _ _)
    have hne : p ≠ q := fun e => by
      have := hp.1
      rw [e, k_u1] at this
      cases this
    rw [b_ct g2 (by omega) hi, b_ct g2 (by omega) hi2]
    simp only [olet_iff]
    have e0 : FP.i2d (sp_centre (Int32.ofNat (2 + (c + 1))) (Int32.ofNat i) - sp_centre (Int32.ofNat (2 + c)) (Int32.ofNat (i / 2))) = sp_aby (2 + (c + 1)) i := by
      unfold sp_aby
      rw [show Int32.ofNat (2 + (c + 1)) - 1 = Int32.ofNat (2 + c) from (Int32.ofNat_sub (2 + (c + 1)) 1 (by omega)).symm, show Int32.ofNat i / 2 = Int32.ofNat (i / 2) from zi_div (b := 2) (by omega) (by omega) (by omega)]
    have hy : zBd (sp_aby (2 + (c + 1)) i) 1107 := zBd_i2d _
    rw [e0]
    have hQ3 : ∀ h', zFr zNo h h' → ∀ r', h' q = some (zDs (o + 1) r') → (∀ j, j ≤ o → r' j = sp_ab (sp_aby (2 + (c + 1)) i) (sp_row a n o c (i / 2)) j (o + 1 - j)) → Q (some q) h' := fun h' k1 r' k2 k3 => hQ h' q k1 r' ⟨hq, k2⟩ k3
    generalize sp_aby (2 + (c + 1)) i = y at hy hQ3
    generalize sp_row a n o c (i / 2) = A at hA hrow hQ3
    have hfr3 : zFr zNo h h2 := ((zFr.refl zNo h).own hq (zDs (o + 1) (fun _ => 0))).trans hfr2
    refine zl2_inv (B := f_X4_inheritsl0_B58 K Q X _ (some (z.1 0)) (some q) (some p) y) (fun j x hh => x = Int32.ofNat j ∧ zFr zNo h hh ∧ hh p = some (zDs (o + 1) r) ∧ zLn hh z a n fm f ∧ ∃ r', hh q = some (zDs (o + 1) r') ∧ (∀ m, m < j → r' m = sp_ab y A m (o + 1 - m)) ∧ ∀ m, j ≤ m → r' m = FP.dconst0) (n := o + 1) (fun R j hj x hh hp2 hR => ?_) (fun R x hh hp2 => ?_) (o + 1) zfu 0 (by omega) (Nat.lt_of_le_of_lt (show o + 1 ≤ 5 by omega) (by decide)) _ _ ⟨rfl, hfr3, hp.2, g2, _, hq2, fun m hm => absurd hm (Nat.not_lt_zero m), fun m _ => zf_00⟩
    · obtain ⟨rfl, hfr4, hp4, g4, r', hq4, k1, k2⟩ := hp2
      unfold f_X4_inheritsl0_B58
      rw [l_ord g4, ho, if_neg (by rw [zi_lt (by omega) (by omega)]; omega)]
      refine zl2_inv (B := f_X4_inheritsl0_B71 K Q X _ (some (z.1 0)) (some q) (some p) y (Int32.ofNat j)) (fun e x hh => x = Int32.ofNat (j + e) ∧ zFr zNo h hh ∧ hh p = some (zDs (o + 1) r) ∧ zLn hh z a n fm f ∧ ∃ r', hh q = some (zDs (o + 1) r') ∧ (∀ m, m < j → r' m = sp_ab y A m (o + 1 - m)) ∧ (∀ m, j < m → r' m = FP.dconst0) ∧ r' j = sp_ab y A j e) (n := o + 1 - j) (fun R2 e he x hh hp2 hR2 => ?_) (fun R2 x hh hp2 => ?_) (o + 1 - j) zfu 0 (by omega) (Nat.lt_of_le_of_lt (show o + 1 - j ≤ 5 by omega) (by decide)) _ _ ⟨rfl, hfr4, hp4, g4, r', hq4, k1, fun m hm => k2 m (by omega), k2 j (Nat.le_refl j)⟩
      · obtain ⟨rfl, hfr5, hp5, g5, r', hq5, k1, k2, k3⟩ := hp2
        have hb := zb_ab1 (j := j) (c := e) hy (by omega) (show 1074 ≤ 1158 + 189 * c by omega) (by omega) (hA (j + e) (by omega))
        unfold f_X4_inheritsl0_B71
        rw [l_ord g5, ho, if_neg (by rw [zi_lt (by omega) (by omega)]; omega), k_rD hq5 (by decide) (zi_inn (by omega) (by omega)), zi_clamp (by omega), k3]
        refine c1_choose (by omega) ?_
        rw [k_rD hp5 (by decide) (zi_inn (by omega) (by omega)), zi_clamp (by omega), hrow (j + e) (by omega), sp_chl_eq (by omega) (by omega), zf_li]
        simp only [olet_iff, zi_succ]
        refine ⟨hb.1.n64, ?_⟩
        rw [← Int32.ofNat_sub _ _ (show j ≤ j + e by omega), Nat.add_sub_cancel_left]
        refine c1_power (fun b hb => (zb_t1 hy (k := b + 1) (by omega)).n64) (by omega) ?_
        refine ⟨hb.2.n64, (zb_ab (j := j) hy h4 (show 1074 ≤ 1158 + 189 * c by omega) (by omega) hA (c := e + 1) (by omega)).n64, ?_⟩
        rw [k_sD hq5 (by decide) (zi_inn (by omega) (by omega)), zi_clamp (by omega)]
        refine hR2 _ _ ⟨rfl, hfr5.own hq _, (k_u2 hne).trans hp5, g.ext (hfr5.own hq _), _, k_u1 _ _ _, fun m hm => ?_, fun m hm => ?_, ?_⟩
        · exact (if_neg (show m ≠ j by omega)).trans (k1 m hm)
        · exact (if_neg (show m ≠ j by omega)).trans (k2 m hm)
        · exact if_pos rfl
      · obtain ⟨rfl, hfr5, hp5, g5, r', hq5, k1, k2, k3⟩ := hp2
        unfold f_X4_inheritsl0_B71
        rw [l_ord g5, ho, if_pos (by rw [zi_lt (by omega) (by omega)]; omega)]
        simp only [olet_iff, zi_succ]
        refine hR _ _ ⟨rfl, hfr5, hp5, g5, r', hq5, fun m hm => ?_, fun m hm => k2 m (by omega)⟩
        rcases Nat.lt_or_ge m j with k | k
        · exact k1 m k
        · have e : m = j := by omega
          subst e
          exact k3
    · obtain ⟨rfl, hfr4, hp4, g4, r', hq4, k1, k2⟩ := hp2
      unfold f_X4_inheritsl0_B58
      rw [l_ord g4, ho, if_pos (by rw [zi_lt (by omega) (by omega)]; omega)]
      exact hQ3 hh hfr4 r' hq4 (fun j hj => k1 j (by omega))
theorem k_loc0 (g : zLn h z a n fm f) (hr : zRow a n l o) {c i : Nat} (hc : c ≤ 3) (hc2 : c ≤ 3) (hi : i < 2 ^ (2 + c)) {Q : Option Nat → zw_H → Prop} (hQ : ∀ h' p, zFr zNo h h' → ∀ r, (h p = none ∧ h' p = some (zDs (o + 1) r)) → (∀ j, j ≤ o → r j = sp_row a n o c i j) → Q (some p) h') : f_X4_locall0 K (some (z.1 0)) (some (z.2.1 (2 + c) i)) h Q X := by
  have h24 := hr.2.1
  have ho := hr.2.2.2.2.2.1
  have h4 := hr.2.2.2.2.2.2.1
  have hp32 := zi_p5 (show 2 + c ≤ 5 by omega)
  unfold f_X4_locall0
  rw [l_c g]
  refine k_inh0 g hr hc hc2 hi (fun h1 p0 hfr1 r0 hp0 hrow0 => ?_)
  rw [sp_row_eq] at hQ
  have hbs : ∀ j, j ≤ o → zBd (sp_ini a n o c i j) (1150 + 189 * c) := fun j hj => zb_ini h4 hc2 hi hj
  generalize sp_ini a n o c i = s at hrow0 hQ hbs
  have g1 := g.ext hfr1
  unfold ocl_D
  simp only [hp0.2]
  refine ⟨by decide, by omega, fun q hq => ?_⟩
  have hqh : h q = none := by
    by_cases e : h q = none
    · exact e
    · exact absurd ((hfr1 q e (fun k => k)).symm.trans hq) e
  have hfr2 : zFr zNo h (zw_up h1 q (zDs (o + 1) r0)) := hfr1.own hqh _
  have g2 : zLn (zw_up h1 q (zDs (o + 1) r0)) z a n fm f := g.ext hfr2
  have hq2 : zw_up h1 q (zDs (o + 1) r0) q = some (zDs (o + 1) r0) := k_u1 _ _ _
  show ocA_ (zw_up h1 q (zDs (o + 1) r0)) _ _ _
  generalize zw_up h1 q (zDs (o + 1) r0) = h2 at hfr2 g2 hq2
  obtain ⟨⟨fr, g6, g7⟩, g8, g9⟩ := g2.2.2.2.1
  obtain ⟨fb, kb1, kb2⟩ := g8 (2 + c) (by omega)
  unfold ocA_
  simp only [hq2]
  refine ⟨trivial, ?_⟩
  rw [k_gA g2.1 (by decide) rfl, b_lv g2 (by omega) hi, k_rA g6 (by decide) (zi_inn (by omega) (by decide)), zi_clamp (by omega), g7 (2 + c) (by omega), k_l kb1 (by decide)]
  refine zl2_inv (B := f_X4_locall0_B29 K Q X _ (some (z.1 0)) (some (z.2.1 (2 + c) i)) (some q) (some (z.1 (6 + (2 + c)))) (Int32.ofNat (2 ^ (2 + c)))) (fun e x hh => x = Int32.ofNat e ∧ zFr zNo h hh ∧ ∃ r, hh q = some (zDs (o + 1) r) ∧ ∀ j, j ≤ o → r j = sp_rowF a n o (2 + c) i s e j) (n := 2 ^ (2 + c)) (fun R e he x hh hp2 hR => ?_) (fun R x hh hp2 => ?_) (2 ^ (2 + c)) zfu 0 (by omega) (Nat.lt_of_le_of_lt hp32 (by decide)) _ _ ⟨rfl, hfr2, r0, hq2, hrow0⟩
  · obtain ⟨rfl, hfr3, r, hq3, hrow⟩ := hp2
    have g3 := g.ext hfr3
    obtain ⟨⟨fr, g6, g7⟩, g8, g9⟩ := g3.2.2.2.1
    obtain ⟨fb, kb1, kb2⟩ := g8 (2 + c) (by omega)
    unfold f_X4_locall0_B29 f_X4_locall0_J154
    rw [if_neg (by rw [zi_le (by omega) (by omega)]; omega), k_rA kb1 (by decide) (zi_inn he (by omega)), zi_clamp (by omega), kb2 e he, b_no g3 (by omega) hi, b_c g3 (by omega) he, b_isFar g3 (by omega) he (by omega)]
    by_cases k1 : 1 < zdi e i ∧ zdi (e / 2) (i / 2) ≤ 1
    · rw [sp_bt k1, if_neg (by decide), l_c g3]
      refine k_bodiesIn g3 h24 (by omega) he ?_
      obtain ⟨m, hm1, hm2⟩ := zc_bodiesIn a (Int32.ofNat (2 + c)) (Int32.ofNat e) n h24
      by_cases k2 : sp_bodiesIn a n (Int32.ofNat (2 + c)) (Int32.ofNat e) = 0
      · rw [if_neg (fun k => k k2)]
        have hnf : ¬ zfarQ a n i (2 + c) e := fun k => by
          have := k.2.2
          rw [k2] at this
          exact absurd this (by decide)
        have es : sp_rowF a n o (2 + c) i s (e + 1) = sp_rowF a n o (2 + c) i s e := if_neg hnf
        simp only [olet_iff, zi_succ]
        exact hR _ _ ⟨rfl, hfr3, r, hq3, by rw [es]; exact hrow⟩
      · rw [if_pos k2]
        have hm0 : m ≠ 0 := fun k => k2 (by rw [hm2, k]; rfl)
        have hyf : zfarQ a n i (2 + c) e := ⟨k1.1, k1.2, by rw [hm2]; exact (zi_lt (a := 0) (by decide) (by omega)).mpr (by omega)⟩
        have es : sp_rowF a n o (2 + c) i s (e + 1) = sp_takes a n o (2 + c) i e (sp_rowF a n o (2 + c) i s e) := if_pos hyf
        rw [es] at hR
        have hbb : ∀ j, j ≤ o → zBd (sp_rowF a n o (2 + c) i s e j) (1158 + 189 * c) := fun j hj => (zb_rowF (a := a) (n := n) (S := 1150 + 189 * c) h4 (show 2 + c ≤ 8 by omega) hi (by omega) (by omega) hbs hj (c := e) (by omega)).mono (by unfold zcnt; omega)
        generalize sp_rowF a n o (2 + c) i s e = t at hrow hR hbb
        have hne := zfar_bb (show 2 + c ≤ 8 by omega) hi he k1.1
        rw [b_ct g3 (by omega) hi, b_ct g3 (by omega) he]
        simp only [olet_iff]
        have e0 : sp_centre (Int32.ofNat (2 + c)) (Int32.ofNat i) - sp_centre (Int32.ofNat (2 + c)) (Int32.ofNat e) = sp_bb (2 + c) i e := rfl
        rw [e0]
        unfold sp_takes at hR
        generalize sp_bb (2 + c) i e = y at hne hR
        refine zl2_inv (B := f_X4_locall0_B81 K Q X _ (some (z.1 0)) (some (z.2.1 (2 + c) i)) (some q) (some (z.1 (6 + (2 + c)))) (Int32.ofNat (2 ^ (2 + c))) (Int32.ofNat e) (some (z.2.1 (2 + c) e)) y) (fun j x hh => x = Int32.ofNat j ∧ zFr zNo h hh ∧ ∃ r, hh q = some (zDs (o + 1) r) ∧ (∀ p, p < j → r p = sp_loc1 y p (t p) (sp_part a n (2 + c) e y p (o + 1))) ∧ ∀ p, j ≤ p → p ≤ o → r p = t p) (n := o + 1) (fun R2 j hj x hh hp2 hR2 => ?_) (fun R2 x hh hp2 => ?_) (o + 1) zfu 0 (by omega) (Nat.lt_of_le_of_lt (show o + 1 ≤ 5 by omega) (by decide)) _ _ ⟨rfl, hfr3, r, hq3, fun p hp => absurd hp (Nat.not_lt_zero p), fun p _ hp => hrow p hp⟩
        · obtain ⟨rfl, hfr4, r', hq4, j1, j2⟩ := hp2
          have g4 := g.ext hfr4
          unfold f_X4_locall0_B81
          rw [l_ord g4, ho, if_neg (by rw [zi_lt (by omega) (by omega)]; omega), l_c g4]
          refine k_part g4 hr (by omega) he hne (by omega) ?_
          have hz := zb_loc1 (y := y) (j := j) (hbb j (by omega)) ((zb_part (a := a) (n := n) (l := 2 + c) (q := e) hne (show j ≤ 4 by omega) (c := o + 1) (by omega)).mono (show 1140 + 2 * (o + 1) ≤ 1158 + 189 * c by omega)) (by omega)
          have hfin : ∀ x, x = sp_loc1 y j (t j) (sp_part a n (2 + c) e y j (o + 1)) → R2 (Int32.ofNat (j + 1)) (zw_up hh q (zDs (o + 1) (vf_upd r' j x))) := fun x hx => hR2 _ _ ⟨rfl, hfr4.own hqh _, _, k_u1 _ _ _, fun p hp => by
            show (if p = j then x else r' p) = _
            by_cases k : p = j
            · rw [if_pos k, hx, k]
            · rw [if_neg k]
              exact j1 p (by omega), fun p h1 h2 => (if_neg (show p ≠ j by omega)).trans (j2 p (by omega) h2)⟩
          have hrd : ∀ F : UInt64 → Prop, oa_D hh (some q) [4] (Int32.ofNat j) F = F (t j) := fun F => by rw [k_rD hq4 (by decide) (zi_inn (by omega) (by omega)), zi_clamp (by omega), j2 j (Nat.le_refl j) (by omega)]
          have hwr : ∀ (x : UInt64) (F : zw_H → Prop), os_D hh (some q) [4] (Int32.ofNat j) x F = F (zw_up hh q (zDs (o + 1) (vf_upd r' j x))) := fun x F => by rw [k_sD hq4 (by decide) (zi_inn (by omega) (by omega)), zi_clamp (by omega)]
          unfold f_X4_locall0_J112 f_X4_locall0_J124 f_X4_locall0_J148
          simp only [olet_iff, zi_succ, hrd, hwr]
          unfold sp_loc1 at hz hfin
          by_cases c1 : (0 : Int32) ≤ y
          · simp only [if_pos c1] at hz hfin ⊢
            refine ⟨by decide, ?_⟩
            by_cases c2 : j % 2 ≠ 0
            · rw [if_pos ((zi_par (by omega)).mpr c2)]
              simp only [if_pos c2] at hz hfin
              rw [if_neg (fun e => e rfl)] at hz hfin ⊢
              exact ⟨hz.n64, hfin _ rfl⟩
            · rw [if_neg (fun e => c2 ((zi_par (by omega)).mp e))]
              simp only [if_neg c2] at hz hfin
              rw [if_pos (by decide)] at hz hfin ⊢
              exact ⟨hz.n64, hfin _ rfl⟩
          · simp only [if_neg c1] at hz hfin ⊢
            refine ⟨by decide, ?_⟩
            by_cases c2 : j % 2 ≠ 0
            · rw [if_pos ((zi_par (by omega)).mpr c2)]
              simp only [if_pos c2] at hz hfin
              rw [if_pos (by decide)] at hz hfin ⊢
              exact ⟨hz.n64, hfin _ rfl⟩
            · rw [if_neg (fun e => c2 ((zi_par (by omega)).mp e))]
              simp only [if_neg c2] at hz hfin
              rw [if_neg (fun e => e rfl)] at hz hfin ⊢
              exact ⟨hz.n64, hfin _ rfl⟩
        · obtain ⟨rfl, hfr4, r', hq4, j1, j2⟩ := hp2
          have g4 := g.ext hfr4
          unfold f_X4_locall0_B81
          rw [l_ord g4, ho, if_pos (by rw [zi_lt (by omega) (by omega)]; omega)]
          simp only [olet_iff, zi_succ]
          exact hR _ _ ⟨rfl, hfr4, r', hq4, fun j hj => j1 j (by omega)⟩
    · rw [sp_bf k1, if_pos rfl]
      have hnf : ¬ zfarQ a n i (2 + c) e := fun k => k1 ⟨k.1, k.2.1⟩
      have es : sp_rowF a n o (2 + c) i s (e + 1) = sp_rowF a n o (2 + c) i s e := if_neg hnf
      simp only [olet_iff, zi_succ]
      exact hR _ _ ⟨rfl, hfr3, r, hq3, by rw [es]; exact hrow⟩
  · obtain ⟨rfl, hfr3, r, hq3, hrow⟩ := hp2
    unfold f_X4_locall0_B29
    rw [if_pos (by rw [zi_le (by omega) (by omega)]; omega)]
    exact hQ hh q hfr3 r ⟨hqh, hq3⟩ hrow
theorem k_localSum (g : zLn h z a n fm f) (hr : zRow a n l o) {y : Nat} (hy : y < 256) {Q : UInt64 → zw_H → Prop} (hQ : ∀ h', zFr zNo h h' → Q (sp_localSum a n l o y) h') : f_X4_localSum K (some (z.1 0)) (Int32.ofNat y) h Q X := by
  obtain ⟨hn, h24, hl, h2, h5, ho, h4, -⟩ := id hr
  have el : l = 2 + (l - 2) := by omega
  have hbx := zbx_lt (l := l) (y := y) (by omega) hy
  unfold f_X4_localSum
  rw [l_c g, l_leaf g (by omega) hl hy]
  try dsimp only
  rw [l_c g]
  unfold sp_localSum at hQ
  have hb : ∀ j, j ≤ o → zBd (sp_row a n o (l - 2) (zbx l y) j) 1800 := fun j hj => (zb_row (a := a) (n := n) h4 (show l - 2 ≤ 3 by omega) (by rw [← el]; exact hbx) hj).mono (by omega)
  have key : ∀ Q2 : Option Nat → zw_H → Prop, (∀ h' p, zFr zNo h h' → ∀ r, (h p = none ∧ h' p = some (zDs (o + 1) r)) → (∀ j, j ≤ o → r j = sp_row a n o (l - 2) (zbx l y) j) → Q2 (some p) h') → f_X4_locall0 K (some (z.1 0)) (some (z.2.1 l (zbx l y))) h Q2 X := by
    intro Q2 hQ2
    rw [show z.2.1 l (zbx l y) = z.2.1 (2 + (l - 2)) (zbx l y) by rw [← el]]
    exact k_loc0 g hr (by omega) (by omega) (by rw [← el]; exact hbx) hQ2
  refine key _ (fun h' p hfr r hp hrow => ?_)
  have hQ := hQ h' hfr
  have g' := g.ext hfr
  generalize sp_row a n o (l - 2) (zbx l y) = r2 at hQ hb hrow
  have hyy : zBd (FP.i2d (Int32.ofNat y - sp_centre (Int32.ofNat l) (Int32.ofNat (zbx l y)))) 1107 := zBd_i2d _
  rw [b_ct g' (by omega) hbx]
  simp only [olet_iff]
  refine zl3_run (B := f_X4_localSum_B27 K Q X _ (some (z.1 0)) (some p) (FP.i2d (Int32.ofNat y - sp_centre (Int32.ofNat l) (Int32.ofNat (zbx l y))))) (fun j => sp_locS r2 (FP.i2d (Int32.ofNat y - sp_centre (Int32.ofNat l) (Int32.ofNat (zbx l y)))) j) (fun j => Int32.ofNat j) (fun _ => h') (n := o + 1) (fun R j hj hR => ?_) (fun R => ?_) (o + 1) zfu 0 (by omega) (Nat.lt_of_le_of_lt (show o + 1 ≤ 5 by omega) (by decide))
  · unfold f_X4_localSum_B27
    rw [l_ord g', ho, if_neg (by rw [zi_lt (by omega) (by omega)]; omega), k_rD hp.2 (by decide) (zi_inn (by omega) (by omega)), zi_clamp (by omega), hrow j (by omega)]
    refine c1_power (fun b hb => (zb_t1 hyy (k := b + 1) (by omega)).n64) (by omega) ?_
    simp only [olet_iff, zi_succ]
    exact ⟨(zb_loc0 hyy (show j ≤ 4 by omega) (hb j (by omega))).n64, (zb_locS hyy h4 hb (c := j + 1) (by omega)).n64, hR⟩
  · unfold f_X4_localSum_B27
    rw [l_ord g', ho, if_pos (by rw [zi_lt (by omega) (by omega)]; omega)]
    exact hQ
end ZC6
