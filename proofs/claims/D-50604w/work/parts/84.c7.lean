set_option maxRecDepth 100000
/-! a new line -/
theorem zFr.at1 {h h' : zw_H} {a b : Nat} {x y : zw_C} (hf : zFr (fun q => q = b) h h') (hk : h a = some x) (hb : h b = some y) (hne : x ≠ y) : h' a = some x := (hf a (by rw [hk]; exact Option.some_ne_none _) (z_ne hk hb hne)).trans hk
theorem zFr.at0 {h h' : zw_H} {a : Nat} {x : zw_C} (hf : zFr zNo h h') (hk : h a = some x) : h' a = some x := (hf a (by rw [hk]; exact Option.some_ne_none _) (fun k => k)).trans hk
theorem zFr.nn {M : Nat → Prop} {h h' : zw_H} (hf : zFr M h h') {q : Nat} (hq : h' q = none) (hm : ¬ M q) : h q = none := by
  by_cases k : h q = none
  · exact k
  · exact absurd ((hf q k hm).symm.trans hq) k
theorem zFr.of0 {M : Nat → Prop} {h h' : zw_H} (hf : zFr zNo h h') : zFr M h h' := hf.mono (fun _ k => k.elim)
theorem g_new {h : zw_H} {x : zw_C} {F : Nat → zw_H → Prop} (hF : ∀ q h', h q = none → zFr zNo h h' → h' q = some x → F q h') : on_C h x F := fun q hq => hF q _ hq ((zFr.refl _ _).own hq _) (k_u1 _ _ _)
theorem g_put {h : zw_H} {a c k : Nat} {fs : List Value} {cs : List Nat} {v : Value} {F : zw_H → Prop} (h1 : h a = some (.inr (c, fs))) (hc : c ∈ cs) (hk : k < fs.length) (hF : ∀ h', zFr (fun q => q = a) h h' → h' a = some (.inr (c, fs.set k v)) → F h') : op_V h (some a) cs k v F := by
  rw [k_p h1 hc hk]
  exact hF _ ((zFr.refl (fun q => q = a) h).up rfl _) (k_u1 _ _ _)
theorem g_setA {h : zw_H} {a t0 n : Nat} {f : zAr} {cs us : List Nat} {i : Int32} {v : Option Nat} {F : zw_H → Prop} (h1 : h a = some (.inl (t0, n, .inr (.inr (.inr (.inr f)))))) (hi : vp_in i n) (hv : os_ok h v cs us) (hF : ∀ h', zFr (fun q => q = a) h h' → h' a = some (.inl (t0, n, .inr (.inr (.inr (.inr (va_up f i.toNatClampNeg v)))))) → F h') : os_A h (some a) t0 cs us i v F := by
  rw [k_sA h1 hi hv]
  exact hF _ ((zFr.refl (fun q => q = a) h).up rfl _) (k_u1 _ _ _)
theorem k_okl {h : zw_H} {v : Nat} {x : Nat × vp_A} {cs us : List Nat} (h1 : h v = some (.inl x)) (hb : x.1 ∈ us) : os_ok h (some v) cs us := by
  unfold os_ok
  simp only [h1]
  exact hb
abbrev zAA (t m : Nat) (f : zAr) : zw_C := .inl (t, m, .inr (.inr (.inr (.inr f))))
abbrev zBx (l i : Nat) : zw_C := .inr (4, [.int (Int32.ofNat l), .int (Int32.ofNat i), .int (sp_wide (Int32.ofNat l)), .int (sp_centre (Int32.ofNat l) (Int32.ofNat i))])
abbrev zLc (z : zW) (a : Nat → Int32) (fm : Int32) : zw_C := .inr (2, [.ref (z.1 1), .ref (z.1 3), .int (a 3), .int (a 4), .int (a 5), .int (a 6), .int (a 1), .ref (z.1 4), .ref (z.1 5), .int fm])
/-- the shared empty array of the lists -/
def zE2 (K : Nat → Option Nat) (h : zw_H) : Prop := ∃ e f, K 2 = some e ∧ h e = some (zAA 12 0 f)
/-- a line under construction: the boxes of the levels below l stand -/
def zI0 (h0 hh : zw_H) (p e q1 q3 q4 q5 l : Nat) (R : Nat → Nat) (B : Nat → Nat → Nat) : Prop :=
  hh p = some (.inr (2, [.ref q1, .ref q3, .int 0, .int 0, .int 0, .int 0, .int 0, .ref q4, .ref q5, .int 0])) ∧ hh q1 = some (.inr (9, [.int 0, .ref e, .int 0])) ∧ (∃ f, hh e = some (zAA 12 0 f)) ∧ (∃ f, hh q4 = some (zAA 6 20 f)) ∧ (∃ t : Nat → Int32, hh q5 = some (.inl (0, 24, .inl t))) ∧ (∀ lv, lv < l → ∃ fb, hh (R lv) = some (zAA 6 (2 ^ lv) fb) ∧ ∀ i, i < 2 ^ lv → fb i = some (B lv i)) ∧ (∀ lv, lv < l → ∀ i, i < 2 ^ lv → hh (B lv i) = some (zBx lv i)) ∧ (∀ lv, lv < l → h0 (R lv) = none ∧ ∀ i, i < 2 ^ lv → h0 (B lv i) = none)
theorem zI0.tr {h0 hh h2 : zw_H} {p e q1 q3 q4 q5 l : Nat} {R : Nat → Nat} {B : Nat → Nat → Nat} {f3 : zAr} (g : zI0 h0 hh p e q1 q3 q4 q5 l R B) (h3 : hh q3 = some (zAA 7 6 f3)) (hf : zFr (fun q => q = q3) hh h2) : zI0 h0 h2 p e q1 q3 q4 q5 l R B := by
  have key : ∀ {q : Nat} {c : zw_C}, hh q = some c → c ≠ zAA 7 6 f3 → h2 q = some c := fun hq hc => (hf _ (by rw [hq]; exact Option.some_ne_none _) (z_ne hq h3 hc)).trans hq
  obtain ⟨g1, g2, ⟨f, g3⟩, ⟨f4, g4⟩, ⟨t, g5⟩, g6, g7, g8⟩ := g
  refine ⟨key g1 zn_rl, key g2 zn_rl, ⟨f, key g3 (zn_ll (Or.inl (by decide)))⟩, ⟨f4, key g4 (zn_ll (Or.inl (by decide)))⟩, ⟨t, key g5 (zn_ll (Or.inl (by decide)))⟩, fun lv hl => ?_, fun lv hl i hi => key (g7 lv hl i hi) zn_rl, g8⟩
  obtain ⟨fb, k1, k2⟩ := g6 lv hl
  exact ⟨fb, key k1 (zn_ll (Or.inl (by decide))), k2⟩
section ZC7
variable {K : Nat → Option Nat} {X : String → Nat → zw_H → Prop} {h : zw_H}
theorem k_boxinit {b l i : Nat} (hb : h b = some (.inr (4, [.int 0, .int 0, .int 0, .int 0]))) {Q : zw_H → Prop} (hQ : ∀ h', zFr (fun q => q = b) h h' → h' b = some (zBx l i) → Q h') : f_X5_init K (some b) (Int32.ofNat l) (Int32.ofNat i) h Q X := by
  unfold f_X5_init
  refine ⟨Option.some_ne_none _, g_put hb (by decide) (show 0 < 4 by decide) (fun h1 f1 b1 => g_put b1 (by decide) (show 1 < 4 by decide) (fun h2 f2 b2 => g_put b2 (by decide) (show 2 < 4 by decide) (fun h3 f3 b3 => ?_)))⟩
  rw [k_gI b3 (by decide) rfl, k_gI b3 (by decide) rfl]
  exact ⟨by decide, g_put b3 (by decide) (show 3 < 4 by decide) (fun h4 f4 b4 => hQ h4 (((f1.trans f2).trans f3).trans f4) b4)⟩
theorem k_init {p : Nat} (hp : h p = some (.inr (2, [.null, .null, .int 0, .int 0, .int 0, .int 0, .int 0, .null, .null, .int 0]))) (hE : zE2 K h) {Q : zw_H → Prop} (hQ : ∀ h' z f, zFr (fun q => q = p) h h' → z.1 0 = p → K 2 = some (z.1 2) → zLn h' z (fun _ => 0) 0 0 f → (∀ q, zFt z 0 q → q = p ∨ h q = none ∨ K 2 = some q) → Q h') : f_X4_init K (some p) h Q X := by
  obtain ⟨e, fe, hK, hE⟩ := hE
  unfold f_X4_init
  refine ⟨Option.some_ne_none _, g_new (fun q1 h1 hq1 f1 c1 => ?_)⟩
  unfold f_J12_init f_J11_init f_J0_init
  refine ⟨Option.some_ne_none _, Option.some_ne_none _, Option.some_ne_none _, g_put c1 (by decide) (show 0 < 3 by decide) (fun h2 f2 c2 => g_put c2 (by decide) (show 1 < 3 by decide) (fun h3 f3 c3 => ?_))⟩
  rw [hK] at c3
  have c3 : h3 q1 = some (.inr (9, [.int 0, .ref e, .int 0])) := c3
  have p1 := f1.at0 hp
  have e1 := f1.at0 hE
  have p3 := f3.at1 (f2.at1 p1 c1 (zn_rr (by decide))) c2 (zn_rr (by decide))
  have e3 := f3.at1 (f2.at1 e1 c1 zn_lr) c2 zn_lr
  have g3 : zFr zNo h h3 := fun q hq _ => by
    have k := f1 q hq (fun k => k)
    have n1 : q ≠ q1 := fun k => hq (by rw [k]; exact hq1)
    have k2 := (f2 q (by rw [k]; exact hq) n1).trans k
    exact (f3 q (by rw [k2]; exact hq) n1).trans k2
  refine g_put p3 (by decide) (show 0 < 10 by decide) (fun h4 f4 p4 => ?_)
  have c4 := f4.at1 c3 p3 (zn_rr (by decide))
  have e4 := f4.at1 e3 p3 zn_lr
  have g4 : zFr (fun q => q = p) h h4 := g3.of0.trans f4
  refine ⟨by decide, by decide, g_new (fun q3 h5 hq3 f5 d5 => ?_)⟩
  have p5 := f5.at0 p4
  have c5 := f5.at0 c4
  have e5 := f5.at0 e4
  have g5 := g4.trans f5.of0
  have n3 : h q3 = none := g4.nn hq3 (fun k => by rw [k, p4] at hq3; cases hq3)
  refine g_put p5 (by decide) (show 1 < 10 by decide) (fun h6 f6 p6 => ?_)
  have c6 := f6.at1 c5 p5 (zn_rr (by decide))
  have e6 := f6.at1 e5 p5 zn_lr
  have d6 := f6.at1 d5 p5 zn_lr
  have g6 := g5.trans f6
  refine ⟨by decide, by decide, g_new (fun q4 h7 hq4 f7 r7 => ?_)⟩
  have p7 := f7.at0 p6
  have c7 := f7.at0 c6
  have e7 := f7.at0 e6
  have d7 := f7.at0 d6
  have g7 := g6.trans f7.of0
  have n4 : h q4 = none := g6.nn hq4 (fun k => by rw [k, p6] at hq4; cases hq4)
  refine g_put p7 (by decide) (show 7 < 10 by decide) (fun h8 f8 p8 => ?_)
  have c8 := f8.at1 c7 p7 (zn_rr (by decide))
  have e8 := f8.at1 e7 p7 zn_lr
  have d8 := f8.at1 d7 p7 zn_lr
  have r8 := f8.at1 r7 p7 zn_lr
  have g8 := g7.trans f8
  refine ⟨by decide, by decide, g_new (fun q5 h9 hq5 f9 t9 => ?_)⟩
  have p9 := f9.at0 p8
  have c9 := f9.at0 c8
  have e9 := f9.at0 e8
  have d9 := f9.at0 d8
  have r9 := f9.at0 r8
  have g9 := g8.trans f9.of0
  have n5 : h q5 = none := g8.nn hq5 (fun k => by rw [k, p8] at hq5; cases hq5)
  refine g_put p9 (by decide) (show 8 < 10 by decide) (fun h10 f10 p10 => ?_)
  have c10 := f10.at1 c9 p9 (zn_rr (by decide))
  have e10 := f10.at1 e9 p9 zn_lr
  have d10 := f10.at1 d9 p9 zn_lr
  have r10 := f10.at1 r9 p9 zn_lr
  have t10 := f10.at1 t9 p9 zn_lr
  have g10 := g9.trans f10
  have hq1h : h q1 = none := hq1
  refine zl2_inv (B := f_X4_init_B43 K Q X _ (some p)) (fun l x hh => x = Int32.ofNat l ∧ zFr (fun q => q = p) h hh ∧ ∃ R B f3, hh q3 = some (zAA 7 6 f3) ∧ (∀ lv, lv < l → f3 lv = some (R lv)) ∧ zI0 h hh p e q1 q3 q4 q5 l R B) (n := 6) (fun R0 l hl x hh hpp hR => ?_) (fun R0 x hh hpp => ?_) 6 7 0 (by omega) (by decide) _ _ ⟨rfl, g10, fun _ => 0, fun _ _ => 0, _, d10, fun lv hlv => absurd hlv (Nat.not_lt_zero lv), p10, c10, ⟨_, e10⟩, ⟨_, r10⟩, ⟨_, t10⟩, fun lv hlv => absurd hlv (Nat.not_lt_zero lv), fun lv hlv => absurd hlv (Nat.not_lt_zero lv), fun lv hlv => absurd hlv (Nat.not_lt_zero lv)⟩
  · obtain ⟨rfl, hfr, R, B, f3, hd, hf3, hI⟩ := hpp
    have hp32 := zi_p5 (show l ≤ 5 by omega)
    unfold f_X4_init_B43
    rw [if_neg (by rw [show (5 : Int32) = Int32.ofNat 5 from rfl, zi_lt (by omega) (by omega)]; omega), k_gA hI.1 (by decide) rfl, zi_shl (by omega)]
    refine ⟨zi_nn (by omega), by rw [zi_clamp (by omega)]; omega, g_new (fun r ha hr fa ra => ?_)⟩
    rw [zi_clamp (by omega)] at ra
    have nr : h r = none := hfr.nn hr (fun k => by rw [k, hI.1] at hr; cases hr)
    have ha3 := fa.at0 hd
    refine ⟨Option.some_ne_none _, g_setA ha3 (zi_inn hl (by decide)) (k_okl ra (show 6 ∈ [6] by decide)) (fun hb fb hb3 => ?_)⟩
    rw [zi_clamp (by omega)] at hb3
    have rb := fb.at1 ra ha3 (zn_ll (Or.inl (by decide)))
    have fhb : zFr (fun q => q = q3) hh hb := fa.of0.trans fb
    refine zl2_inv (B := f_X4_init_B62 K Q X _ (some p) (Int32.ofNat l)) (fun i x h2 => x = Int32.ofNat i ∧ zFr (fun q => q = q3) hh h2 ∧ h2 q3 = some (zAA 7 6 (va_up f3 l (some r))) ∧ ∃ fbx Bi, h2 r = some (zAA 6 (2 ^ l) fbx) ∧ ∀ j, j < i → fbx j = some (Bi j) ∧ h2 (Bi j) = some (zBx l j) ∧ hh (Bi j) = none) (n := 2 ^ l) (fun R1 i hi x h2 hpp hR1 => ?_) (fun R1 x h2 hpp => ?_) (2 ^ l) 33 0 (by omega) (by omega) _ _ ⟨rfl, fhb, hb3, _, fun _ => 0, rb, fun j hj => absurd hj (Nat.not_lt_zero j)⟩
    · obtain ⟨rfl, f2, h23, fbx, Bi, hr2, hBi⟩ := hpp
      have hI2 := hI.tr hd f2
      have hvr : va_up f3 l (some r) l = some r := if_pos rfl
      unfold f_X4_init_B62
      rw [k_gA hI2.1 (by decide) rfl, k_rA h23 (by decide) (zi_inn hl (by decide)), zi_clamp (by omega), hvr, k_l hr2 (by decide), if_neg (by rw [zi_le (by omega) (by omega)]; omega), k_gA hI2.1 (by decide) rfl, k_rA h23 (by decide) (zi_inn hl (by decide)), zi_clamp (by omega), hvr]
      refine g_new (fun b hc hbn fc bc => k_boxinit bc (fun hd2 fd bd => ?_))
      have hrd := fd.at1 (fc.at0 hr2) bc zn_lr
      have h3d := fd.at1 (fc.at0 h23) bc zn_lr
      refine g_setA hrd (zi_inn hi (by omega)) (k_ok bd (by decide)) (fun he fe2 re => ?_)
      rw [zi_clamp (by omega)] at re
      have fall : zFr (fun q => q = r) h2 he := fun q hq hqr => by
        have k1 := fc q hq (fun k => k)
        have nb : q ≠ b := fun k => hq (by rw [k]; exact hbn)
        have k2 := (fd q (by rw [k1]; exact hq) nb).trans k1
        exact (fe2 q (by rw [k2]; exact hq) hqr).trans k2
      have nrh : hh r = none := hr
      have fall2 : zFr (fun q => q = q3) hh he := fun q hq hq3 => by
        have k1 := f2 q hq hq3
        exact (fall q (by rw [k1]; exact hq) (fun k => hq (by rw [k]; exact nrh))).trans k1
      have bhh : hh b = none := f2.nn hbn (fun k => by rw [k, h23] at hbn; cases hbn)
      simp only [olet_iff, zi_succ]
      refine hR1 _ _ ⟨rfl, fall2, fe2.at1 h3d hrd (zn_ll (Or.inl (by decide))), _, fun j => if j = i then b else Bi j, re, fun j hj => ?_⟩
      by_cases k : j = i
      · subst k
        dsimp only
        rw [if_pos rfl]
        exact ⟨if_pos rfl, fe2.at1 bd hrd zn_rl, bhh⟩
      · obtain ⟨k1, k2, k3⟩ := hBi j (by omega)
        dsimp only
        rw [if_neg k]
        refine ⟨(if_neg k).trans k1, ?_, ?_⟩
        · exact fe2.at1 ((fd _ (by rw [fc.at0 k2]; exact Option.some_ne_none _) (fun k9 => by rw [k9, hbn] at k2; cases k2)).trans (fc.at0 k2)) hrd zn_rl
        · exact k3
    · obtain ⟨rfl, f2, h23, fbx, Bi, hr2, hBi⟩ := hpp
      have hI2 := hI.tr hd f2
      have hvr : va_up f3 l (some r) l = some r := if_pos rfl
      unfold f_X4_init_B62
      rw [k_gA hI2.1 (by decide) rfl, k_rA h23 (by decide) (zi_inn hl (by decide)), zi_clamp (by omega), hvr, k_l hr2 (by decide), if_pos (by rw [zi_le (by omega) (by omega)]; omega)]
      simp only [olet_iff, zi_succ]
      have g12 : zFr (fun q => q = p) h h2 := fun q hq hqp => by
        have k1 := hfr q hq hqp
        exact (f2 q (by rw [k1]; exact hq) (fun k => hq (by rw [k]; exact n3))).trans k1
      refine hR _ _ ⟨rfl, g12, fun lv => if lv = l then r else R lv, fun lv => if lv = l then Bi else B lv, _, h23, fun lv hlv => ?_, hI2.1, hI2.2.1, hI2.2.2.1, hI2.2.2.2.1, hI2.2.2.2.2.1, fun lv hlv => ?_, fun lv hlv i hi => ?_, fun lv hlv => ?_⟩
      · by_cases k : lv = l
        · subst k
          dsimp only
          rw [if_pos rfl]
          exact if_pos rfl
        · dsimp only
          rw [if_neg k]
          exact (if_neg k).trans (hf3 lv (by omega))
      · by_cases k : lv = l
        · subst k
          dsimp only
          rw [if_pos rfl, if_pos rfl]
          exact ⟨fbx, hr2, fun i hi => (hBi i hi).1⟩
        · dsimp only
          rw [if_neg k, if_neg k]
          exact hI2.2.2.2.2.2.1 lv (by omega)
      · by_cases k : lv = l
        · subst k
          dsimp only
          rw [if_pos rfl]
          exact (hBi i hi).2.1
        · dsimp only
          rw [if_neg k]
          exact hI2.2.2.2.2.2.2.1 lv (by omega) i hi
      · by_cases k : lv = l
        · subst k
          dsimp only
          rw [if_pos rfl, if_pos rfl]
          refine ⟨nr, fun i hi => ?_⟩
          have k3 := (hBi i hi).2.2
          refine hfr.nn k3 (fun k => ?_)
          rw [k, hI.1] at k3
          cases k3
        · dsimp only
          rw [if_neg k, if_neg k]
          exact hI2.2.2.2.2.2.2.2 lv (by omega)
  · obtain ⟨rfl, hfr, R, B, f3, hd, hf3, hI⟩ := hpp
    unfold f_X4_init_B43
    rw [if_pos (by decide)]
    obtain ⟨k1, k2, ⟨f, k3⟩, ⟨f4, k4⟩, ⟨t, k5⟩, k6, k7, k8⟩ := hI
    have hz : ∀ lv, (fun k => if k = 0 then p else if k = 1 then q1 else if k = 2 then e else if k = 3 then q3 else if k = 4 then q4 else if k = 5 then q5 else R (k - 6)) (6 + lv) = R lv := fun lv => by
      show (if 6 + lv = 0 then p else if 6 + lv = 1 then q1 else if 6 + lv = 2 then e else if 6 + lv = 3 then q3 else if 6 + lv = 4 then q4 else if 6 + lv = 5 then q5 else R (6 + lv - 6)) = R lv
      rw [if_neg (by omega), if_neg (by omega), if_neg (by omega), if_neg (by omega), if_neg (by omega), if_neg (by omega), show 6 + lv - 6 = lv by omega]
    refine hQ hh (fun k => if k = 0 then p else if k = 1 then q1 else if k = 2 then e else if k = 3 then q3 else if k = 4 then q4 else if k = 5 then q5 else R (k - 6), B, fun _ => 0) f4 hfr rfl hK ⟨k1, ⟨0, 12, 0, f, k2, k3, Or.inr rfl, Nat.le_refl _, by decide, fun _ => rfl, fun b hb => absurd hb (Nat.not_lt_zero b)⟩, fun b hb => absurd hb (Nat.not_lt_zero b), ⟨⟨f3, hd, fun lv hlv => (hf3 lv hlv).trans (congrArg some (hz lv).symm)⟩, fun lv hlv => ?_, fun lv hlv i hi => k7 lv hlv i hi⟩, k4, ⟨t, k5⟩, fun b c hb => absurd hb (Nat.not_lt_zero b)⟩ (fun q hq => ?_)
    · obtain ⟨fb, m1, m2⟩ := k6 lv hlv
      refine ⟨fb, ?_, m2⟩
      show hh ((fun k => if k = 0 then p else if k = 1 then q1 else if k = 2 then e else if k = 3 then q3 else if k = 4 then q4 else if k = 5 then q5 else R (k - 6)) (6 + lv)) = _
      rw [hz lv]
      exact m1
    · rcases hq with ⟨j, hj, rfl⟩ | ⟨lv, i, hlv, hi, rfl⟩ | ⟨b, hb, rfl⟩
      · have hj2 : j = 0 ∨ j = 1 ∨ j = 2 ∨ j = 3 ∨ j = 4 ∨ j = 5 ∨ ∃ l, l < 6 ∧ j = 6 + l := by
          by_cases e : j < 6
          · omega
          · exact Or.inr (Or.inr (Or.inr (Or.inr (Or.inr (Or.inr ⟨j - 6, by omega, by omega⟩)))))
        rcases hj2 with rfl | rfl | rfl | rfl | rfl | rfl | ⟨lv, hlv, rfl⟩
        · exact Or.inl rfl
        · exact Or.inr (Or.inl hq1h)
        · exact Or.inr (Or.inr hK)
        · exact Or.inr (Or.inl n3)
        · exact Or.inr (Or.inl n4)
        · exact Or.inr (Or.inl n5)
        · refine Or.inr (Or.inl ?_)
          show h ((fun k => if k = 0 then p else if k = 1 then q1 else if k = 2 then e else if k = 3 then q3 else if k = 4 then q4 else if k = 5 then q5 else R (k - 6)) (6 + lv)) = none
          rw [hz lv]
          exact (k8 lv hlv).1
      · exact Or.inr (Or.inl ((k8 lv hlv).2 i hi))
      · exact absurd hb (Nat.not_lt_zero b)
end ZC7
