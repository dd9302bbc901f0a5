set_option maxRecDepth 100000
/-! the copy of a line; a new body -/
/-- a row without its numbers -/
def zLow (a : Nat → Int32) : Nat → Int32 := fun q => if q < 7 then 0 else a q
theorem zLow_hi (a : Nat → Int32) {q : Nat} (h : 7 ≤ q) : zLow a q = a q := if_neg (by omega)
theorem zLow_lo (a : Nat → Int32) {q : Nat} (h : q < 7) : zLow a q = 0 := if_pos h
/-- a line does not see what lies beyond its bodies -/
theorem zLn.cong {h : zw_H} {z : zW} {a a' : Nat → Int32} {n : Nat} {fm : Int32} {f : zAr} (g : zLn h z a n fm f) (e0 : ∀ k, k < 7 → k ≠ 0 → a' k = a k) (e1 : ∀ k, 7 ≤ k → k < 7 + 4 * n → a' k = a k) : zLn h z a' n fm f := by
  obtain ⟨g1, g2, g5, g6⟩ := g
  refine ⟨?_, g2, fun b hb => ?_, g6⟩
  · unfold zl_obj
    rw [e0 3 (by decide) (by decide), e0 4 (by decide) (by decide), e0 5 (by decide) (by decide), e0 6 (by decide) (by decide), e0 1 (by decide) (by decide)]
    exact g1
  · have k := zkd_eq (e1 (7 + 4 * b + 2) (by omega) (by omega))
    rw [k.1, k.2, e1 _ (by omega) (by omega), e1 _ (by omega) (by omega), e1 _ (by omega) (by omega)]
    exact g5 b hb
section ZC9
variable {K : Nat → Option Nat} {X : String → Nat → zw_H → Prop} {h : zw_H} {z : zW} {a : Nat → Int32} {n l o : Nat} {fm : Int32} {f : zAr}
theorem zE2.ext {h h' : zw_H} (hE : zE2 K h) (hf : zFr zNo h h') : zE2 K h' := by
  obtain ⟨e, fe, hK, hE⟩ := hE
  exact ⟨e, fe, hK, hf.at0 hE⟩
/-- what a new line is: it stands apart of what was known -/
def zNew (K : Nat → Option Nat) (h h' : zw_H) (z : zW) (a : Nat → Int32) (n : Nat) : Prop := zFr zNo h h' ∧ zLine h' z a n ∧ zK2 K h' z ∧ ∀ q, zFt z n q → h q = none ∨ K 2 = some q
theorem k_newline (hE : zE2 K h) {Q : Nat → zw_H → Prop} (hQ : ∀ h' z, zNew K h h' z (fun _ => 0) 0 → Q (z.1 0) h') : on_C h (.inr (2, [.null, .null, .int 0, .int 0, .int 0, .int 0, .int 0, .null, .null, .int 0])) (fun v1 h1 => f_X4_init K (some v1) h1 (fun h2 => Q v1 h2) X) := by
  refine g_new (fun p h1 hp f1 c1 => ?_)
  refine k_init c1 (hE.ext f1) (fun h2 z f f2 hz hz2 g hft => ?_)
  have f12 : zFr zNo h h2 := fun q hq _ => by
    have m1 := f1 q hq (fun k => k)
    exact (f2 q (by rw [m1]; exact hq) (fun k => hq (by rw [k]; exact hp))).trans m1
  rw [← hz]
  refine hQ h2 z ⟨f12, ⟨0, f, g⟩, fun t m f9 hf9 => ?_, fun q hq => ?_⟩
  · refine ⟨fun _ => hz2, fun k => ?_⟩
    obtain ⟨e, fe2, hK, hE2⟩ := hE.ext f12
    rw [hK] at hz2
    rw [← Option.some.inj hz2, hE2] at hf9
    injection hf9 with hf9
    injection hf9 with hf9
    injection hf9 with t1 t2
    exact absurd (t1.trans k) (by decide)
  · rcases hft q hq with k | k | k
    · exact Or.inl (by rw [k]; exact hp)
    · exact Or.inl (by
        by_cases k2 : h q = none
        · exact k2
        · exact absurd ((f1 q k2 (fun k => k)).symm.trans k) k2)
    · exact Or.inr k
theorem zNew.frame {h h1 h2 : zw_H} {z : zW} {a : Nat → Int32} {n : Nat} (g : zNew K h h1 z a n) {M : Nat → Prop} (f : zFr M h1 h2) (hM : ∀ p, M p → h p = none) : zFr zNo h h2 := fun q hq _ => by
  have m1 := g.1 q hq (fun k => k)
  exact (f q (by rw [m1]; exact hq) (fun k => hq (hM q k))).trans m1
theorem k_copy (g : zLn h z a n fm f) (hr : zRow a n l o) (hE : zE2 K h) (h7 : ∃ q7, K 7 = some q7) {Q : Option Nat → zw_H → Prop} (hQ : ∀ h' z', zNew K h h' z' a n → Q (some (z'.1 0)) h') : f_X4_copy K (some (z.1 0)) h Q X := by
  have h24 := hr.2.1
  unfold f_X4_copy
  refine k_newline hE (fun h1 z1 hN => ?_)
  have hN0 : zNew K h h1 z1 (zLow a) 0 := by
    obtain ⟨m1, ⟨fm1, f1, m2⟩, m3, m4⟩ := hN
    exact ⟨m1, ⟨fm1, f1, m2.cong (fun k hk _ => zLow_lo a hk) (fun k k1 k2 => by omega)⟩, m3, m4⟩
  refine zl2_inv (B := f_X4_copy_B10 K Q X _ (some (z.1 0)) (some (z1.1 0))) (fun b x hh => x = Int32.ofNat b ∧ ∃ zz, zz.1 0 = z1.1 0 ∧ zNew K h hh zz (zLow a) b) (n := n) (fun R b hb x hh hp hR => ?_) (fun R x hh hp => ?_) n 25 0 (by omega) (by omega) _ _ ⟨rfl, z1, rfl, hN0⟩
  · obtain ⟨rfl, zz, hz, hn⟩ := hp
    obtain ⟨m1, ⟨fm1, f1, m2⟩, m3, m4⟩ := id hn
    have gs := g.ext m1
    have hstep : f_X7_copy K (some (z.2.2 b)) hh (fun v5 h5 => oc_ h5 (some (zz.1 1)) [9] (f_J12_add K (some (zz.1 1)) v5 h5 (fun v6 h6 => olet (Int32.ofNat b + 1) (fun v7 => R v7 h6)) X)) X := by
      refine k_bcopy gs hb (fun h2 q f2 hq c2 => ?_)
      have g2 := m2.ext f2
      obtain ⟨mc, te, cap, fe, n2, n3, -⟩ := g2.2.1
      rw [k_c n2 (by decide)]
      have k2z : zK2 K h2 zz := fun t m f9 hf9 => by
        obtain ⟨mc9, te9, cap9, fe9, s2, s3, -⟩ := m2.2.1
        have s4 := f2.at0 s3
        rw [s4] at hf9
        have e9 := Option.some.inj hf9
        exact m3 t m f9 (by rw [s3]; exact congrArg some e9)
      have hbc : zBc a b = zBc (zLow a) b := by
        have k := zkd_eq (a := a) (a' := zLow a) (b := b) (zLow_hi a (by omega))
        show (Sum.inr (zkd a b, _) : zw_C) = .inr (zkd (zLow a) b, _)
        rw [k.1, k.2, zLow_hi a (by omega), zLow_hi a (by omega), zLow_hi a (by omega)]
      have hnb : ∀ c, c < b → q ≠ zz.2.2 c := fun c hc k => by
        have := m2.dom (q := zz.2.2 c) (Or.inr (Or.inr ⟨c, hc, rfl⟩))
        rw [← k] at this
        exact this hq
      refine k_add g2 k2z ((hE.ext m1).ext f2) h7 (by omega) (by rw [← hbc]; exact c2) hnb (fun _ _ _ => rfl) (fun _ _ _ => rfl) (fun h3 E f3 g3 k3 hE3 => ?_)
      simp only [olet_iff, zi_succ]
      have fr12 : zFr zNo h h2 := m1.trans f2
      have hft : ∀ p, zMa K zz p → h p = none := fun p hp => by
        rcases hp with k | ⟨k, k2⟩
        · exact (m4 p (Or.inl ⟨1, by decide, k⟩)).elim id (fun k9 => by
            obtain ⟨e, fe2, hK, hE2⟩ := hE
            rw [hK] at k9
            have := Option.some.inj k9
            rw [k] at this
            have s1 := fr12.at0 hE2
            rw [this, n2] at s1
            cases s1)
        · exact (m4 p (Or.inl ⟨2, by decide, k⟩)).elim id (fun k9 => absurd (by rw [← k]; exact k9) k2)
      have fr13 : zFr zNo h h3 := fun p hp _ => by
        have s1 := fr12 p hp (fun k => k)
        exact (f3 p (by rw [s1]; exact hp) (fun k => hp (hft p k))).trans s1
      refine hR _ _ ⟨rfl, zAd zz E b q, hz, fr13, ⟨fm1, f1, g3⟩, k3, fun p hp => ?_⟩
      rcases zAd_ft hp with k | k | k
      · exact m4 p k
      · rcases hE3 with k2 | k2
        · exact m4 p (Or.inl ⟨2, by decide, k.trans k2⟩)
        · refine Or.inl ?_
          rw [k]
          by_cases k9 : h E = none
          · exact k9
          · exact absurd ((fr12 E k9 (fun k => k)).symm.trans k2) k9
      · refine Or.inl ?_
        rw [k]
        by_cases k9 : h q = none
        · exact k9
        · exact absurd ((m1 q k9 (fun k => k)).symm.trans hq) k9
    unfold f_X4_copy_B10
    rw [← hz, l_c gs, l_size gs, if_neg (by rw [zi_le (by omega) (by omega)]; omega), k_gA m2.1 (by decide) rfl, l_c gs, l_at gs h24 hb, l_od gs hb]
    exact hstep
  · obtain ⟨rfl, zz, hz, hn⟩ := hp
    obtain ⟨m1, ⟨fm1, f1, m2⟩, m3, m4⟩ := id hn
    have gs := g.ext m1
    have hp0 : h (z1.1 0) = none := by
      rw [← hz]
      refine (m4 _ (Or.inl ⟨0, by decide, rfl⟩)).elim id (fun k9 => ?_)
      obtain ⟨e, fe2, hK, hE2⟩ := hE
      rw [hK] at k9
      have s1 := m1.at0 hE2
      rw [Option.some.inj k9, m2.1] at s1
      cases s1
    unfold f_X4_copy_B10
    rw [l_c gs, l_size gs, if_pos (by rw [zi_le (by omega) (by omega)]; omega)]
    try dsimp only
    rw [← hz] at hp0 ⊢
    have hkk : ∀ {hA hB : zw_H} {y : zw_C}, zFr zNo h hA → (∀ q, hA q ≠ none → q ≠ zz.1 0 → hB q = hA q) → zFr zNo h hB := fun fa fb q hq _ => by
      have s1 := fa q hq (fun k => k)
      exact (fb q (by rw [s1]; exact hq) (fun k => hq (by rw [k]; exact hp0))).trans s1
    rw [l_lev gs]
    refine g_put m2.1 (by decide) (show 2 < 10 by decide) (fun h2 e2 c2 => ?_)
    simp only [List.set_cons_succ, List.set_cons_zero] at c2
    have fr2 : zFr zNo h h2 := hkk (y := zBx 0 0) m1 (fun q hq hne => e2 q hq hne)
    rw [l_ord (g.ext fr2)]
    refine g_put c2 (by decide) (show 3 < 10 by decide) (fun h3 e3 c3 => ?_)
    simp only [List.set_cons_succ, List.set_cons_zero] at c3
    have fr3 : zFr zNo h h3 := hkk (y := zBx 0 0) fr2 (fun q hq hne => e3 q hq hne)
    rw [l_fri (g.ext fr3)]
    refine g_put c3 (by decide) (show 4 < 10 by decide) (fun h4 e4 c4 => ?_)
    simp only [List.set_cons_succ, List.set_cons_zero] at c4
    have fr4 : zFr zNo h h4 := hkk (y := zBx 0 0) fr3 (fun q hq hne => e4 q hq hne)
    rw [l_tim (g.ext fr4)]
    refine g_put c4 (by decide) (show 5 < 10 by decide) (fun h5 e5 c5 => ?_)
    simp only [List.set_cons_succ, List.set_cons_zero] at c5
    have fr5 : zFr zNo h h5 := hkk (y := zBx 0 0) fr4 (fun q hq hne => e5 q hq hne)
    rw [l_mov (g.ext fr5)]
    refine g_put c5 (by decide) (show 6 < 10 by decide) (fun h6 e6 c6 => ?_)
    simp only [List.set_cons_succ, List.set_cons_zero] at c6
    have fr6 : zFr zNo h h6 := hkk (y := zBx 0 0) fr5 (fun q hq hne => e6 q hq hne)
    have eall : zFr (fun q => q = zz.1 0) hh h6 := (((e2.trans e3).trans e4).trans e5).trans e6
    have gl : zLn (zw_up hh (zz.1 0) (.inr (2, [.ref (zz.1 1), .ref (zz.1 3), .int (a 3), .int (a 4), .int (a 5), .int (a 6), .int (a 1), .ref (zz.1 4), .ref (zz.1 5), .int fm1]))) zz a n fm1 f1 := m2.obj (a' := a) (fun b hb => ⟨(zLow_hi a (by omega)).symm, (zLow_hi a (by omega)).symm, (zLow_hi a (by omega)).symm, (zLow_hi a (by omega)).symm⟩) rfl
    have gl6 : zLn h6 zz a n fm1 f1 := by
      refine gl.frame (fun q hq => ?_)
      by_cases k : q = zz.1 0
      · rw [k, k_u1]
        exact c6
      · rw [k_u2 k]
        exact eall q (m2.dom hq) k
    refine hQ h6 zz ⟨fr6, ⟨fm1, f1, gl6⟩, fun t m f9 hf9 => ?_, m4⟩
    obtain ⟨mc9, te9, cap9, fe9, s2, s3, -⟩ := m2.2.1
    have s4 : h6 (zz.1 2) = hh (zz.1 2) := eall _ (by rw [s3]; exact Option.some_ne_none _) (z_ne s3 m2.1 zn_lr)
    exact m3 t m f9 (by rw [← s4]; exact hf9)
end ZC9
