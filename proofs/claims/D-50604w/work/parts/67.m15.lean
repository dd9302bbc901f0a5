set_option maxRecDepth 100000
/-! moments laid from the leaves up -/
def zL (lev i k : Nat) : Nat := 5 * ((2 ^ lev - 1) + i) + k
theorem zL_inj {a b i j k q : Nat} (hi : i < 2 ^ a) (hj : j < 2 ^ b) (hk : k ≤ 4) (hq : q ≤ 4) (h : zL a i k = zL b j q) : a = b ∧ i = j ∧ k = q := by
  unfold zL at h
  have h1 : (2 ^ a - 1) + i = (2 ^ b - 1) + j := by omega
  have h2 : k = q := by omega
  have ha := Nat.two_pow_pos a
  have hb := Nat.two_pow_pos b
  have h3 : a = b := by
    rcases Nat.lt_trichotomy a b with g | g | g
    · have h4 : 2 ^ (a + 1) ≤ 2 ^ b := Nat.pow_le_pow_right (by decide) g
      rw [Nat.pow_succ] at h4
      omega
    · exact g
    · have h4 : 2 ^ (b + 1) ≤ 2 ^ a := Nat.pow_le_pow_right (by decide) g
      rw [Nat.pow_succ] at h4
      omega
  subst h3
  exact ⟨rfl, by omega, h2⟩
theorem zi_p5 {l : Nat} (h : l ≤ 5) : 2 ^ l ≤ 32 := Nat.pow_le_pow_right (n := 2) (j := 5) (by decide) h
theorem zL_lt {lev i k : Nat} (hl : lev ≤ 5) (hi : i < 2 ^ lev) (hk : k ≤ 4) : zL lev i k < 315 := by
  have := zi_p5 hl
  unfold zL
  omega
theorem zi_laid {lev i k : Nat} (hl : lev ≤ 8) : ((5 : Int32) * ((((1 : Int32) <<< (Int32.ofNat lev &&& 31)) - 1) + Int32.ofNat i)) + Int32.ofNat k = Int32.ofNat (zL lev i k) := by
  have e1 : Int32.ofNat (2 ^ lev) - 1 = Int32.ofNat (2 ^ lev - 1) := (Int32.ofNat_sub (2 ^ lev) 1 (Nat.two_pow_pos lev)).symm
  rw [zi_shl hl, e1, ← Int32.ofNat_add]
  unfold zL
  rw [Int32.ofNat_add _ k, Int32.ofNat_mul]
  rfl
def sp_sh1 (g : Nat → Int64) (y : Int32) (k : Nat) (n : Nat) : Int64 := zacc (fun j s => s + ((sp_choose (Int32.ofNat k) j).toInt64 * g j) * sp_power y.toInt64 (k - j)) 0 n
def sp_by (lev i bel : Nat) : Int32 := sp_centre (Int32.ofNat lev + 1) (Int32.ofNat bel) - sp_centre (Int32.ofNat lev) (Int32.ofNat i)
def sp_shd (a : Nat → Int32) (n l : Nat) : Nat → Nat → Nat → Int64
  | 0, i, k => sp_moment a n (Int32.ofNat l) (Int32.ofNat i) k
  | r + 1, i, k => sp_sh1 (fun j => sp_shd a n l r (2 * i) j) (sp_by (l - (r + 1)) i (2 * i)) k (k + 1) + sp_sh1 (fun j => sp_shd a n l r (2 * i + 1) j) (sp_by (l - (r + 1)) i (2 * i + 1)) k (k + 1)
theorem sp_sh1_cong {g f : Nat → Int64} {y : Int32} {k : Nat} : ∀ {n : Nat}, (∀ j, j < n → g j = f j) → sp_sh1 g y k n = sp_sh1 f y k n
  | 0, _ => rfl
  | n + 1, h => by
    show sp_sh1 g y k n + ((sp_choose (Int32.ofNat k) n).toInt64 * g n) * sp_power y.toInt64 (k - n) = sp_sh1 f y k n + ((sp_choose (Int32.ofNat k) n).toInt64 * f n) * sp_power y.toInt64 (k - n)
    rw [sp_sh1_cong (n := n) (fun j hj => h j (by omega)), h n (by omega)]
/-- two states of the reference, alike but for longs and doubles -/
def zSl (w v : zM) : Prop := v.1 = w.1 ∧ v.2.1 = w.2.1
theorem zSl.refl (w : zM) : zSl w w := ⟨rfl, rfl⟩
theorem zSl.trans {u v w : zM} (h : zSl u v) (g : zSl v w) : zSl u w := ⟨g.1.trans h.1, g.2.trans h.2⟩
theorem zSl.sm {w v : zM} (h : zSl w v) : zSm w v := ⟨fun k _ => by rw [h.1], fun k _ _ _ _ => by rw [h.2]⟩
theorem zSl.row {w v : zM} (h : zSl w v) : v.2.1 1 = w.2.1 1 := by rw [h.2]
def zLD (w : zM) (a : Nat → Int32) (n l : Nat) (D : Nat → Nat → Nat → Prop) : Prop := ∀ lev i k, lev ≤ l → i < 2 ^ lev → k ≤ 4 → D lev i k → w.2.2.1 (zL lev i k) = sp_shd a n l (l - lev) i k
theorem zLD_up {w : zM} {a : Nat → Int32} {n l lev i k : Nat} {D D' : Nat → Nat → Nat → Prop} {x : Int64} (h : zLD w a n l D) (hi : i < 2 ^ lev) (hk : k ≤ 4) (hx : x = sp_shd a n l (l - lev) i k) (hD : ∀ p q r, D' p q r → D p q r ∨ (p = lev ∧ q = i ∧ r = k)) : zLD (zAJ w 17 (vp_updL w.2.2.1 (zL lev i k) x)) a n l D' := by
  intro p q r hp hq hr hd
  show (if zL p q r = zL lev i k then x else w.2.2.1 (zL p q r)) = _
  by_cases e : zL p q r = zL lev i k
  · obtain ⟨rfl, rfl, rfl⟩ := zL_inj hq hi hr hk e
    rw [if_pos e]
    exact hx
  · rw [if_neg e]
    rcases hD p q r hd with g | ⟨rfl, rfl, rfl⟩
    · exact h p q r hp hq hr g
    · exact absurd rfl e
def sp_gap1 (a : Nat → Int32) (n l lev i k : Nat) : Int64 := if (0 : Int32) ≤ lg_cmp (sp_moment a n (Int32.ofNat lev) (Int32.ofNat i) k - sp_shd a n l (l - lev) i k) 0 then sp_moment a n (Int32.ofNat lev) (Int32.ofNat i) k - sp_shd a n l (l - lev) i k else -(sp_moment a n (Int32.ofNat lev) (Int32.ofNat i) k - sp_shd a n l (l - lev) i k)
def sp_mg2 (a : Nat → Int32) (n l lev i : Nat) (s : Int64) (k : Nat) : Int64 := zacc (fun k s => s + sp_gap1 a n l lev i k) s k
def sp_mg1 (a : Nat → Int32) (n l lev : Nat) (s : Int64) (i : Nat) : Int64 := zacc (fun i s => sp_mg2 a n l lev i s 5) s i
def sp_mg (a : Nat → Int32) (n l c : Nat) : Int64 := zacc (fun lev s => sp_mg1 a n l lev s (2 ^ lev)) 0 c
section ZM15
variable {m : Nat → Nat} {w : zM} {h : zw_H} {K : Nat → Option Nat} {X : String → Nat → zw_H → Prop}
theorem zi_c4 {k : Nat} (hk : k ≤ 4) : ¬ (4 : Int32) < Int32.ofNat k := by
  rw [show (4 : Int32) = Int32.ofNat 4 from rfl, zi_lt (by omega) (by omega)]
  omega
theorem zi_c5 : (4 : Int32) < Int32.ofNat 5 := by decide
theorem c_laysLeaf (d : zm_d m) {a : Nat → Int32} (ha : w.2.1 1 = a) {n l o i : Nat} {D : Nat → Nat → Nat → Prop} (hr : zRow a n l o) (hi : i < 2 ^ l) (hD : zLD w a n l D) {Q : zw_H → Prop} (hQ : ∀ v, zSl w v → zLD v a n l (fun p q r => D p q r ∨ (p = l ∧ q = i)) → Q (zm_o m v h)) : f_X2_laysLeaf K (some (m 0)) (Int32.ofNat i) (zm_o m w h) Q X := by
  obtain ⟨hn, h24, hl, h2, h5, -⟩ := hr
  have hp5 := zi_p5 h5
  unfold f_X2_laysLeaf
  refine zl2_inv (B := f_X2_laysLeaf_B2 K Q X _ (some (m 0)) (Int32.ofNat i)) (fun k x hh => x = Int32.ofNat k ∧ ∃ v, hh = zm_o m v h ∧ zSl w v ∧ zLD v a n l (fun p q r => D p q r ∨ (p = l ∧ q = i ∧ r < k))) (n := 5) (fun R k hk x hh hp hR => ?_) (fun R x hh hp => ?_) 5 zfu 0 (by omega) (by decide) _ _ ⟨rfl, w, rfl, zSl.refl w, fun p q r h1 h2 h3 h4 => hD p q r h1 h2 h3 (h4.elim id (fun g => absurd g.2.2 (Nat.not_lt_zero r)))⟩
  · obtain ⟨rfl, v, rfl, hs, hd⟩ := hp
    have hrow : v.2.1 1 = a := hs.row.trans ha
    unfold f_X2_laysLeaf_B2
    rw [if_neg (zi_c4 (by omega)), zm_g17 d, e_a3 d, hrow, hl]
    unfold f_X2_laidAt
    dsimp only
    rw [e_a3 d, hrow, hl, zm_c d]
    refine c_momentOf d (n := n) (by rw [hrow]; exact hn) h24 (by omega) (zi_wide0 (by omega)) ?_
    rw [zi_laid (by omega), zm_s17 d (by decide), zi_clamp (by have := zL_lt h5 hi (show k ≤ 4 by omega); omega)]
    refine ⟨zi_inn (zL_lt h5 hi (by omega)) (by decide), ?_⟩
    simp only [olet_iff, zi_succ]
    refine hR _ _ ⟨rfl, _, rfl, ⟨hs.1, hs.2⟩, zLD_up hd hi (by omega) ?_ (fun p q r g => ?_)⟩
    · rw [hrow, Nat.sub_self]
      rfl
    · rcases g with g | ⟨g1, g2, g3⟩
      · exact Or.inl (Or.inl g)
      · rcases Nat.lt_or_ge r k with g4 | g4
        · exact Or.inl (Or.inr ⟨g1, g2, g4⟩)
        · exact Or.inr ⟨g1, g2, by omega⟩
  · obtain ⟨rfl, v, rfl, hs, hd⟩ := hp
    unfold f_X2_laysLeaf_B2
    rw [if_pos zi_c5]
    exact hQ v hs (fun p q r h1 h2 h3 h4 => hd p q r h1 h2 h3 (h4.imp id (fun g => ⟨g.1, g.2, by omega⟩)))
theorem c_shiftOf (d : zm_d m) {g : Nat → Int64} {lev i bel k : Nat} (hl : lev < 5) (hb : bel < 2 ^ (lev + 1)) (hk : k ≤ 4) (hg : ∀ j, j ≤ k → w.2.2.1 (zL (lev + 1) bel j) = g j) {Q : Int64 → zw_H → Prop} (hQ : Q (sp_sh1 g (sp_by lev i bel) k (k + 1)) (zm_o m w h)) : f_X2_shiftOf K (some (m 0)) (Int32.ofNat lev) (Int32.ofNat i) (Int32.ofNat bel) (Int32.ofNat k) (zm_o m w h) Q X := by
  unfold f_X2_shiftOf
  rw [e_centre, e_centre]
  simp only [olet_iff]
  have e0 : sp_centre (Int32.ofNat lev + 1) (Int32.ofNat bel) - sp_centre (Int32.ofNat lev) (Int32.ofNat i) = sp_by lev i bel := rfl
  rw [e0]
  refine zl3_run (B := f_X2_shiftOf_B21 K Q X _ (some (m 0)) (Int32.ofNat lev) (Int32.ofNat bel) (Int32.ofNat k) (sp_by lev i bel)) (fun j => sp_sh1 g (sp_by lev i bel) k j) (fun j => Int32.ofNat j) (fun _ => zm_o m w h) (n := k + 1) (fun R j hj hR => ?_) (fun R => ?_) (k + 1) zfu 0 (by omega) (Nat.lt_of_le_of_lt (show k + 1 ≤ 5 by omega) (by decide))
  · unfold f_X2_shiftOf_B21 f_X2_laidAt
    rw [if_neg (by rw [zi_lt (by omega) (by omega)]; omega)]
    refine c_choose (by omega) ?_
    dsimp only
    rw [zm_g17 d, zi_succ, zi_laid (by omega), zm_r17 d (by decide), zi_clamp (by have := zL_lt (show lev + 1 ≤ 5 by omega) hb (show j ≤ 4 by omega); omega)]
    refine ⟨zi_inn (zL_lt (by omega) hb (by omega)) (by decide), ?_⟩
    rw [hg j (by omega), ← Int32.ofNat_sub _ _ (show j ≤ k by omega)]
    refine c_power (by omega) ?_
    simp only [olet_iff, zi_succ]
    exact hR
  · unfold f_X2_shiftOf_B21
    rw [if_pos (by rw [zi_lt (by omega) (by omega)]; omega)]
    exact hQ
theorem c_laysMoments (d : zm_d m) {a : Nat → Int32} (ha : w.2.1 1 = a) {n l o : Nat} (hr : zRow a n l o) {Q : zw_H → Prop} (hQ : ∀ v, zSl w v → zLD v a n l (fun _ _ _ => True) → Q (zm_o m v h)) : f_X2_laysMoments K (some (m 0)) (zm_o m w h) Q X := by
  have hr0 := hr
  obtain ⟨hn, h24, hl, h2, h5, -⟩ := hr
  have hp5 := zi_p5 h5
  unfold f_X2_laysMoments
  refine zl2_inv (B := f_X2_laysMoments_B2 K Q X _ (some (m 0))) (fun i x hh => x = Int32.ofNat i ∧ ∃ v, hh = zm_o m v h ∧ zSl w v ∧ zLD v a n l (fun p q r => p = l ∧ q < i)) (n := 2 ^ l) (fun R i hi x hh hp hR => ?_) (fun R x hh hp => ?_) (2 ^ l) zfu 0 (by omega) (Nat.lt_of_le_of_lt hp5 (by decide)) _ _ ⟨rfl, w, rfl, zSl.refl w, fun p q r h1 h2 h3 h4 => absurd h4.2 (Nat.not_lt_zero q)⟩
  · obtain ⟨rfl, v, rfl, hs, hd⟩ := hp
    have hrow : v.2.1 1 = a := hs.row.trans ha
    unfold f_X2_laysMoments_B2
    rw [e_a3 d, hrow, hl, zi_shl (by omega), if_neg (by rw [zi_le (by omega) (by omega)]; omega), zm_c d]
    refine c_laysLeaf d hrow hr0 hi hd (fun u hu hd2 => ?_)
    simp only [olet_iff, zi_succ]
    refine hR _ _ ⟨rfl, u, rfl, hs.trans hu, fun p q r h1 h2 h3 h4 => hd2 p q r h1 h2 h3 ?_⟩
    rcases Nat.lt_or_ge q i with g | g
    · exact Or.inl ⟨h4.1, g⟩
    · exact Or.inr ⟨h4.1, by omega⟩
  · obtain ⟨rfl, v, rfl, hs, hd⟩ := hp
    have hrow : v.2.1 1 = a := hs.row.trans ha
    unfold f_X2_laysMoments_B2
    rw [e_a3 d, hrow, hl, zi_shl (by omega), if_pos (by rw [zi_le (by omega) (by omega)]; omega)]
    dsimp only
    rw [e_a3 d, hrow, hl]
    simp only [olet_iff]
    refine zl2_inv (B := f_X2_laysMoments_B34 K Q X _ (some (m 0))) (fun c x hh => x = Int32.ofNat (l - c) - 1 ∧ ∃ v, hh = zm_o m v h ∧ zSl w v ∧ zLD v a n l (fun p q r => l - c ≤ p)) (n := l) (fun R c hc x hh hp hR => ?_) (fun R x hh hp => ?_) l zfu 0 (by omega) (Nat.lt_of_le_of_lt h5 (by decide)) _ _ ⟨rfl, v, rfl, hs, fun p q r h1 h2 h3 h4 => hd p q r h1 h2 h3 ⟨by omega, by rw [show p = l by omega] at h2; exact h2⟩⟩
    · obtain ⟨rfl, v, rfl, hs, hd⟩ := hp
      have e1 : Int32.ofNat (l - c) - 1 = Int32.ofNat (l - (c + 1)) := by
        rw [show l - (c + 1) = l - c - 1 by omega]
        exact (Int32.ofNat_sub (l - c) 1 (by omega)).symm
      unfold f_X2_laysMoments_B34
      rw [e1, if_neg (zi_nn (a := l - (c + 1)) (by omega))]
      have hlev : l - (c + 1) < 5 := by omega
      have hlev2 : l - c = l - (c + 1) + 1 := by omega
      have hr9 : l - (l - (c + 1)) = c + 1 := by omega
      have hr8 : l - (l - (c + 1) + 1) = c := by omega
      have hr7 : l - (c + 1) + 1 ≤ l := by omega
      rw [hlev2] at hd
      generalize hlv : l - (c + 1) = lev at hlev hr9 hr8 hr7 hd
      have hp5 := zi_p5 (show lev ≤ 5 by omega)
      refine zl2_inv (B := f_X2_laysMoments_B40 K Q X _ (some (m 0)) (Int32.ofNat lev)) (fun i x hh => x = Int32.ofNat i ∧ ∃ v, hh = zm_o m v h ∧ zSl w v ∧ zLD v a n l (fun p q r => lev + 1 ≤ p ∨ (p = lev ∧ q < i))) (n := 2 ^ lev) (fun R2 i hi x hh hp hR2 => ?_) (fun R2 x hh hp => ?_) (2 ^ lev) zfu 0 (by omega) (Nat.lt_of_le_of_lt hp5 (by decide)) _ _ ⟨rfl, v, rfl, hs, fun p q r h1 h2 h3 h4 => hd p q r h1 h2 h3 (h4.elim id (fun g => absurd g.2 (Nat.not_lt_zero q)))⟩
      · obtain ⟨rfl, v, rfl, hs, hd⟩ := hp
        unfold f_X2_laysMoments_B40
        rw [zi_shl (by omega), if_neg (by rw [zi_le (by omega) (by omega)]; omega)]
        refine zl2_inv (B := f_X2_laysMoments_B49 K Q X _ (some (m 0)) (Int32.ofNat lev) (Int32.ofNat i)) (fun k x hh => x = Int32.ofNat k ∧ ∃ v, hh = zm_o m v h ∧ zSl w v ∧ zLD v a n l (fun p q r => lev + 1 ≤ p ∨ (p = lev ∧ q < i) ∨ (p = lev ∧ q = i ∧ r < k))) (n := 5) (fun R3 k hk x hh hp hR3 => ?_) (fun R3 x hh hp => ?_) 5 zfu 0 (by omega) (by decide) _ _ ⟨rfl, v, rfl, hs, fun p q r h1 h2 h3 h4 => hd p q r h1 h2 h3 (h4.imp id (fun g => g.elim id (fun g => absurd g.2.2 (Nat.not_lt_zero r))))⟩
        · obtain ⟨rfl, v, rfl, hs, hd⟩ := hp
          unfold f_X2_laysMoments_B49 f_X2_laidAt
          have hi2 : 2 * i < 2 ^ (lev + 1) := by rw [Nat.pow_succ]; omega
          have hi3 : 2 * i + 1 < 2 ^ (lev + 1) := by rw [Nat.pow_succ]; omega
          have e2 : (2 : Int32) * Int32.ofNat i = Int32.ofNat (2 * i) := (Int32.ofNat_mul 2 i).symm
          rw [if_neg (zi_c4 (by omega)), zm_g17 d]
          dsimp only
          rw [zm_c d, e2]
          refine c_shiftOf d (g := fun j => sp_shd a n l c (2 * i) j) hlev hi2 (by omega) (fun j hj => ?_) ?_
          · have := hd (lev + 1) (2 * i) j hr7 hi2 (by omega) (Or.inl (Nat.le_refl _))
            rw [hr8] at this
            exact this
          · rw [zm_c d, zi_succ]
            refine c_shiftOf d (g := fun j => sp_shd a n l c (2 * i + 1) j) hlev hi3 (by omega) (fun j hj => ?_) ?_
            · have := hd (lev + 1) (2 * i + 1) j hr7 hi3 (by omega) (Or.inl (Nat.le_refl _))
              rw [hr8] at this
              exact this
            · have hL := zL_lt (show lev ≤ 5 by omega) hi (show k ≤ 4 by omega)
              rw [zi_laid (by omega), zm_s17 d (by decide), zi_clamp (by omega)]
              refine ⟨zi_inn hL (by decide), ?_⟩
              simp only [olet_iff, zi_succ]
              refine hR3 _ _ ⟨rfl, _, rfl, ⟨hs.1, hs.2⟩, zLD_up hd hi (by omega) ?_ (fun p q r g => ?_)⟩
              · have er : sp_shd a n l (c + 1) i k = sp_sh1 (fun j => sp_shd a n l c (2 * i) j) (sp_by (l - (c + 1)) i (2 * i)) k (k + 1) + sp_sh1 (fun j => sp_shd a n l c (2 * i + 1) j) (sp_by (l - (c + 1)) i (2 * i + 1)) k (k + 1) := rfl
                rw [hr9, er, hlv]
              · rcases g with g | g | ⟨g1, g2, g3⟩
                · exact Or.inl (Or.inl g)
                · exact Or.inl (Or.inr (Or.inl g))
                · rcases Nat.lt_or_ge r k with g4 | g4
                  · exact Or.inl (Or.inr (Or.inr ⟨g1, g2, g4⟩))
                  · exact Or.inr ⟨g1, g2, by omega⟩
        · obtain ⟨rfl, v, rfl, hs, hd⟩ := hp
          unfold f_X2_laysMoments_B49
          rw [if_pos zi_c5]
          simp only [olet_iff, zi_succ]
          refine hR2 _ _ ⟨rfl, v, rfl, hs, fun p q r h1 h2 h3 h4 => hd p q r h1 h2 h3 ?_⟩
          rcases h4 with g | ⟨g1, g2⟩
          · exact Or.inl g
          · rcases Nat.lt_or_ge q i with g4 | g4
            · exact Or.inr (Or.inl ⟨g1, g4⟩)
            · exact Or.inr (Or.inr ⟨g1, by omega, by omega⟩)
      · obtain ⟨rfl, v, rfl, hs, hd⟩ := hp
        unfold f_X2_laysMoments_B40
        rw [zi_shl (by omega), if_pos (by rw [zi_le (by omega) (by omega)]; omega)]
        simp only [olet_iff]
        refine hR _ _ ⟨?_, v, rfl, hs, fun p q r h1 h2 h3 h4 => hd p q r h1 h2 h3 ?_⟩
        · rw [hlv, Int32.sub_eq_add_neg]
        · rcases Nat.lt_or_ge lev p with g4 | g4
          · exact Or.inl g4
          · have e : p = lev := by omega
            subst e
            exact Or.inr ⟨rfl, h2⟩
    · obtain ⟨rfl, v, rfl, hs, hd⟩ := hp
      unfold f_X2_laysMoments_B34
      rw [Nat.sub_self, if_pos (by decide)]
      exact hQ v hs (fun p q r h1 h2 h3 _ => hd p q r h1 h2 h3 (by omega))
theorem c_mgap (d : zm_d m) {a : Nat → Int32} (ha : w.2.1 1 = a) {n l o : Nat} (hr : zRow a n l o) (hd : zLD w a n l (fun _ _ _ => True)) {Q Q2 : Int64 → zw_H → Prop} (hQ : Q2 (sp_mg a n l (l + 1)) (zm_o m w h)) : zl3 (f_X2_momentGap_B17 K Q X Q2 (some (m 0))) zfu 0 0 (zm_o m w h) := by
  obtain ⟨hn, h24, hl, h2, h5, -⟩ := hr
  refine zl3_run (B := f_X2_momentGap_B17 K Q X Q2 (some (m 0))) (fun c => sp_mg a n l c) (fun c => Int32.ofNat c) (fun _ => zm_o m w h) (n := l + 1) (fun R c hc hR => ?_) (fun R => ?_) (l + 1) zfu 0 (by omega) (Nat.lt_of_le_of_lt (show l + 1 ≤ 6 by omega) (by decide))
  · unfold f_X2_momentGap_B17
    have hp5 := zi_p5 (show c ≤ 5 by omega)
    rw [e_a3 d, ha, hl, if_neg (by rw [zi_lt (by omega) (by omega)]; omega)]
    refine zl3_run (B := f_X2_momentGap_B30 K Q X _ (some (m 0)) (Int32.ofNat c)) (fun i => sp_mg1 a n l c (sp_mg a n l c) i) (fun i => Int32.ofNat i) (fun _ => zm_o m w h) (n := 2 ^ c) (fun R2 i hi hR2 => ?_) (fun R2 => ?_) (2 ^ c) zfu 0 (by omega) (Nat.lt_of_le_of_lt hp5 (by decide))
    · unfold f_X2_momentGap_B30
      rw [zi_shl (by omega), if_neg (by rw [zi_le (by omega) (by omega)]; omega)]
      refine zl3_run (B := f_X2_momentGap_B41 K Q X _ (some (m 0)) (Int32.ofNat c) (Int32.ofNat i)) (fun k => sp_mg2 a n l c i (sp_mg1 a n l c (sp_mg a n l c) i) k) (fun k => Int32.ofNat k) (fun _ => zm_o m w h) (n := 5) (fun R3 k hk hR3 => ?_) (fun R3 => ?_) 5 zfu 0 (by omega) (by decide)
      · unfold f_X2_momentGap_B41 f_X2_momentGap_J89 f_X2_laidAt
        have hL := zL_lt (show c ≤ 5 by omega) hi (show k ≤ 4 by omega)
        rw [if_neg (zi_c4 (by omega)), zm_c d]
        refine c_momentOf d (n := n) (by rw [ha]; exact hn) h24 (by omega) (zi_wide0 (by omega)) ?_
        dsimp only
        rw [zm_g17 d, zi_laid (by omega), zm_r17 d (by decide), zi_clamp (by omega)]
        refine ⟨zi_inn hL (by decide), ?_⟩
        rw [ha, hd c i k (by omega) hi (by omega) trivial]
        simp only [olet_iff, zi_succ]
        have es : sp_mg2 a n l c i (sp_mg1 a n l c (sp_mg a n l c) i) (k + 1) = sp_mg2 a n l c i (sp_mg1 a n l c (sp_mg a n l c) i) k + sp_gap1 a n l c i k := rfl
        rw [es] at hR3
        unfold sp_gap1 at hR3
        split
        · rename_i g
          rw [if_pos g] at hR3
          exact hR3
        · rename_i g
          rw [if_neg g] at hR3
          exact hR3
      · unfold f_X2_momentGap_B41
        rw [if_pos zi_c5]
        simp only [olet_iff, zi_succ]
        exact hR2
    · unfold f_X2_momentGap_B30
      rw [zi_shl (by omega), if_pos (by rw [zi_le (by omega) (by omega)]; omega)]
      simp only [olet_iff, zi_succ]
      exact hR
  · unfold f_X2_momentGap_B17
    rw [e_a3 d, ha, hl, if_pos (by rw [zi_lt (by omega) (by omega)]; omega)]
    exact hQ
end ZM15
