set_option maxRecDepth 100000
/-! doubles: bounds of their magnitudes, in units of the least one -/
section ZFP
theorem zf_leading {A B : Nat} (hA : 0 < A) (hB : 0 < B) : B * 2 ^ (FP.Core.leading A B).toNat ≤ A * 2 ^ (-FP.Core.leading A B).toNat := by
  unfold FP.Core.leading
  dsimp only
  split
  · assumption
  · have h1 : 2 ^ A.log2 ≤ A := Nat.log2_self_le (by omega)
    have h2 : B < 2 ^ (B.log2 + 1) := Nat.lt_log2_self
    rcases Nat.lt_or_ge B.log2 A.log2 with h | h
    · obtain ⟨d, hd⟩ : ∃ d, A.log2 = B.log2 + 1 + d := ⟨A.log2 - B.log2 - 1, by omega⟩
      have e1 : ((A.log2 : Int) - (B.log2 : Int) - 1).toNat = d := by omega
      have e2 : (-((A.log2 : Int) - (B.log2 : Int) - 1)).toNat = 0 := by omega
      rw [e1, e2, Nat.pow_zero, Nat.mul_one]
      have h3 : B * 2 ^ d ≤ 2 ^ (B.log2 + 1) * 2 ^ d := Nat.mul_le_mul_right _ (Nat.le_of_lt h2)
      rw [← Nat.pow_add, ← hd] at h3
      omega
    · obtain ⟨d, hd⟩ : ∃ d, B.log2 = A.log2 + d := ⟨B.log2 - A.log2, by omega⟩
      have e1 : ((A.log2 : Int) - (B.log2 : Int) - 1).toNat = 0 := by omega
      have e2 : (-((A.log2 : Int) - (B.log2 : Int) - 1)).toNat = d + 1 := by omega
      rw [e1, e2, Nat.pow_zero, Nat.mul_one]
      have h3 : 2 ^ A.log2 * 2 ^ (d + 1) ≤ A * 2 ^ (d + 1) := Nat.mul_le_mul_right _ h1
      rw [← Nat.pow_add, show A.log2 + (d + 1) = B.log2 + 1 by omega] at h3
      omega
theorem zf_near_le (A B : Nat) : FP.Core.nearest A B ≤ A / B + 1 := by
  unfold FP.Core.nearest
  split
  · omega
  · split
    · omega
    · have := Nat.mod_lt (A / B) (show 0 < 2 by decide)
      omega
theorem zf_near_ge (A B : Nat) : A / B ≤ FP.Core.nearest A B := by
  unfold FP.Core.nearest
  split
  · omega
  · split <;> omega
theorem zf_leading2 {A B : Nat} (hA : 0 < A) (hB : 0 < B) : A * 2 ^ (-FP.Core.leading A B).toNat < 2 * B * 2 ^ (FP.Core.leading A B).toNat := by
  unfold FP.Core.leading
  dsimp only
  split
  · have h1 : 2 ^ B.log2 ≤ B := Nat.log2_self_le (by omega)
    have h2 : A < 2 ^ (A.log2 + 1) := Nat.lt_log2_self
    rcases Nat.lt_or_ge B.log2 A.log2 with h | h
    · obtain ⟨d, hd⟩ : ∃ d, A.log2 = B.log2 + d := ⟨A.log2 - B.log2, by omega⟩
      have e1 : ((A.log2 : Int) - (B.log2 : Int)).toNat = d := by omega
      have e2 : (-((A.log2 : Int) - (B.log2 : Int))).toNat = 0 := by omega
      rw [e1, e2, Nat.pow_zero, Nat.mul_one]
      have h3 : 2 ^ B.log2 * 2 ^ d ≤ B * 2 ^ d := Nat.mul_le_mul_right _ h1
      rw [← Nat.pow_add, ← hd] at h3
      rw [Nat.pow_succ] at h2
      rw [Nat.mul_assoc]
      omega
    · obtain ⟨d, hd⟩ : ∃ d, B.log2 = A.log2 + d := ⟨B.log2 - A.log2, by omega⟩
      have e1 : ((A.log2 : Int) - (B.log2 : Int)).toNat = 0 := by omega
      have e2 : (-((A.log2 : Int) - (B.log2 : Int))).toNat = d := by omega
      rw [e1, e2, Nat.pow_zero, Nat.mul_one]
      have h3 : A * 2 ^ d < 2 ^ (A.log2 + 1) * 2 ^ d := Nat.mul_lt_mul_of_pos_right h2 (Nat.two_pow_pos _)
      rw [← Nat.pow_add, show A.log2 + 1 + d = B.log2 + 1 by omega, Nat.pow_succ] at h3
      omega
  · rename_i hn
    have hn := Nat.not_le.mp hn
    rcases Nat.lt_or_ge B.log2 A.log2 with h | h
    · obtain ⟨d, hd⟩ : ∃ d, A.log2 = B.log2 + 1 + d := ⟨A.log2 - B.log2 - 1, by omega⟩
      have e1 : ((A.log2 : Int) - (B.log2 : Int) - 1).toNat = d := by omega
      have e2 : (-((A.log2 : Int) - (B.log2 : Int) - 1)).toNat = 0 := by omega
      have e3 : ((A.log2 : Int) - (B.log2 : Int)).toNat = d + 1 := by omega
      have e4 : (-((A.log2 : Int) - (B.log2 : Int))).toNat = 0 := by omega
      rw [e3, e4, Nat.pow_zero, Nat.mul_one, Nat.pow_succ] at hn
      rw [e1, e2, Nat.pow_zero, Nat.mul_one, Nat.mul_assoc]
      have : B * (2 ^ d * 2) = 2 * (B * 2 ^ d) := by rw [← Nat.mul_assoc, Nat.mul_comm]
      omega
    · obtain ⟨d, hd⟩ : ∃ d, B.log2 = A.log2 + d := ⟨B.log2 - A.log2, by omega⟩
      have e1 : ((A.log2 : Int) - (B.log2 : Int) - 1).toNat = 0 := by omega
      have e2 : (-((A.log2 : Int) - (B.log2 : Int) - 1)).toNat = d + 1 := by omega
      have e3 : ((A.log2 : Int) - (B.log2 : Int)).toNat = 0 := by omega
      have e4 : (-((A.log2 : Int) - (B.log2 : Int))).toNat = d := by omega
      rw [e3, e4, Nat.pow_zero, Nat.mul_one] at hn
      rw [e1, e2, Nat.pow_zero, Nat.mul_one, Nat.pow_succ]
      have : A * (2 ^ d * 2) = 2 * (A * 2 ^ d) := by rw [← Nat.mul_assoc, Nat.mul_comm]
      omega
/-- powers of two on both sides of a comparison -/
theorem zf_shift {a b i j u v : Nat} (h : i + v = j + u) : a * 2 ^ i ≤ b * 2 ^ j ↔ a * 2 ^ u ≤ b * 2 ^ v := by
  rcases Nat.le_total i u with g | g
  · obtain ⟨d, rfl⟩ := Nat.exists_eq_add_of_le g
    have e : v = j + d := by omega
    subst e
    rw [Nat.pow_add, Nat.pow_add, ← Nat.mul_assoc, ← Nat.mul_assoc]
    exact (Nat.mul_le_mul_right_iff (Nat.two_pow_pos d)).symm
  · obtain ⟨d, rfl⟩ := Nat.exists_eq_add_of_le g
    have e : j = v + d := by omega
    subst e
    rw [Nat.pow_add, Nat.pow_add, ← Nat.mul_assoc, ← Nat.mul_assoc]
    exact Nat.mul_le_mul_right_iff (Nat.two_pow_pos d)
theorem zf_shift_lt {a b i j u v : Nat} (h : i + v = j + u) : a * 2 ^ i < b * 2 ^ j ↔ a * 2 ^ u < b * 2 ^ v := by
  rw [← Nat.not_le, ← Nat.not_le, zf_shift (show j + u = i + v from h.symm)]
/-- what a rounding makes of num / den * 2^e -/
theorem zf_round {f : FP.Core.Fmt} (hp : 1 ≤ f.p) (s : Bool) {A B : Nat} (hA : 0 < A) (hB : 0 < B) (e : Int) : ∃ (q : Int) (m n d : Nat), f.qmin ≤ q ∧ n = A * 2 ^ (e - q).toNat ∧ d = B * 2 ^ (q - e).toNat ∧ 0 < d ∧ n / d ≤ m ∧ m ≤ n / d + 1 ∧ m ≤ 2 ^ f.p ∧ (q = f.qmin ∨ 2 ^ (f.p - 1) ≤ n / d) ∧ FP.Core.roundRatio f s A B e = if m < 2 ^ f.p then FP.Core.bound f s m q else FP.Core.bound f s f.tails (q + 1) := by
  have hmin : f.qmin ≤ FP.Core.quantum f A B e := Int.le_max_left _ _
  have hr : FP.Core.roundRatio f s A B e = FP.Core.settle f s (FP.Core.nearest (FP.Core.unitsNum A e (FP.Core.quantum f A B e)) (FP.Core.unitsDen B e (FP.Core.quantum f A B e))) (FP.Core.quantum f A B e) := by
    unfold FP.Core.roundRatio
    rw [if_neg (by omega)]
    rfl
  have hq1 : FP.Core.leading A B + e - ((f.p : Int) - 1) ≤ FP.Core.quantum f A B e := Int.le_max_right _ _
  have hq2 : FP.Core.quantum f A B e = f.qmin ∨ FP.Core.quantum f A B e = FP.Core.leading A B + e - ((f.p : Int) - 1) := by
    rcases Int.le_total (FP.Core.leading A B + e - ((f.p : Int) - 1)) f.qmin with h | h
    · exact Or.inl (Int.max_eq_left h)
    · exact Or.inr (Int.max_eq_right h)
  generalize FP.Core.quantum f A B e = q at hmin hr hq1 hq2
  have hd : 0 < FP.Core.unitsDen B e q := Nat.mul_pos hB (Nat.two_pow_pos _)
  refine ⟨q, FP.Core.nearest (FP.Core.unitsNum A e q) (FP.Core.unitsDen B e q), FP.Core.unitsNum A e q, FP.Core.unitsDen B e q, hmin, rfl, rfl, hd, zf_near_ge _ _, zf_near_le _ _, ?_, ?_, hr⟩
  · have h2 := zf_leading2 hA hB
    have h3 : FP.Core.unitsNum A e q < FP.Core.unitsDen B e q * 2 ^ f.p := by
      unfold FP.Core.unitsNum FP.Core.unitsDen
      rw [Nat.mul_assoc, ← Nat.pow_add]
      have h4 : A * 2 ^ (-FP.Core.leading A B).toNat < B * 2 ^ (1 + (FP.Core.leading A B).toNat) := by
        rw [Nat.pow_add, Nat.pow_one, ← Nat.mul_assoc, Nat.mul_comm B 2]
        exact h2
      have h5 : A * 2 ^ (e - q).toNat < B * 2 ^ ((1 + (FP.Core.leading A B).toNat) + (e - q).toNat - (-FP.Core.leading A B).toNat + (-FP.Core.leading A B).toNat - (-FP.Core.leading A B).toNat + 0) ∨ (1 + (FP.Core.leading A B).toNat) + (e - q).toNat < (-FP.Core.leading A B).toNat := by
        rcases Nat.lt_or_ge ((1 + (FP.Core.leading A B).toNat) + (e - q).toNat) (-FP.Core.leading A B).toNat with g | g
        · exact Or.inr g
        · refine Or.inl ((zf_shift_lt ?_).mp h4)
          omega
      rcases h5 with h5 | h5
      · exact Nat.lt_of_lt_of_le h5 (Nat.mul_le_mul_left _ (Nat.pow_le_pow_right (by decide) (by omega)))
      · have h6 : A * 2 ^ ((-FP.Core.leading A B).toNat - (1 + (FP.Core.leading A B).toNat)) < B * 2 ^ 0 := (zf_shift_lt (by omega)).mp h4
        have h7 : A * 2 ^ (e - q).toNat ≤ A * 2 ^ ((-FP.Core.leading A B).toNat - (1 + (FP.Core.leading A B).toNat)) := Nat.mul_le_mul_left _ (Nat.pow_le_pow_right (by decide) (by omega))
        have h8 : B * 2 ^ 0 ≤ B * 2 ^ ((q - e).toNat + f.p) := Nat.mul_le_mul_left _ (Nat.pow_le_pow_right (by decide) (by omega))
        omega
    have h4 : FP.Core.unitsNum A e q / FP.Core.unitsDen B e q < 2 ^ f.p := (Nat.div_lt_iff_lt_mul hd).mpr (by rw [Nat.mul_comm]; exact h3)
    have := zf_near_le (FP.Core.unitsNum A e q) (FP.Core.unitsDen B e q)
    omega
  · rcases hq2 with h | h
    · exact Or.inl h
    · right
      have h1 := zf_leading hA hB
      rw [Nat.le_div_iff_mul_le hd]
      unfold FP.Core.unitsNum FP.Core.unitsDen
      rw [show 2 ^ (f.p - 1) * (B * 2 ^ (q - e).toNat) = B * 2 ^ (f.p - 1 + (q - e).toNat) by rw [Nat.pow_add]; ac_rfl]
      refine (zf_shift ?_).mp h1
      omega
theorem zf_b64 : FP.Core.b64.qmin = -1074 ∧ FP.Core.b64.qmax = 971 ∧ FP.Core.b64.p = 53 ∧ FP.Core.b64.tails = 2 ^ 52 ∧ FP.Core.b64.exps = 2048 := by decide +kernel
theorem zf_up {s : Bool} {A B k : Nat} {e : Int} (hB : 0 < B) (he : -2148 ≤ e) (hk : k ≤ 2090) (h : A * 2 ^ (e + 2148).toNat ≤ B * 2 ^ (k + 1074)) :
    ∃ c q, FP.Core.roundRatio FP.Core.b64 s A B e = .fin s c q ∧ FP.Core.fits FP.Core.b64 (.fin s c q) ∧ c * 2 ^ (q + 1074).toNat ≤ 2 ^ (k + 1) ∧ (B * 2 ^ 2148 ≤ A * 2 ^ (e + 2148).toNat → 2 ^ 1074 ≤ c * 2 ^ (q + 1074).toNat) := by
  obtain ⟨b1, b2, b3, b4, b5⟩ := zf_b64
  rcases Nat.eq_zero_or_pos A with hA | hA
  · subst hA
    refine ⟨0, FP.Core.b64.qmin, by unfold FP.Core.roundRatio; rw [if_pos rfl], ?_, by rw [Nat.zero_mul]; exact Nat.zero_le _, fun h2 => ?_⟩
    · unfold FP.Core.fits
      rw [b1, b2, b3, b4]
      refine ⟨by decide, by decide, by decide, Or.inl rfl⟩
    · rw [Nat.zero_mul] at h2
      have := Nat.mul_pos hB (Nat.two_pow_pos 2148)
      omega
  · obtain ⟨q, m, n, d, h1, h2, h3, h4, h5, h6, h7, h8, h9⟩ := zf_round (f := FP.Core.b64) (by rw [b3]; decide) s hA hB e
    rw [b1] at h1 h8
    rw [b3] at h7 h8 h9
    rw [b4] at h9
    obtain ⟨z, hz⟩ : ∃ z : Nat, q = (z : Int) - 1074 := ⟨(q + 1074).toNat, by omega⟩
    subst hz
    have ez : ((z : Int) - 1074 + 1074).toNat = z := by omega
    have ez1 : ((z : Int) - 1074 + 1 + 1074).toNat = z + 1 := by omega
    -- the exact value in units
    have hup : n * 2 ^ z ≤ d * 2 ^ k := by
      rw [h2, h3, Nat.mul_assoc, Nat.mul_assoc, ← Nat.pow_add, ← Nat.pow_add]
      exact (zf_shift (by omega)).mp h
    have hlo : B * 2 ^ 2148 ≤ A * 2 ^ (e + 2148).toNat → d * 2 ^ 1074 ≤ n * 2 ^ z := by
      intro g
      rw [h2, h3, Nat.mul_assoc, Nat.mul_assoc, ← Nat.pow_add, ← Nat.pow_add]
      exact (zf_shift (by omega)).mp g
    have hdiv : n / d * 2 ^ z ≤ 2 ^ k := by
      have g1 : d * (n / d) ≤ n := Nat.mul_div_le n d
      have g2 : d * (n / d * 2 ^ z) ≤ d * 2 ^ k := by
        rw [← Nat.mul_assoc]
        exact Nat.le_trans (Nat.mul_le_mul_right _ g1) hup
      exact Nat.le_of_mul_le_mul_left g2 h4
    have hm : m * 2 ^ z ≤ 2 ^ (k + 1) := by
      rcases h8 with h8 | h8
      · have e0 : z = 0 := by omega
        subst e0
        have := Nat.two_pow_pos k
        rw [Nat.pow_succ]
        omega
      · have g : m ≤ 2 * (n / d) := by omega
        have g3 : m * 2 ^ z ≤ 2 * (n / d) * 2 ^ z := Nat.mul_le_mul_right _ g
        rw [Nat.mul_assoc] at g3
        rw [Nat.pow_succ]
        omega
    have hmlo : d * 2 ^ 1074 ≤ n * 2 ^ z → 2 ^ 1074 ≤ m * 2 ^ z := by
      intro g
      rcases Nat.le_total z 1074 with hz | hz
      · obtain ⟨w, hw⟩ := Nat.exists_eq_add_of_le hz
        have g1 : d * 2 ^ w ≤ n * 2 ^ 0 := (zf_shift (by omega)).mp g
        rw [Nat.pow_zero, Nat.mul_one] at g1
        have g2 : 2 ^ w ≤ n / d := (Nat.le_div_iff_mul_le h4).mpr (by rw [Nat.mul_comm]; exact g1)
        have g3 : 2 ^ w * 2 ^ z ≤ m * 2 ^ z := Nat.mul_le_mul_right _ (Nat.le_trans g2 h5)
        rw [← Nat.pow_add, show w + z = 1074 by omega] at g3
        exact g3
      · have g1 : 2 ^ 52 ≤ n / d := by
          rcases h8 with h8 | h8
          · omega
          · exact h8
        have g2 : 2 ^ 1074 ≤ 1 * 2 ^ z := by rw [Nat.one_mul]; exact Nat.pow_le_pow_right (by decide) hz
        exact Nat.le_trans g2 (Nat.mul_le_mul_right _ (by omega))
    have hzk : 2 ^ 52 ≤ m → z + 52 ≤ k + 1 := by
      intro g
      have g1 : 2 ^ 52 * 2 ^ z ≤ 2 ^ (k + 1) := Nat.le_trans (Nat.mul_le_mul_right _ g) hm
      rw [← Nat.pow_add] at g1
      have := (Nat.pow_le_pow_iff_right (show 1 < 2 by decide)).mp g1
      omega
    rcases Nat.lt_or_ge m (2 ^ 53) with hl | hl
    · rw [if_pos hl] at h9
      have hq : (z : Int) - 1074 ≤ 971 := by
        rcases h8 with h8 | h8
        · omega
        · have := hzk (by omega)
          omega
      unfold FP.Core.bound at h9
      rw [if_pos (by rw [b2]; exact hq)] at h9
      refine ⟨m, _, h9, ?_, by rw [ez]; exact hm, fun g => by rw [ez]; exact hmlo (hlo g)⟩
      unfold FP.Core.fits
      rw [b1, b2, b3, b4]
      refine ⟨hl, by omega, hq, ?_⟩
      rcases h8 with h8 | h8
      · exact Or.inl h8
      · exact Or.inr (Nat.le_trans h8 h5)
    · rw [if_neg (by omega)] at h9
      have e53 : m = 2 ^ 53 := by omega
      have hq : (z : Int) - 1074 + 1 ≤ 971 := by
        have := hzk (by omega)
        omega
      unfold FP.Core.bound at h9
      rw [if_pos (by rw [b2]; exact hq)] at h9
      have e54 : 2 ^ 52 * 2 ^ (z + 1) = m * 2 ^ z := by
        rw [e53, ← Nat.pow_add, ← Nat.pow_add]
        congr 1
        omega
      refine ⟨2 ^ 52, _, h9, ?_, by rw [ez1, e54]; exact hm, fun g => by rw [ez1, e54]; exact hmlo (hlo g)⟩
      unfold FP.Core.fits
      rw [b1, b2, b3, b4]
      exact ⟨by decide, by omega, hq, Or.inr (Nat.le_refl _)⟩
theorem zf_asm (s : Bool) {x t : Nat} (hx : x < 2047) (ht : t < 2 ^ 52) (n : Nat) (hn : n = (UInt64.ofNat (FP.Core.assemble FP.Core.b64 s x t)).toNat) : n % 2 ^ 52 = t ∧ n / 2 ^ 52 % 2048 = x ∧ (n / 2 ^ 52 / 2048 % 2 == 1) = s := by
  obtain ⟨b1, b2, b3, b4, b5⟩ := zf_b64
  have e : FP.Core.assemble FP.Core.b64 s x t = (s.toNat * 2048 + x) * 2 ^ 52 + t := by unfold FP.Core.assemble; rw [b4, b5]
  have hs : s.toNat ≤ 1 := by cases s <;> decide
  have hlt : (s.toNat * 2048 + x) * 2 ^ 52 + t < 2 ^ 64 := by omega
  rw [e, UInt64.toNat_ofNat_of_lt' hlt] at hn
  subst hn
  refine ⟨by omega, by omega, ?_⟩
  have : ((s.toNat * 2048 + x) * 2 ^ 52 + t) / 2 ^ 52 / 2048 % 2 = s.toNat := by omega
  rw [this]
  cases s <;> rfl
theorem zf_dec {s : Bool} {c : Nat} {q : Int} (h : FP.Core.fits FP.Core.b64 (.fin s c q)) : FP.Core.decode FP.Core.b64 (UInt64.ofNat (FP.Core.encode FP.Core.b64 (.fin s c q))).toNat = .fin s c q := by
  obtain ⟨b1, b2, b3, b4, b5⟩ := zf_b64
  unfold FP.Core.fits at h
  rw [b1, b2, b3, b4] at h
  obtain ⟨h1, h2, h3, h4⟩ := h
  have e2047 : FP.Core.b64.exps - 1 = 2047 := by rw [b5]
  rcases Nat.lt_or_ge c (2 ^ 52) with g | g
  · have hq : q = -1074 := by omega
    have e : FP.Core.encode FP.Core.b64 (.fin s c q) = FP.Core.assemble FP.Core.b64 s 0 c := by unfold FP.Core.encode; dsimp only; rw [if_pos (by rw [b4]; exact g)]
    rw [e]
    obtain ⟨k1, k2, k3⟩ := zf_asm s (show 0 < 2047 by decide) g _ rfl
    unfold FP.Core.decode FP.Core.fieldE FP.Core.fieldT FP.Core.fieldS
    rw [b4, b5, k1, k2, k3, if_neg (by decide), if_pos rfl, b1, hq]
  · have e : FP.Core.encode FP.Core.b64 (.fin s c q) = FP.Core.assemble FP.Core.b64 s ((q + 1074).toNat + 1) (c - 2 ^ 52) := by
      unfold FP.Core.encode; dsimp only
      rw [if_neg (by rw [b4]; omega), b1, b4]
      congr 2
    rw [e]
    obtain ⟨k1, k2, k3⟩ := zf_asm s (x := (q + 1074).toNat + 1) (t := c - 2 ^ 52) (by omega) (by omega) _ rfl
    unfold FP.Core.decode FP.Core.fieldE FP.Core.fieldT FP.Core.fieldS
    rw [b4, b5, k1, k2, k3, if_neg (by omega), if_neg (by omega), b1]
    have e1 : 2 ^ 52 + (c - 2 ^ 52) = c := by omega
    have e2 : -1074 + ((((q + 1074).toNat + 1 : Nat) : Int) - 1) = q := by omega
    rw [e1, e2]
/-- the magnitude is at most 2^K units of 2^-1074 -/
def zBd (a : UInt64) (K : Nat) : Prop := ∃ s c q, FP.Core.decode FP.Core.b64 a.toNat = .fin s c q ∧ FP.Core.fits FP.Core.b64 (.fin s c q) ∧ c * 2 ^ (q + 1074).toNat ≤ 2 ^ K
/-- .. and at least 1 -/
def zLb (a : UInt64) : Prop := ∃ s c q, FP.Core.decode FP.Core.b64 a.toNat = .fin s c q ∧ 2 ^ 1074 ≤ c * 2 ^ (q + 1074).toNat
theorem zBd.mono {a : UInt64} {K K' : Nat} (h : zBd a K) (hk : K ≤ K') : zBd a K' := by
  obtain ⟨s, c, q, h1, h2, h3⟩ := h
  exact ⟨s, c, q, h1, h2, Nat.le_trans h3 (Nat.pow_le_pow_right (by decide) hk)⟩
theorem zBd.n64 {a : UInt64} {K : Nat} (h : zBd a K) : vf_n64 a := by
  obtain ⟨b1, b2, b3, b4, b5⟩ := zf_b64
  obtain ⟨s, c, q, h1, -, -⟩ := h
  unfold vf_n64
  rw [UInt64.le_iff_toNat_le, UInt64.toNat_and]
  have e : (0x7fffffffffffffff : UInt64).toNat = 2 ^ 63 - 1 := by decide
  have e2 : (0x7ff0000000000000 : UInt64).toNat = 2047 * 2 ^ 52 := by decide
  rw [e, e2, Nat.and_two_pow_sub_one_eq_mod]
  unfold FP.Core.decode at h1
  rw [b5] at h1
  by_cases g : FP.Core.fieldE FP.Core.b64 a.toNat = 2048 - 1
  · rw [if_pos g] at h1
    split at h1 <;> cases h1
  · unfold FP.Core.fieldE at g
    rw [b4, b5] at g
    omega
theorem zf_mk {x : UInt64} {d : FP.Core.Datum} {K : Nat} (hx : x = UInt64.ofNat (FP.Core.encode FP.Core.b64 d)) (h : ∃ s c q, d = .fin s c q ∧ FP.Core.fits FP.Core.b64 (.fin s c q) ∧ c * 2 ^ (q + 1074).toNat ≤ 2 ^ K) : zBd x K := by
  obtain ⟨s, c, q, rfl, h2, h3⟩ := h
  exact ⟨s, c, q, by rw [hx]; exact zf_dec h2, h2, h3⟩
theorem zf_ge {s : Bool} {c : Nat} {q : Int} (h : FP.Core.fits FP.Core.b64 (.fin s c q)) : -1074 ≤ q ∧ q ≤ 971 := by
  obtain ⟨b1, b2, b3, b4, b5⟩ := zf_b64
  unfold FP.Core.fits at h
  rw [b1, b2] at h
  exact ⟨h.2.1, h.2.2.1⟩
theorem zf_sum {s t : Bool} {c d K : Nat} {q r : Int} (hK : K ≤ 2089) (h1 : FP.Core.fits FP.Core.b64 (.fin s c q)) (h2 : FP.Core.fits FP.Core.b64 (.fin t d r)) (h3 : c * 2 ^ (q + 1074).toNat ≤ 2 ^ K) (h4 : d * 2 ^ (r + 1074).toNat ≤ 2 ^ K) :
    ∃ s' c' q', FP.Core.round FP.Core.b64 (FP.Core.exactSum (.fin s c q) (.fin t d r)) = .fin s' c' q' ∧ FP.Core.fits FP.Core.b64 (.fin s' c' q') ∧ c' * 2 ^ (q' + 1074).toNat ≤ 2 ^ (K + 2) := by
  have g1 := (zf_ge h1).1
  have g2 := (zf_ge h2).1
  have hm : -1074 ≤ min q r := by omega
  have hn : (FP.Core.sumUnits s c q t d r (min q r)).natAbs ≤ c * 2 ^ (q - min q r).toNat + d * 2 ^ (r - min q r).toNat := by
    unfold FP.Core.sumUnits FP.Core.inUnits FP.Core.signed
    split <;> split <;> omega
  obtain ⟨c', q', k1, k2, k3, -⟩ := zf_up (s := FP.Core.sumSign s t (FP.Core.sumUnits s c q t d r (min q r))) (A := (FP.Core.sumUnits s c q t d r (min q r)).natAbs) (B := 1) (k := K + 1) (e := min q r) (by decide) (by omega) (by omega) (by
    have e1 : c * 2 ^ (q - min q r).toNat * 2 ^ (min q r + 2148).toNat = c * 2 ^ (q + 1074).toNat * 2 ^ 1074 := by
      rw [Nat.mul_assoc, Nat.mul_assoc, ← Nat.pow_add, ← Nat.pow_add]; congr 2; omega
    have e2 : d * 2 ^ (r - min q r).toNat * 2 ^ (min q r + 2148).toNat = d * 2 ^ (r + 1074).toNat * 2 ^ 1074 := by
      rw [Nat.mul_assoc, Nat.mul_assoc, ← Nat.pow_add, ← Nat.pow_add]; congr 2; omega
    have e3 := Nat.mul_le_mul_right (2 ^ (min q r + 2148).toNat) hn
    rw [Nat.add_mul, e1, e2, ← Nat.add_mul] at e3
    have e4 : (c * 2 ^ (q + 1074).toNat + d * 2 ^ (r + 1074).toNat) * 2 ^ 1074 ≤ 2 ^ (K + 1) * 2 ^ 1074 := Nat.mul_le_mul_right _ (by rw [Nat.pow_succ]; omega)
    rw [← Nat.pow_add] at e4
    rw [Nat.one_mul]
    exact Nat.le_trans e3 e4)
  exact ⟨_, c', q', k1, k2, k3⟩
theorem zBd_add {a b : UInt64} {K : Nat} (ha : zBd a K) (hb : zBd b K) (hK : K ≤ 2089) : zBd (FP.dadd a b) (K + 2) := by
  obtain ⟨s, c, q, h1, h2, h3⟩ := ha
  obtain ⟨t, d, r, g1, g2, g3⟩ := hb
  exact zf_mk (d := FP.Core.round FP.Core.b64 (FP.Core.exactSum (FP.Core.decode FP.Core.b64 a.toNat) (FP.Core.decode FP.Core.b64 b.toNat))) rfl (by rw [h1, g1]; exact zf_sum hK h2 g2 h3 g3)
theorem zBd_sub {a b : UInt64} {K : Nat} (ha : zBd a K) (hb : zBd b K) (hK : K ≤ 2089) : zBd (FP.dsub a b) (K + 2) := by
  obtain ⟨s, c, q, h1, h2, h3⟩ := ha
  obtain ⟨t, d, r, g1, g2, g3⟩ := hb
  exact zf_mk (d := FP.Core.round FP.Core.b64 (FP.Core.exactSum (FP.Core.decode FP.Core.b64 a.toNat) (FP.Core.negate (FP.Core.decode FP.Core.b64 b.toNat)))) rfl (by rw [h1, g1]; exact zf_sum hK h2 g2 h3 g3)
theorem zf_mul {s t : Bool} {c d K K' : Nat} {q r : Int} (hK : 1074 ≤ K + K') (hK2 : K + K' ≤ 3164) (h1 : FP.Core.fits FP.Core.b64 (.fin s c q)) (h2 : FP.Core.fits FP.Core.b64 (.fin t d r)) (h3 : c * 2 ^ (q + 1074).toNat ≤ 2 ^ K) (h4 : d * 2 ^ (r + 1074).toNat ≤ 2 ^ K') :
    ∃ s' c' q', FP.Core.round FP.Core.b64 (FP.Core.exactProduct (.fin s c q) (.fin t d r)) = .fin s' c' q' ∧ FP.Core.fits FP.Core.b64 (.fin s' c' q') ∧ c' * 2 ^ (q' + 1074).toNat ≤ 2 ^ (K + K' - 1074 + 1) ∧ (2 ^ 1074 ≤ c * 2 ^ (q + 1074).toNat → 2 ^ 1074 ≤ d * 2 ^ (r + 1074).toNat → 2 ^ 1074 ≤ c' * 2 ^ (q' + 1074).toNat) := by
  have g1 := (zf_ge h1).1
  have g2 := (zf_ge h2).1
  have e1 : c * d * 2 ^ (q + r + 2148).toNat = (c * 2 ^ (q + 1074).toNat) * (d * 2 ^ (r + 1074).toNat) := by
    rw [show (q + r + 2148).toNat = (q + 1074).toNat + (r + 1074).toNat by omega, Nat.pow_add]; ac_rfl
  obtain ⟨c', q', k1, k2, k3, k4⟩ := zf_up (s := s != t) (A := c * d) (B := 1) (k := K + K' - 1074) (e := q + r) (by decide) (by omega) (by omega) (by
    rw [e1, Nat.one_mul, show K + K' - 1074 + 1074 = K + K' by omega, Nat.pow_add]
    exact Nat.mul_le_mul h3 h4)
  refine ⟨_, c', q', k1, k2, k3, fun l1 l2 => k4 ?_⟩
  rw [e1, Nat.one_mul, show (2148 : Nat) = 1074 + 1074 from rfl, Nat.pow_add]
  exact Nat.mul_le_mul l1 l2
theorem zBd_mul {a b : UInt64} {K K' : Nat} (ha : zBd a K) (hb : zBd b K') (hK : 1074 ≤ K + K') (hK2 : K + K' ≤ 3164) : zBd (FP.dmul a b) (K + K' - 1074 + 1) := by
  obtain ⟨s, c, q, h1, h2, h3⟩ := ha
  obtain ⟨t, d, r, g1, g2, g3⟩ := hb
  obtain ⟨s', c', q', k1, k2, k3, -⟩ := zf_mul hK hK2 h2 g2 h3 g3
  exact zf_mk (d := FP.Core.round FP.Core.b64 (FP.Core.exactProduct (FP.Core.decode FP.Core.b64 a.toNat) (FP.Core.decode FP.Core.b64 b.toNat))) rfl (by rw [h1, g1]; exact ⟨s', c', q', k1, k2, k3⟩)
theorem zLb_mul {a b : UInt64} {K K' : Nat} (ha : zBd a K) (hb : zBd b K') (la : zLb a) (lb : zLb b) (hK : 1074 ≤ K + K') (hK2 : K + K' ≤ 3164) : zLb (FP.dmul a b) := by
  obtain ⟨s, c, q, h1, h2, h3⟩ := ha
  obtain ⟨t, d, r, g1, g2, g3⟩ := hb
  obtain ⟨s1, c1, q1, l1, l2⟩ := la
  obtain ⟨t1, d1, r1, m1, m2⟩ := lb
  rw [h1] at l1
  cases l1
  rw [g1] at m1
  cases m1
  obtain ⟨s', c', q', k1, k2, k3, k4⟩ := zf_mul hK hK2 h2 g2 h3 g3
  refine ⟨s', c', q', ?_, k4 l2 m2⟩
  have e : FP.dmul a b = UInt64.ofNat (FP.Core.encode FP.Core.b64 (FP.Core.round FP.Core.b64 (FP.Core.exactProduct (FP.Core.decode FP.Core.b64 a.toNat) (FP.Core.decode FP.Core.b64 b.toNat)))) := rfl
  rw [e, h1, g1, k1]
  exact zf_dec k2
theorem zBd_div {a b : UInt64} {K K' : Nat} (ha : zBd a K) (hb : zBd b K') (lb : zLb b) (hK : K ≤ 2090) : zBd (FP.ddiv a b) (K + 1) := by
  obtain ⟨s, c, q, h1, h2, h3⟩ := ha
  obtain ⟨t, d, r, g1, g2, -⟩ := hb
  obtain ⟨t1, d1, r1, m1, m2⟩ := lb
  rw [g1] at m1
  cases m1
  have g3 := zf_ge h2
  have g4 := zf_ge g2
  have hd : 0 < d := Nat.pos_of_ne_zero (fun e => by rw [e, Nat.zero_mul] at m2; have := Nat.two_pow_pos 1074; omega)
  obtain ⟨c', q', k1, k2, k3, -⟩ := zf_up (s := s != t) (A := c) (B := d) (k := K) (e := q - r) hd (by omega) hK (by
    have e1 : c * 2 ^ (q - r + 2148).toNat * 2 ^ (r + 1074).toNat = c * 2 ^ (q + 1074).toNat * 2 ^ 2148 := by
      rw [Nat.mul_assoc, Nat.mul_assoc, ← Nat.pow_add, ← Nat.pow_add]; congr 2; omega
    have e2 : d * 2 ^ (K + 1074) * 2 ^ (r + 1074).toNat = d * 2 ^ (r + 1074).toNat * 2 ^ (K + 1074) := Nat.mul_right_comm _ _ _
    have e3 : c * 2 ^ (q + 1074).toNat * 2 ^ 2148 ≤ 2 ^ K * 2 ^ 2148 := Nat.mul_le_mul_right _ h3
    have e4 : 2 ^ 1074 * 2 ^ (K + 1074) ≤ d * 2 ^ (r + 1074).toNat * 2 ^ (K + 1074) := Nat.mul_le_mul_right _ m2
    refine Nat.le_of_mul_le_mul_right (c := 2 ^ (r + 1074).toNat) ?_ (Nat.two_pow_pos _)
    rw [e1, e2]
    refine Nat.le_trans e3 (Nat.le_trans (Nat.le_of_eq ?_) e4)
    rw [← Nat.pow_add, ← Nat.pow_add]
    congr 1
    omega)
  refine zf_mk (d := FP.Core.quotient FP.Core.b64 (FP.Core.decode FP.Core.b64 a.toNat) (FP.Core.decode FP.Core.b64 b.toNat)) rfl ?_
  rw [h1, g1]
  refine ⟨_, c', q', ?_, k2, k3⟩
  unfold FP.Core.quotient
  dsimp only
  rw [if_neg (by omega)]
  exact k1
theorem zf_int {i : Int} {j : Nat} (hj : i.natAbs ≤ 2 ^ j) (hj2 : j ≤ 100) : ∃ s c q, FP.Core.round FP.Core.b64 (FP.Core.ofInt i) = .fin s c q ∧ FP.Core.fits FP.Core.b64 (.fin s c q) ∧ c * 2 ^ (q + 1074).toNat ≤ 2 ^ (j + 1074 + 1) ∧ (i ≠ 0 → 2 ^ 1074 ≤ c * 2 ^ (q + 1074).toNat) := by
  obtain ⟨c', q', k1, k2, k3, k4⟩ := zf_up (s := decide (i < 0)) (A := i.natAbs) (B := 1) (k := j + 1074) (e := 0) (by decide) (by omega) (by omega) (by
    have := Nat.mul_le_mul_right (2 ^ (0 + 2148 : Int).toNat) hj
    rw [Nat.one_mul]
    refine Nat.le_trans this (Nat.le_of_eq ?_)
    rw [← Nat.pow_add]
    congr 1)
  refine ⟨_, c', q', k1, k2, k3, fun hi => k4 ?_⟩
  exact Nat.mul_le_mul (show 1 ≤ i.natAbs by omega) (Nat.le_refl _)
theorem zBd_i2d (v : Int32) : zBd (FP.i2d v) 1107 := by
  obtain ⟨s, c, q, k1, k2, k3, -⟩ := zf_int (i := v.toInt) (j := 32) (by have h1 := v.toInt_lt; have h2 := v.le_toInt; omega) (by decide)
  exact zf_mk (d := FP.Core.round FP.Core.b64 (FP.Core.ofInt v.toInt)) rfl ⟨s, c, q, k1, k2, k3⟩
theorem zLb_i2d {v : Int32} (h : v ≠ 0) : zLb (FP.i2d v) := by
  obtain ⟨s, c, q, k1, k2, k3, k4⟩ := zf_int (i := v.toInt) (j := 32) (by have h1 := v.toInt_lt; have h2 := v.le_toInt; omega) (by decide)
  refine ⟨s, c, q, ?_, k4 (fun e => h (Int32.toInt_inj.mp (by rw [e]; rfl)))⟩
  have e : FP.i2d v = UInt64.ofNat (FP.Core.encode FP.Core.b64 (FP.Core.round FP.Core.b64 (FP.Core.ofInt v.toInt))) := rfl
  rw [e, k1]
  exact zf_dec k2
theorem zBd_l2d (v : Int64) : zBd (FP.l2d v) 1139 := by
  obtain ⟨s, c, q, k1, k2, k3, -⟩ := zf_int (i := v.toInt) (j := 64) (by have h1 := v.toInt_lt; have h2 := v.le_toInt; omega) (by decide)
  exact zf_mk (d := FP.Core.round FP.Core.b64 (FP.Core.ofInt v.toInt)) rfl ⟨s, c, q, k1, k2, k3⟩
theorem zBd_0 : zBd FP.dconst0 1074 := ⟨false, 0, -1074, by decide +kernel, by unfold FP.Core.fits; decide +kernel, by rw [Nat.zero_mul]; exact Nat.zero_le _⟩
theorem zLb_1 : zLb FP.dconst1 := ⟨false, 2 ^ 52, -52, by decide +kernel, by rw [← Nat.pow_add]; exact Nat.pow_le_pow_right (by decide) (by decide)⟩
theorem zBd_1 : zBd FP.dconst1 1074 := ⟨false, 2 ^ 52, -52, by decide +kernel, by unfold FP.Core.fits; decide +kernel, by rw [← Nat.pow_add]; exact Nat.pow_le_pow_right (by decide) (by decide)⟩
theorem zf_b32 : FP.Core.b32.qmin = -149 ∧ FP.Core.b32.qmax = 104 ∧ FP.Core.b32.p = 24 ∧ FP.Core.b32.tails = 2 ^ 23 ∧ FP.Core.b32.exps = 256 := by decide +kernel
theorem zf_asm32 (s : Bool) {x t : Nat} (hx : x < 256) (ht : t < 2 ^ 23) (n : Nat) (hn : n = (UInt32.ofNat (FP.Core.assemble FP.Core.b32 s x t)).toNat) : n % 2 ^ 23 = t ∧ n / 2 ^ 23 % 256 = x ∧ (n / 2 ^ 23 / 256 % 2 == 1) = s ∧ n % 2 ^ 31 = x * 2 ^ 23 + t := by
  obtain ⟨b1, b2, b3, b4, b5⟩ := zf_b32
  have e : FP.Core.assemble FP.Core.b32 s x t = (s.toNat * 256 + x) * 2 ^ 23 + t := by unfold FP.Core.assemble; rw [b4, b5]
  have hs : s.toNat ≤ 1 := by cases s <;> decide
  have hlt : (s.toNat * 256 + x) * 2 ^ 23 + t < 2 ^ 32 := by omega
  rw [e, UInt32.toNat_ofNat_of_lt' hlt] at hn
  subst hn
  refine ⟨by omega, by omega, ?_, by omega⟩
  have : ((s.toNat * 256 + x) * 2 ^ 23 + t) / 2 ^ 23 / 256 % 2 = s.toNat := by omega
  rw [this]
  cases s <;> rfl
def zfit32 (c : Nat) (q : Int) : Prop := c < 2 ^ 24 ∧ -149 ≤ q ∧ q ≤ 104 ∧ (q = -149 ∨ 2 ^ 23 ≤ c)
theorem zf_dec32 {s : Bool} {c : Nat} {q : Int} (h : zfit32 c q) : FP.Core.decode FP.Core.b32 (UInt32.ofNat (FP.Core.encode FP.Core.b32 (.fin s c q))).toNat = .fin s c q ∧ (UInt32.ofNat (FP.Core.encode FP.Core.b32 (.fin s c q))).toNat % 2 ^ 31 ≤ 255 * 2 ^ 23 := by
  obtain ⟨b1, b2, b3, b4, b5⟩ := zf_b32
  obtain ⟨h1, h2, h3, h4⟩ := h
  rcases Nat.lt_or_ge c (2 ^ 23) with g | g
  · have hq : q = -149 := by omega
    have e : FP.Core.encode FP.Core.b32 (.fin s c q) = FP.Core.assemble FP.Core.b32 s 0 c := by unfold FP.Core.encode; dsimp only; rw [if_pos (by rw [b4]; exact g)]
    rw [e]
    obtain ⟨k1, k2, k3, k4⟩ := zf_asm32 s (show 0 < 256 by decide) g _ rfl
    refine ⟨?_, by omega⟩
    unfold FP.Core.decode FP.Core.fieldE FP.Core.fieldT FP.Core.fieldS
    rw [b4, b5, k1, k2, k3, if_neg (by decide), if_pos rfl, b1, hq]
  · have e : FP.Core.encode FP.Core.b32 (.fin s c q) = FP.Core.assemble FP.Core.b32 s ((q + 149).toNat + 1) (c - 2 ^ 23) := by
      unfold FP.Core.encode
      dsimp only
      rw [if_neg (by rw [b4]; omega), b1, b4]
      congr 2
    rw [e]
    obtain ⟨k1, k2, k3, k4⟩ := zf_asm32 s (x := (q + 149).toNat + 1) (t := c - 2 ^ 23) (by omega) (by omega) _ rfl
    refine ⟨?_, by omega⟩
    unfold FP.Core.decode FP.Core.fieldE FP.Core.fieldT FP.Core.fieldS
    rw [b4, b5, k1, k2, k3, if_neg (by omega), if_neg (by omega), b1]
    have e1 : 2 ^ 23 + (c - 2 ^ 23) = c := by omega
    have e2 : -149 + ((((q + 149).toNat + 1 : Nat) : Int) - 1) = q := by omega
    rw [e1, e2]
theorem zf_rr32 (s : Bool) (A : Nat) {B : Nat} (hB : 0 < B) (e : Int) : FP.Core.roundRatio FP.Core.b32 s A B e = .inf s ∨ ∃ c q, FP.Core.roundRatio FP.Core.b32 s A B e = .fin s c q ∧ zfit32 c q := by
  obtain ⟨b1, b2, b3, b4, b5⟩ := zf_b32
  rcases Nat.eq_zero_or_pos A with hA | hA
  · subst hA
    exact Or.inr ⟨0, -149, by unfold FP.Core.roundRatio; rw [if_pos rfl, b1], by decide, by decide, by decide, Or.inl rfl⟩
  · obtain ⟨q, m, n, d, h1, h2, h3, h4, h5, h6, h7, h8, h9⟩ := zf_round (f := FP.Core.b32) (by rw [b3]; decide) s hA hB e
    rw [b1] at h1 h8
    rw [b3] at h7 h8 h9
    rw [b4] at h9
    unfold FP.Core.bound at h9
    rw [b2] at h9
    by_cases g : m < 2 ^ 24
    · rw [if_pos g] at h9
      by_cases g2 : q ≤ 104
      · rw [if_pos g2] at h9
        exact Or.inr ⟨m, q, h9, g, h1, g2, h8.imp id (fun h => Nat.le_trans h h5)⟩
      · rw [if_neg g2] at h9
        exact Or.inl h9
    · rw [if_neg g] at h9
      by_cases g2 : q + 1 ≤ 104
      · rw [if_pos g2] at h9
        exact Or.inr ⟨_, _, h9, by decide, by omega, g2, Or.inr (Nat.le_refl _)⟩
      · rw [if_neg g2] at h9
        exact Or.inl h9
theorem zf_i2f (v : Int32) : ∃ s c q, FP.Core.decode FP.Core.b32 (FP.i2f v).toNat = .fin s c q ∧ (v ≠ 0 → c ≠ 0) := by
  obtain ⟨b1, b2, b3, b4, b5⟩ := zf_b32
  have hv1 := v.toInt_lt
  have hv2 := v.le_toInt
  have e : FP.i2f v = UInt32.ofNat (FP.Core.encode FP.Core.b32 (FP.Core.roundRatio FP.Core.b32 (decide (v.toInt < 0)) v.toInt.natAbs 1 0)) := rfl
  rcases Nat.eq_zero_or_pos v.toInt.natAbs with hA | hA
  · refine ⟨decide (v.toInt < 0), 0, -149, ?_, fun h => absurd (Int32.toInt_inj.mp (by show v.toInt = 0; omega)) h⟩
    rw [e, hA]
    unfold FP.Core.roundRatio
    rw [if_pos rfl, b1]
    exact (zf_dec32 ⟨by decide, by decide, by decide, Or.inl rfl⟩).1
  · obtain ⟨q, m, n, d, h1, h2, h3, h4, h5, h6, h7, h8, h9⟩ := zf_round (f := FP.Core.b32) (by rw [b3]; decide) (decide (v.toInt < 0)) hA (show 0 < 1 by decide) 0
    rw [b1] at h1 h8
    rw [b3] at h7 h8 h9
    rw [b4] at h9
    have hq : q ≤ 8 := by
      by_cases g : 8 < q
      · have e1 : (0 - q).toNat = 0 := by omega
        rw [e1, Nat.pow_zero, Nat.mul_one] at h2
        rcases h8 with h8 | h8
        · omega
        · have g2 : 2 ^ 23 * d ≤ n := by
            have := Nat.mul_le_mul_right d h8
            exact Nat.le_trans this (Nat.div_mul_le_self n d)
          have g3 : 2 ^ 9 ≤ d := by
            rw [h3, Nat.one_mul]
            exact Nat.pow_le_pow_right (by decide) (by omega)
          omega
      · omega
    have hm : 1 ≤ m := by
      rcases h8 with h8 | h8
      · subst h8
        have e1 : ((-149 : Int) - 0).toNat = 0 := by decide
        rw [e1, Nat.pow_zero, Nat.mul_one] at h3
        have g1 : 1 * 1 ≤ n := by rw [h2]; exact Nat.mul_le_mul hA (Nat.two_pow_pos _)
        rw [h3, Nat.div_one] at h5
        omega
      · omega
    unfold FP.Core.bound at h9
    rw [b2] at h9
    by_cases g : m < 2 ^ 24
    · rw [if_pos g, if_pos (by omega)] at h9
      refine ⟨decide (v.toInt < 0), m, q, ?_, fun _ => by omega⟩
      rw [e, h9]
      exact (zf_dec32 ⟨g, h1, by omega, h8.imp id (fun h => Nat.le_trans h h5)⟩).1
    · rw [if_neg g, if_pos (by omega)] at h9
      refine ⟨decide (v.toInt < 0), 2 ^ 23, q + 1, ?_, fun _ => by decide⟩
      rw [e, h9]
      exact (zf_dec32 ⟨by decide, by omega, by omega, Or.inr (Nat.le_refl _)⟩).1
theorem zf_fdiv {a b : Int32} (hb : b ≠ 0) : vf_n32 (FP.fdiv (FP.i2f a) (FP.i2f b)) := by
  obtain ⟨b1, b2, b3, b4, b5⟩ := zf_b32
  obtain ⟨s, c, q, h1, -⟩ := zf_i2f a
  obtain ⟨t, d, r, g1, g2⟩ := zf_i2f b
  have g2 := g2 hb
  have e : FP.fdiv (FP.i2f a) (FP.i2f b) = UInt32.ofNat (FP.Core.encode FP.Core.b32 (FP.Core.quotient FP.Core.b32 (FP.Core.decode FP.Core.b32 (FP.i2f a).toNat) (FP.Core.decode FP.Core.b32 (FP.i2f b).toNat))) := rfl
  have e2 : FP.Core.quotient FP.Core.b32 (.fin s c q) (.fin t d r) = FP.Core.roundRatio FP.Core.b32 (s != t) c d (q - r) := by
    unfold FP.Core.quotient
    dsimp only
    rw [if_neg g2]
  unfold vf_n32
  rw [UInt32.le_iff_toNat_le, UInt32.toNat_and]
  have e3 : (0x7fffffff : UInt32).toNat = 2 ^ 31 - 1 := by decide
  have e4 : (0x7f800000 : UInt32).toNat = 255 * 2 ^ 23 := by decide
  rw [e3, e4, Nat.and_two_pow_sub_one_eq_mod, e, h1, g1, e2]
  rcases zf_rr32 (s != t) c (Nat.pos_of_ne_zero g2) (q - r) with h | ⟨c', q', h, hf⟩
  · rw [h]
    have k := (zf_asm32 (s != t) (show 255 < 256 by decide) (show 0 < 2 ^ 23 by decide) _ rfl).2.2.2
    have e5 : FP.Core.encode FP.Core.b32 (.inf (s != t)) = FP.Core.assemble FP.Core.b32 (s != t) 255 0 := by unfold FP.Core.encode; rw [b5]
    rw [e5]
    omega
  · rw [h]
    exact (zf_dec32 hf).2
theorem zf_nan {a : UInt64} (h : vf_n64 a) : FP.Core.decode FP.Core.b64 a.toNat ≠ .nan := by
  obtain ⟨b1, b2, b3, b4, b5⟩ := zf_b64
  unfold vf_n64 at h
  rw [UInt64.le_iff_toNat_le, UInt64.toNat_and] at h
  have e : (0x7fffffffffffffff : UInt64).toNat = 2 ^ 63 - 1 := by decide
  have e2 : (0x7ff0000000000000 : UInt64).toNat = 2047 * 2 ^ 52 := by decide
  rw [e, e2, Nat.and_two_pow_sub_one_eq_mod] at h
  unfold FP.Core.decode
  rw [b5]
  by_cases g : FP.Core.fieldE FP.Core.b64 a.toNat = 2048 - 1
  · rw [if_pos g]
    unfold FP.Core.fieldE at g
    unfold FP.Core.fieldT
    rw [b4, b5] at g
    rw [b4, if_pos (by omega)]
    exact FP.Core.Datum.noConfusion
  · rw [if_neg g]
    split <;> exact FP.Core.Datum.noConfusion
theorem zf_self {a : UInt64} (h : vf_n64 a) : FP.dcmp a a = some .eq := by
  have g := zf_nan h
  show FP.Core.order (FP.Core.decode FP.Core.b64 a.toNat) (FP.Core.decode FP.Core.b64 a.toNat) = _
  generalize FP.Core.decode FP.Core.b64 a.toNat = d at g
  have hc : ∀ x : Int, compare x x = .eq := fun x => by simp [compare, compareOfLessAndEq]
  cases d with
  | nan => exact absurd rfl g
  | inf s => exact congrArg some (hc _)
  | fin s c q => exact congrArg some (hc _)
end ZFP
