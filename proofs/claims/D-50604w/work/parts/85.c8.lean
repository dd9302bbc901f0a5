set_option maxRecDepth 100000
/-! lines that grow, and their copies -/
def zK2 (K : Nat → Option Nat) (h : zw_H) (z : zW) : Prop := ∀ t m f, h (z.1 2) = some (zAA t m f) → (t = 12 → K 2 = some (z.1 2)) ∧ (t = 5 → 0 < m)
abbrev zBc (a : Nat → Int32) (b : Nat) : zw_C := .inr (zkd a b, [.int (a (7 + 4 * b)), .int (a (7 + 4 * b + 1)), .int (a (7 + 4 * b + 3)), .int (zmv a b)])
abbrev zLi (z : zW) (mc : Int32) (E n : Nat) : zw_C := .inr (9, [.int mc, .ref E, .int (Int32.ofNat n)])
def zMa (K : Nat → Option Nat) (z : zW) (p : Nat) : Prop := p = z.1 1 ∨ (p = z.1 2 ∧ K 2 ≠ some (z.1 2))
/-- the addresses of a line with one body more -/
def zAd (z : zW) (E n q : Nat) : zW := (fun k => if k = 2 then E else z.1 k, z.2.1, fun b => if b = n then q else z.2.2 b)
theorem zkd_eq {a a' : Nat → Int32} {b : Nat} (e : a' (7 + 4 * b + 2) = a (7 + 4 * b + 2)) : zkd a' b = zkd a b ∧ zmv a' b = zmv a b := by
  unfold zkd zmv
  rw [e]
  exact ⟨rfl, rfl⟩
theorem zLn.addb {h h' : zw_H} {z : zW} {a a' : Nat → Int32} {n q E te cap : Nat} {fm mc : Int32} {f fe : zAr} (g : zLn h z a n fm f)
    (hfr : ∀ p, p ≠ z.1 1 → p ≠ z.1 2 → h p ≠ none → h' p = h p) (hl : h' (z.1 1) = some (zLi z mc E (n + 1))) (he : h' E = some (zAA te cap fe)) (hte : te = 5 ∨ te = 12) (hc : n + 1 ≤ cap) (hc2 : cap ≤ 40) (h12 : te = 12 → cap = 0) (hb : ∀ b, b < n → fe b = some (z.2.2 b)) (hbn : fe n = some q) (hq : h' q = some (zBc a' n)) (hne : ∀ b, b < n → q ≠ z.2.2 b)
    (e0 : ∀ k, k < 7 → k ≠ 0 → a' k = a k) (e1 : ∀ k, 7 ≤ k → k < 7 + 4 * n → a' k = a k) : zLn h' (zAd z E n q) a' (n + 1) fm f := by
  obtain ⟨g1, ⟨mc0, te0, cap0, fe0, g2, g3, g4⟩, g5, ⟨⟨fr, g6, g7⟩, g8, g9⟩, g10, ⟨ft, g11⟩, g12⟩ := g
  have key : ∀ {p : Nat} {c : zw_C}, h p = some c → c ≠ .inr (9, [.int mc0, .ref (z.1 2), .int (Int32.ofNat n)]) → c ≠ zAA te0 cap0 fe0 → h' p = some c := fun hp n1 n2 => (hfr _ (z_ne hp g2 n1) (z_ne hp g3 n2) (by rw [hp]; exact Option.some_ne_none _)).trans hp
  have te6 : te0 ≠ 6 ∧ te0 ≠ 7 ∧ te0 ≠ 0 := by rcases g4.1 with e | e <;> rw [e] <;> decide
  have z6 : ∀ l, (zAd z E n q).1 (6 + l) = z.1 (6 + l) := fun l => if_neg (by omega)
  refine ⟨?_, ⟨mc, te, cap, fe, hl, he, hte, hc, hc2, h12, fun b hb2 => ?_⟩, fun b hb2 => ?_, ⟨⟨fr, key g6 zn_lr (zn_ll (Or.inl (Ne.symm te6.2.1))), fun l hl => (g7 l hl).trans (congrArg some (z6 l).symm)⟩, fun l hl => ?_, fun l hl i hi => key (g9 l hl i hi) (zn_rr (by decide)) zn_rl⟩, key g10 zn_lr (zn_ll (Or.inl (Ne.symm te6.1))), ⟨ft, key g11 zn_lr (zn_ll (Or.inl (Ne.symm te6.2.2)))⟩, fun b c hb2 hc2 e => ?_⟩
  · unfold zl_obj
    rw [e0 3 (by decide) (by decide), e0 4 (by decide) (by decide), e0 5 (by decide) (by decide), e0 6 (by decide) (by decide), e0 1 (by decide) (by decide)]
    exact key g1 (zn_rr (by decide)) zn_rl
  · show fe b = some (if b = n then q else z.2.2 b)
    by_cases k : b = n
    · rw [if_pos k, k]
      exact hbn
    · rw [if_neg k]
      exact hb b (by omega)
  · show h' (if b = n then q else z.2.2 b) = _
    by_cases k : b = n
    · rw [if_pos k, k]
      exact hq
    · rw [if_neg k, e1 _ (by omega) (by omega), e1 _ (by omega) (by omega), e1 _ (by omega) (by omega), (zkd_eq (e1 (7 + 4 * b + 2) (by omega) (by omega))).1, (zkd_eq (e1 (7 + 4 * b + 2) (by omega) (by omega))).2]
      refine key (g5 b (by omega)) (zn_rr ?_) zn_rl
      rcases zkd_cases a b with e | e <;> rw [e] <;> decide
  · obtain ⟨fb, k1, k2⟩ := g8 l hl
    refine ⟨fb, ?_, k2⟩
    rw [z6 l]
    exact key k1 zn_lr (zn_ll (Or.inl (Ne.symm te6.1)))
  · have e : (if b = n then q else z.2.2 b) = (if c = n then q else z.2.2 c) := e
    by_cases k1 : b = n
    · by_cases k2 : c = n
      · rw [k1, k2]
      · rw [if_pos k1, if_neg k2] at e
        exact absurd e (hne c (by omega))
    · by_cases k2 : c = n
      · rw [if_neg k1, if_pos k2] at e
        exact absurd e.symm (hne b (by omega))
      · rw [if_neg k1, if_neg k2] at e
        exact g12 b c (by omega) (by omega) e
theorem zAd_ft {z : zW} {E n q p : Nat} (h : zFt (zAd z E n q) (n + 1) p) : zFt z n p ∨ p = E ∨ p = q := by
  rcases h with ⟨k, hk, rfl⟩ | ⟨l, i, hl, hi, rfl⟩ | ⟨b, hb, rfl⟩
  · by_cases e : k = 2
    · exact Or.inr (Or.inl (if_pos e))
    · exact Or.inl (Or.inl ⟨k, hk, if_neg e⟩)
  · exact Or.inl (Or.inr (Or.inl ⟨l, i, hl, hi, rfl⟩))
  · by_cases e : b = n
    · exact Or.inr (Or.inr (if_pos e))
    · exact Or.inl (Or.inr (Or.inr ⟨b, by omega, if_neg e⟩))
section ZC8
variable {K : Nat → Option Nat} {X : String → Nat → zw_H → Prop} {h : zw_H} {z : zW} {a : Nat → Int32} {n l o : Nat} {fm : Int32} {f : zAr}
theorem k_grow {p : Nat} {mc : Int32} {E n te cap : Nat} {fe : zAr} (hl : h p = some (.inr (9, [.int mc, .ref E, .int (Int32.ofNat n)]))) (he : h E = some (zAA te cap fe)) (hte : te = 5 ∨ te = 12) (hcap : cap = n) (hn : n < 24) (h12 : te = 12 → cap = 0 ∧ K 2 = some E) (h5 : te = 5 → 0 < cap) (h7 : ∃ q7, K 7 = some q7) (hok : ∀ b, b < n → ∃ q c fs, fe b = some q ∧ h q = some (.inr (c, fs)) ∧ c < 19)
    {Q : Option Nat → zw_H → Prop} (hQ : ∀ h' E' cap' fe', zFr (fun q => q = p) h h' → h E' = none → h' p = some (.inr (9, [.int mc, .ref E', .int (Int32.ofNat n)])) → h' E' = some (zAA 5 cap' fe') → n + 1 ≤ cap' → cap' ≤ 40 → (∀ b, b < n → fe' b = fe b) → Q (some E') h') : f_J12_grow K (some p) h Q X := by
  unfold f_J12_grow f_J12_grow_2 f_J12_grow_2_J20
  rw [k_gI hl (by decide) rfl, k_c hl (by decide), zi_succ, k_gA hl (by decide) rfl, k_l he (by rcases hte with e | e <;> rw [e] <;> decide)]
  subst hcap
  by_cases h0 : cap = 0
  · subst h0
    rw [if_neg (by decide), k_gA hl (by decide) rfl]
    by_cases k12 : te = 12
    · rw [if_pos (h12 k12).2.symm, e_max, show (if (10 : Int32) < Int32.ofNat (0 + 1) then Int32.ofNat (0 + 1) else 10) = 10 by decide]
      refine ⟨by decide, by decide, g_new (fun q h1 hq f1 c1 => ?_)⟩
      refine g_put (f1.at0 hl) (by decide) (show 1 < 3 by decide) (fun h2 f2 c2 => ?_)
      exact hQ h2 q 10 (fun _ => none) (f1.of0.trans f2) hq c2 (f2.at1 c1 (f1.at0 hl) zn_lr) (by omega) (by omega) (fun b hb => absurd hb (Nat.not_lt_zero b))
    · have := h5 (hte.elim id (fun k => absurd k k12))
      omega
  · have ht : te = 5 := hte.elim id (fun k => absurd (h12 k).1 h0)
    subst ht
    rw [if_pos (show (0 : Int32) < Int32.ofNat cap from (zi_lt (a := 0) (by decide) (by omega)).mpr (by omega)), ← Int32.ofNat_sub _ _ (show cap ≤ cap + 1 by omega), show cap + 1 - cap = 1 by omega]
    unfold f_J13_newLength
    rw [e_max, show Int32.ofNat cap >>> (1 &&& 31) = Int32.ofNat (cap / 2 ^ 1) from zi_shr (s := 1) (by omega) (by decide)]
    have em : (if Int32.ofNat 1 < Int32.ofNat (cap / 2 ^ 1) then Int32.ofNat (cap / 2 ^ 1) else Int32.ofNat 1) = Int32.ofNat (max 1 (cap / 2 ^ 1)) := by
      by_cases k : 1 < cap / 2 ^ 1
      · rw [if_pos ((zi_lt (by decide) (by omega)).mpr k), Nat.max_eq_right (by omega)]
      · rw [if_neg (fun e => k ((zi_lt (by decide) (by omega)).mp e)), Nat.max_eq_left (by omega)]
    rw [em, ← Int32.ofNat_add]
    simp only [olet_iff]
    have hmx : max 1 (cap / 2 ^ 1) ≤ 12 ∧ 1 ≤ max 1 (cap / 2 ^ 1) := by omega
    generalize max 1 (cap / 2 ^ 1) = mx at hmx
    rw [if_neg (by rw [show (0 : Int32) = Int32.ofNat 0 from rfl, zi_le (by omega) (by omega)]; omega), if_neg (by rw [show (2147483639 : Int32) = Int32.ofNat 2147483639 from rfl, zi_lt (by omega) (by omega)]; omega), k_gA hl (by decide) rfl]
    unfold f_J15_copyOf_2 f_J15_copyOf_3 f_J15_copyOf_3_J24 ogc_
    simp only [he]
    refine ⟨trivial, ?_⟩
    rw [if_neg (fun k => k rfl)]
    refine ⟨zi_nn (by omega), by rw [zi_clamp (by omega)]; omega, g_new (fun q h1 hq f1 c1 => ?_)⟩
    rw [zi_clamp (by omega)] at c1
    have l1 := f1.at0 hl
    have e1 := f1.at0 he
    rw [k_l e1 (by decide), e_min, if_neg (fun k => by have := (zi_lt (a := cap + mx) (b := cap) (by omega) (by omega)).mp k; omega)]
    unfold ocp_O
    simp only [e1, c1]
    rw [zi_clamp (by omega), show (0 : Int32).toNatClampNeg = 0 from rfl]
    refine ⟨trivial, trivial, by decide, by decide, zi_nn (by omega), by omega, by omega, fun i hi => ?_, ?_⟩
    · obtain ⟨q2, c, fs, m1, m2, m3⟩ := hok i hi
      rw [Nat.zero_add, m1]
      refine k_ok (f1.at0 m2) ?_
      have h9 : ∀ c : Nat, c < 19 → c ∈ [0, 1, 2, 3, 4, 5, 6, 7, 8, 9, 10, 11, 12, 13, 14, 15, 16, 17, 18] := by decide
      exact h9 c m3
    · have f2 : zFr zNo h (zw_up h1 q (zAA 5 (cap + mx) (va_cpy fe (fun _ => none) 0 0 cap))) := f1.own hq _
      have e2 := k_u1 h1 q (zAA 5 (cap + mx) (va_cpy fe (fun _ => none) 0 0 cap))
      have l2 := f2.at0 hl
      refine g_put l2 (by decide) (show 1 < 3 by decide) (fun h3 f3 c3 => ?_)
      refine hQ h3 q (cap + mx) _ (f2.of0.trans f3) hq c3 (f3.at1 e2 l2 zn_lr) (by omega) (by omega) (fun b hb => ?_)
      show (if 0 ≤ b ∧ b < 0 + cap then fe (0 + (b - 0)) else none) = fe b
      rw [if_pos ⟨Nat.zero_le b, by omega⟩, Nat.zero_add, Nat.sub_zero]
theorem k_add (g : zLn h z a n fm f) (hk : zK2 K h z) (hE : zE2 K h) (h7 : ∃ q7, K 7 = some q7) (hn : n < 24) {q : Nat} {a' : Nat → Int32} (hq : h q = some (zBc a' n)) (hne : ∀ b, b < n → q ≠ z.2.2 b) (e0 : ∀ k, k < 7 → k ≠ 0 → a' k = a k) (e1 : ∀ k, 7 ≤ k → k < 7 + 4 * n → a' k = a k) {Q : Int32 → zw_H → Prop}
    (hQ : ∀ h' E, zFr (zMa K z) h h' → zLn h' (zAd z E n q) a' (n + 1) fm f → zK2 K h' (zAd z E n q) → (E = z.1 2 ∨ h E = none) → Q 1 h') : f_J12_add K (some (z.1 1)) (some q) h Q X := by
  obtain ⟨mc, te, cap, fe, g2, g3, g4, g5, g6, g7, g8⟩ := g.2.1
  obtain ⟨ee, fee, hK, hE⟩ := hE
  have hkk := hk te cap fe g3
  have hqe : q ≠ z.1 1 ∧ q ≠ z.1 2 := by
    refine ⟨z_ne hq g2 (zn_rr ?_), z_ne hq g3 zn_rl⟩
    rcases zkd_cases a' n with e | e <;> rw [e] <;> decide
  unfold f_J12_add
  rw [k_gI g2 (by decide) rfl]
  refine g_put g2 (by decide) (show 0 < 3 by decide) (fun h1 f1 c1 => ?_)
  simp only [List.set_cons_zero] at c1
  have E1 := f1.at1 g3 g2 zn_lr
  have q1 := f1.at1 hq g2 (zn_rr (by rcases zkd_cases a' n with e | e <;> rw [e] <;> decide))
  rw [k_gA c1 (by decide) rfl, k_gI c1 (by decide) rfl, k_c c1 (by decide)]
  unfold f_J12_add_2 f_J12_add_2_J11
  rw [k_l E1 (by rcases g4 with e | e <;> rw [e] <;> decide)]
  have h19 : ∀ c : Nat, c < 19 → c ∈ [0, 1, 2, 3, 4, 5, 6, 7, 8, 9, 10, 11, 12, 13, 14, 15, 16, 17, 18] := by decide
  have hkd : zkd a' n < 19 := by rcases zkd_cases a' n with e | e <;> rw [e] <;> decide
  by_cases hc : n = cap
  · rw [if_neg (show ¬ Int32.ofNat n ≠ Int32.ofNat cap from fun k => k (by rw [hc])), k_c c1 (by decide)]
    refine k_grow c1 E1 g4 hc.symm hn (fun k => ⟨g7 k, hkk.1 k⟩) hkk.2 h7 (fun b hb => ?_) (fun h2 E' cap' fe' f2 nE c2 E2 k1 k2 k3 => ?_)
    · exact ⟨z.2.2 b, _, _, g8 b hb, f1.at1 (g.2.2.1 b hb) g2 (zn_rr (by rcases zkd_cases a b with e | e <;> rw [e] <;> decide)), by rcases zkd_cases a b with e | e <;> rw [e] <;> decide⟩
    · have q2 := f2.at1 q1 c1 (zn_rr (by rcases zkd_cases a' n with e | e <;> rw [e] <;> decide))
      refine g_setA E2 (zi_inn (by omega) (by omega)) (k_ok q2 (h19 _ hkd)) (fun h3 f3 E3 => ?_)
      rw [zi_clamp (by omega)] at E3
      have c3 := f3.at1 c2 E2 zn_rl
      have q3 := f3.at1 q2 E2 zn_rl
      refine g_put c3 (by decide) (show 2 < 3 by decide) (fun h4 f4 c4 => ?_)
      rw [zi_succ] at c4
      have E4 := f4.at1 E3 c3 zn_lr
      have q4 := f4.at1 q3 c3 (zn_rr (by rcases zkd_cases a' n with e | e <;> rw [e] <;> decide))
      have nE0 : h E' = none := by
        refine f1.nn nE (fun k => ?_)
        rw [k, c1] at nE
        cases nE
      have hall : ∀ p, p ≠ z.1 1 → h p ≠ none → h4 p = h p := fun p hp hp0 => by
        have m1 := f1 p hp0 hp
        have m2 := (f2 p (by rw [m1]; exact hp0) hp).trans m1
        have m3 := (f3 p (by rw [m2]; exact hp0) (fun k => hp0 (by rw [k]; exact nE0))).trans m2
        exact (f4 p (by rw [m3]; exact hp0) hp).trans m3
      refine hQ h4 E' (fun p hp0 hp => hall p (fun k => hp (Or.inl k)) hp0) ?_ ?_ (Or.inr nE0)
      · exact g.addb (fun p hp _ hp0 => hall p hp hp0) c4 E4 (Or.inl rfl) (by omega) k2 (fun k => absurd k (by decide)) (fun b hb => (if_neg (show b ≠ n by omega)).trans ((k3 b hb).trans (g8 b hb))) (if_pos rfl) q4 hne e0 e1
      · intro t m f9 hf9
        have e9 : (zAd z E' n q).1 2 = E' := rfl
        rw [e9, E4] at hf9
        injection hf9 with hf9
        injection hf9 with hf9
        injection hf9 with t1 t2
        injection t2 with t2
        exact ⟨fun k => absurd (t1.trans k) (by decide), fun _ => by omega⟩
  · rw [if_pos (show Int32.ofNat n ≠ Int32.ofNat cap from fun k => hc ((zi_inj (by omega) (by omega)).mp k))]
    have ht : te = 5 := g4.elim id (fun k => by have := g7 k; omega)
    subst ht
    have hne2 : K 2 ≠ some (z.1 2) := fun k => by
      rw [hK] at k
      cases Option.some.inj k
      rw [g3] at hE
      injection hE with hE
      injection hE with hE
      injection hE with t1 t2
      exact absurd t1 (by decide)
    refine g_setA E1 (zi_inn (by omega) (by omega)) (k_ok q1 (h19 _ hkd)) (fun h3 f3 E3 => ?_)
    rw [zi_clamp (by omega)] at E3
    have c3 := f3.at1 c1 E1 zn_rl
    have q3 := f3.at1 q1 E1 zn_rl
    refine g_put c3 (by decide) (show 2 < 3 by decide) (fun h4 f4 c4 => ?_)
    rw [zi_succ] at c4
    have E4 := f4.at1 E3 c3 zn_lr
    have q4 := f4.at1 q3 c3 (zn_rr (by rcases zkd_cases a' n with e | e <;> rw [e] <;> decide))
    have hall : ∀ p, p ≠ z.1 1 → p ≠ z.1 2 → h p ≠ none → h4 p = h p := fun p hp hp2 hp0 => by
      have m1 := f1 p hp0 hp
      have m3 := (f3 p (by rw [m1]; exact hp0) hp2).trans m1
      exact (f4 p (by rw [m3]; exact hp0) hp).trans m3
    refine hQ h4 (z.1 2) (fun p hp0 hp => hall p (fun k => hp (Or.inl k)) (fun k => hp (Or.inr ⟨k, hne2⟩)) hp0) ?_ ?_ (Or.inl rfl)
    · exact g.addb hall c4 E4 (Or.inl rfl) (by omega) g6 (fun k => absurd k (by decide)) (fun b hb => (if_neg (show b ≠ n by omega)).trans (g8 b hb)) (if_pos rfl) q4 hne e0 e1
    · intro t m f9 hf9
      have e9 : (zAd z (z.1 2) n q).1 2 = z.1 2 := rfl
      rw [e9, E4] at hf9
      injection hf9 with hf9
      injection hf9 with hf9
      injection hf9 with t1 t2
      injection t2 with t2
      exact ⟨fun k => absurd (t1.trans k) (by decide), fun _ => by omega⟩
theorem zmv_01 (a : Nat → Int32) (b : Nat) : narrow .boolean (.int (zmv a b)) = .int (zmv a b) ∧ fits .boolean (.int (zmv a b)) = true := by
  unfold zmv
  split <;> decide
theorem k_bset {q c : Nat} {fs : List Value} {x ch mo mv : Int32} (hc : c = 6 ∨ c = 7) (hq : h q = some (.inr (c, [.int 0, .int 0, .int 0, .int mv]))) {Q : Option Nat → zw_H → Prop} (hQ : ∀ h', zFr (fun p => p = q) h h' → h' q = some (.inr (c, [.int x, .int ch, .int mo, .int mv])) → Q (some q) h') : f_X7_be K (some q) x ch mo h Q X := by
  have hm : c ∈ [6, 7] := by rcases hc with e | e <;> rw [e] <;> decide
  unfold f_X7_be
  exact g_put hq hm (show 0 < 4 by decide) (fun h1 f1 c1 => g_put c1 hm (show 1 < 4 by decide) (fun h2 f2 c2 => g_put c2 hm (show 2 < 4 by decide) (fun h3 f3 c3 => hQ h3 ((f1.trans f2).trans f3) c3)))
theorem k_bcopy (g : zLn h z a n fm f) {b : Nat} (hb : b < n) {Q : Option Nat → zw_H → Prop} (hQ : ∀ h' q, zFr zNo h h' → h q = none → h' q = some (zBc a b) → Q (some q) h') : f_X7_copy K (some (z.2.2 b)) h Q X := by
  have h1 := g.2.2.1 b hb
  have fin : ∀ (kd : Nat), zkd a b = kd → (kd = 6 ∨ kd = 7) → ∀ (h1 : zw_H) (q : Nat), h q = none → zFr zNo h h1 → h1 q = some (.inr (kd, [.int 0, .int 0, .int 0, .int 0])) → (og_I h1 (some (z.2.2 b)) [6, 7] 0 (fun v2 => og_I h1 (some (z.2.2 b)) [6, 7] 1 (fun v3 => og_I h1 (some (z.2.2 b)) [6, 7] 2 (fun v4 => f_X7_be K (some q) v2 v3 v4 h1 (fun v5 h2 => og_I h2 (some (z.2.2 b)) [6, 7] 3 (fun v6 => ((narrow .boolean (.int v6) = .int v6 ∧ fits .boolean (.int v6) = true) ∧ op_V h2 v5 [6, 7] 3 (.int v6) (fun h3 => Q v5 h3)))) X)))) := by
    intro kd hkd h67 h1 q hq f1 c1
    have g1 := g.ext f1
    rw [l_x g1 hb, l_ch g1 hb, l_mo g1 hb]
    refine k_bset (fs := []) h67 c1 (fun h2 f2 c2 => ?_)
    have f3 : zFr zNo h h2 := fun p hp _ => by
      have m1 := f1 p hp (fun k => k)
      exact (f2 p (by rw [m1]; exact hp) (fun k => hp (by rw [k]; exact hq))).trans m1
    have g2 := g.ext f3
    rw [l_mv g2 hb]
    refine ⟨zmv_01 a b, g_put c2 (by rcases h67 with e | e <;> rw [e] <;> decide) (show 3 < 4 by decide) (fun h3 f4 c4 => ?_)⟩
    refine hQ h3 q (fun p hp _ => ?_) hq (by rw [c4, ← hkd]; rfl)
    have m1 := f3 p hp (fun k => k)
    exact (f4 p (by rw [m1]; exact hp) (fun k => hp (by rw [k]; exact hq))).trans m1
  unfold f_X7_copy od_ f_X8_same f_X9_same f_X8_init f_X9_init f_X7_init
  simp only [h1]
  rcases zkd_cases a b with e | e
  · rw [e, if_pos (by decide)]
    refine g_new (fun q h1 hq f1 c1 => ⟨Option.some_ne_none _, Option.some_ne_none _, ?_⟩)
    simp only [c1]
    simp only [show (6 ∈ [6]) = True from by simp, if_true]
    exact fin 6 e (Or.inl rfl) h1 q hq f1 c1
  · rw [e, if_neg (by decide)]
    refine ⟨by decide, g_new (fun q h1 hq f1 c1 => ⟨Option.some_ne_none _, Option.some_ne_none _, ?_⟩)⟩
    simp only [c1]
    simp only [show (7 ∈ [6]) = False from by simp, if_false, show (7 ∈ [7]) = True from by simp, true_and]
    exact fin 7 e (Or.inr rfl) h1 q hq f1 c1
end ZC8
