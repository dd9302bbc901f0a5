set_option maxRecDepth 100000
/-! tokens of a text; the reference reads them -/
def sp_rnF (B : Nat → Int32) (lo hi : Int32) : Nat → Nat → Nat
  | 0, i => i
  | f + 1, i => if lo ≤ B i ∧ B i ≤ hi then sp_rnF B lo hi f (i + 1) else i
def sp_rn (B : Nat → Int32) (N : Nat) (lo hi : Int32) (i : Nat) : Nat := sp_rnF B lo hi (N - i) i
section ZRN
variable {B : Nat → Int32} {N : Nat} {lo hi : Int32}
theorem sp_rn_end {i : Nat} (h : N ≤ i) : sp_rn B N lo hi i = i := by
  unfold sp_rn
  rw [show N - i = 0 by omega]
  rfl
theorem sp_rn_go {i : Nat} (h : i < N) (hb : lo ≤ B i ∧ B i ≤ hi) : sp_rn B N lo hi i = sp_rn B N lo hi (i + 1) := by
  unfold sp_rn
  rw [show N - i = (N - (i + 1)) + 1 by omega]
  exact if_pos hb
theorem sp_rn_st {i : Nat} (h : i < N) (hb : ¬ (lo ≤ B i ∧ B i ≤ hi)) : sp_rn B N lo hi i = i := by
  unfold sp_rn
  rw [show N - i = (N - (i + 1)) + 1 by omega]
  exact if_neg hb
theorem sp_rn_all : ∀ k i, N - i ≤ k → i ≤ N → (i ≤ sp_rn B N lo hi i ∧ sp_rn B N lo hi i ≤ N) ∧ ∀ j, i ≤ j → j < sp_rn B N lo hi i → lo ≤ B j ∧ B j ≤ hi
  | 0, i, h, hi2 => by
    rw [sp_rn_end (by omega)]
    exact ⟨⟨Nat.le_refl _, hi2⟩, fun j h1 h2 => by omega⟩
  | k + 1, i, h, hi2 => by
    by_cases e : i < N
    · by_cases hb : lo ≤ B i ∧ B i ≤ hi
      · rw [sp_rn_go e hb]
        obtain ⟨⟨h1, h2⟩, h3⟩ := sp_rn_all k (i + 1) (by omega) (by omega)
        refine ⟨⟨by omega, h2⟩, fun j h4 h5 => ?_⟩
        by_cases e2 : j = i
        · rw [e2]
          exact hb
        · exact h3 j (by omega) h5
      · rw [sp_rn_st e hb]
        exact ⟨⟨Nat.le_refl _, hi2⟩, fun j h1 h2 => by omega⟩
    · rw [sp_rn_end (by omega)]
      exact ⟨⟨Nat.le_refl _, hi2⟩, fun j h1 h2 => by omega⟩
end ZRN
abbrev zTk : Type := Nat × Nat × Nat
/-- a token: kind (0 bad, 1 end, 2 word, 3 number, 4 semicolon), start, end -/
def sp_tk (B : Nat → Int32) (N p : Nat) : zTk :=
  if N ≤ sp_rn B N 32 32 p then (1, sp_rn B N 32 32 p, sp_rn B N 32 32 p)
  else if 97 ≤ B (sp_rn B N 32 32 p) ∧ B (sp_rn B N 32 32 p) ≤ 122 then (if 6 < sp_rn B N 97 122 (sp_rn B N 32 32 p) - sp_rn B N 32 32 p then 0 else 2, sp_rn B N 32 32 p, sp_rn B N 97 122 (sp_rn B N 32 32 p))
  else if 48 ≤ B (sp_rn B N 32 32 p) ∧ B (sp_rn B N 32 32 p) ≤ 57 then (if 3 < sp_rn B N 48 57 (sp_rn B N 32 32 p) - sp_rn B N 32 32 p then 0 else 3, sp_rn B N 32 32 p, sp_rn B N 48 57 (sp_rn B N 32 32 p))
  else (if B (sp_rn B N 32 32 p) = 59 then 4 else 0, sp_rn B N 32 32 p, sp_rn B N 32 32 p + 1)
def sp_val (B : Nat → Int32) (s k : Nat) : Int32 := zacc (fun q v => 10 * v + B (s + q) - 48) 0 k
def zTo (B : Nat → Int32) (N : Nat) (t : zTk) : Prop := t.1 ≤ 4 ∧ t.2.1 ≤ t.2.2 ∧ t.2.2 ≤ N ∧ (t.1 = 2 → ∀ j, t.2.1 ≤ j → j < t.2.2 → 97 ≤ B j ∧ B j ≤ 122)
theorem sp_tk_ok {B : Nat → Int32} {N p : Nat} (hp : p ≤ N) : zTo B N (sp_tk B N p) := by
  obtain ⟨⟨h1, h2⟩, -⟩ := sp_rn_all (B := B) (N := N) (lo := 32) (hi := 32) (N - p) p (Nat.le_refl _) hp
  unfold sp_tk
  generalize sp_rn B N 32 32 p = s at h1 h2 ⊢
  by_cases k1 : N ≤ s
  · rw [if_pos k1]
    exact ⟨show (1 : Nat) ≤ 4 by decide, Nat.le_refl _, h2, fun e => absurd (show (1 : Nat) = 2 from e) (by decide)⟩
  rw [if_neg k1]
  by_cases k2 : 97 ≤ B s ∧ B s ≤ 122
  · rw [if_pos k2]
    obtain ⟨⟨h3, h4⟩, h5⟩ := sp_rn_all (B := B) (N := N) (lo := 97) (hi := 122) (N - s) s (Nat.le_refl _) h2
    exact ⟨by dsimp only; split <;> decide, h3, h4, fun _ => h5⟩
  rw [if_neg k2]
  by_cases k3 : 48 ≤ B s ∧ B s ≤ 57
  · rw [if_pos k3]
    obtain ⟨⟨h3, h4⟩, h5⟩ := sp_rn_all (B := B) (N := N) (lo := 48) (hi := 57) (N - s) s (Nat.le_refl _) h2
    refine ⟨by dsimp only; split <;> decide, h3, h4, fun e => ?_⟩
    dsimp only at e
    split at e <;> exact absurd e (by decide)
  rw [if_neg k3]
  refine ⟨by dsimp only; split <;> decide, Nat.le_succ s, Nat.lt_of_not_le k1, fun e => ?_⟩
  dsimp only at e
  split at e <;> exact absurd e (by decide)
def sp_cs (B : Nat → Int32) (s k : Nat) : List Nat := (List.range k).map (fun q => (B (s + q)).toNatClampNeg)
abbrev sp_isW (B : Nat → Int32) (t : zTk) (U : List Nat) : Prop := t.1 = 2 ∧ sp_cs B t.2.1 (t.2.2 - t.2.1) = U
def sp_nmb (B : Nat → Int32) (lo hi : Int32) (t : zTk) : (Nat × Nat) ⊕ Int32 :=
  if t.1 = 3 then (if lo ≤ sp_val B t.2.1 (t.2.2 - t.2.1) ∧ sp_val B t.2.1 (t.2.2 - t.2.1) ≤ hi then .inr (sp_val B t.2.1 (t.2.2 - t.2.1)) else .inl (2, t.2.1)) else .inl (1, t.2.1)
theorem sp_nmb_in {B : Nat → Int32} {lo hi x : Int32} {t : zTk} (h : sp_nmb B lo hi t = .inr x) : lo ≤ x ∧ x ≤ hi := by
  unfold sp_nmb at h
  by_cases k1 : t.1 = 3
  · rw [if_pos k1] at h
    by_cases k2 : lo ≤ sp_val B t.2.1 (t.2.2 - t.2.1) ∧ sp_val B t.2.1 (t.2.2 - t.2.1) ≤ hi
    · rw [if_pos k2] at h
      cases h
      exact k2
    · rw [if_neg k2] at h
      cases h
  · rw [if_neg k1] at h
    cases h
theorem sp_nmb_er {B : Nat → Int32} {lo hi : Int32} {e : Nat × Nat} {t : zTk} (h : sp_nmb B lo hi t = .inl e) : (e.1 = 1 ∨ e.1 = 2) ∧ e.2 = t.2.1 := by
  unfold sp_nmb at h
  by_cases k1 : t.1 = 3
  · rw [if_pos k1] at h
    by_cases k2 : lo ≤ sp_val B t.2.1 (t.2.2 - t.2.1) ∧ sp_val B t.2.1 (t.2.2 - t.2.1) ≤ hi
    · rw [if_pos k2] at h
      cases h
    · rw [if_neg k2] at h
      cases h
      exact ⟨Or.inr rfl, rfl⟩
  · rw [if_neg k1] at h
    cases h
    exact ⟨Or.inl rfl, rfl⟩
/-- the state's token -/
def zT (w : zM) (p s k x : Int32) : zM := ((fun q => if q = 13 then p else if q = 14 then s else if q = 15 then k else if q = 16 then x else w.1 q), w.2)
theorem zT_13 (w : zM) (p s k x y : Int32) : zS (zT w p s k x) 13 y = zT w y s k x := Prod.ext (funext fun q => by
  show (if q = 13 then y else if q = 13 then p else _) = (if q = 13 then y else _)
  by_cases e : q = 13
  · rw [if_pos e, if_pos e]
  · rw [if_neg e, if_neg e, if_neg e]) rfl
theorem zT_14 (w : zM) (p s k x y : Int32) : zS (zT w p s k x) 14 y = zT w p y k x := Prod.ext (funext fun q => by
  show (if q = 14 then y else if q = 13 then p else if q = 14 then s else _) = (if q = 13 then p else if q = 14 then y else _)
  by_cases e : q = 14
  · rw [if_pos e, if_neg (by omega), if_pos e]
  · rw [if_neg e, if_neg e, if_neg e]) rfl
theorem zT_15 (w : zM) (p s k x y : Int32) : zS (zT w p s k x) 15 y = zT w p s y x := Prod.ext (funext fun q => by
  show (if q = 15 then y else if q = 13 then p else if q = 14 then s else if q = 15 then k else _) = (if q = 13 then p else if q = 14 then s else if q = 15 then y else _)
  by_cases e : q = 15
  · rw [if_pos e, if_neg (by omega), if_neg (by omega), if_pos e]
  · rw [if_neg e, if_neg e, if_neg e]) rfl
theorem zT_16 (w : zM) (p s k x y : Int32) : zS (zT w p s k x) 16 y = zT w p s k y := Prod.ext (funext fun q => by
  show (if q = 16 then y else if q = 13 then p else if q = 14 then s else if q = 15 then k else if q = 16 then x else _) = (if q = 13 then p else if q = 14 then s else if q = 15 then k else if q = 16 then y else _)
  by_cases e : q = 16
  · rw [if_pos e, if_neg (by omega), if_neg (by omega), if_neg (by omega), if_pos e]
  · rw [if_neg e, if_neg e, if_neg e]) rfl
theorem zT_eta (w : zM) : w = zT w (w.1 13) (w.1 14) (w.1 15) (w.1 16) := Prod.ext (funext fun q => by
  show w.1 q = (if q = 13 then w.1 13 else if q = 14 then w.1 14 else if q = 15 then w.1 15 else if q = 16 then w.1 16 else w.1 q)
  by_cases e1 : q = 13
  · rw [if_pos e1, e1]
  rw [if_neg e1]
  by_cases e2 : q = 14
  · rw [if_pos e2, e2]
  rw [if_neg e2]
  by_cases e3 : q = 15
  · rw [if_pos e3, e3]
  rw [if_neg e3]
  by_cases e4 : q = 16
  · rw [if_pos e4, e4]
  rw [if_neg e4]) rfl
section ZT0
variable (w : zM) (p s k x : Int32)
theorem zTg13 : (zT w p s k x).1 13 = p := rfl
theorem zTg14 : (zT w p s k x).1 14 = s := rfl
theorem zTg15 : (zT w p s k x).1 15 = k := rfl
theorem zTg16 : (zT w p s k x).1 16 = x := rfl
theorem zTg12 : (zT w p s k x).1 12 = w.1 12 := rfl
theorem zTg10 : (zT w p s k x).1 10 = w.1 10 := rfl
theorem zTg2 : (zT w p s k x).2 = w.2 := rfl
end ZT0
def zG (w : zM) (N : Nat) : Prop := w.1 10 = 0 ∧ w.1 12 = Int32.ofNat N ∧ N ≤ 500
def zTs (w : zM) (N : Nat) (t : zTk) (v : zM) : Prop := ∃ x, v = zT w (Int32.ofNat t.2.2) (Int32.ofNat t.2.1) (Int32.ofNat t.1) x ∧ (t.1 = 3 → x = sp_val (w.2.1 8) t.2.1 (t.2.2 - t.2.1)) ∧ zTo (w.2.1 8) N t
theorem zi_chr {x : Int32} (h : 32 ≤ x ∧ x ≤ 32) : x = 32 := by
  rw [← Int32.toInt_inj]
  have h1 := Int32.le_iff_toInt_le.mp h.1
  have h2 := Int32.le_iff_toInt_le.mp h.2
  omega
section ZM24
variable {m : Nat → Nat} {w : zM} {h : zw_H} {K : Nat → Option Nat} {X : String → Nat → zw_H → Prop} {N : Nat}
theorem e_isLetter (d : zm_d m) (hN : w.1 12 = Int32.ofNat N) (h5 : N ≤ 500) {i : Nat} (hi : i ≤ 500) {Q : Int32 → zw_H → Prop} : f_X2_isLetter K (some (m 0)) (Int32.ofNat i) (zm_o m w h) Q X = Q (sp_b (i < N ∧ 97 ≤ w.2.1 8 i ∧ w.2.1 8 i ≤ 122)) (zm_o m w h) := by
  unfold f_X2_isLetter
  rw [zm_g12 d, hN]
  by_cases k : i < N
  · rw [if_neg (by rw [zi_le (by omega) (by omega)]; omega), zm_g8 d, zm_r8 d (by decide), zi_clamp (by omega), e_in]
    have e : vp_in (Int32.ofNat i) 500 = True := eq_true (zi_inn (by omega) (by decide))
    rw [e, true_and]
    by_cases k2 : 97 ≤ w.2.1 8 i ∧ w.2.1 8 i ≤ 122
    · rw [sp_bt k2, if_neg (by decide), sp_bt ⟨k, k2⟩]
    · rw [sp_bf k2, if_pos rfl, sp_bf (fun e => k2 e.2)]
  · rw [if_pos (by rw [zi_le (by omega) (by omega)]; omega), sp_bf (fun e => k e.1)]
theorem e_isDigit (d : zm_d m) (hN : w.1 12 = Int32.ofNat N) (h5 : N ≤ 500) {i : Nat} (hi : i ≤ 500) {Q : Int32 → zw_H → Prop} : f_X2_isDigit K (some (m 0)) (Int32.ofNat i) (zm_o m w h) Q X = Q (sp_b (i < N ∧ 48 ≤ w.2.1 8 i ∧ w.2.1 8 i ≤ 57)) (zm_o m w h) := by
  unfold f_X2_isDigit
  rw [zm_g12 d, hN]
  by_cases k : i < N
  · rw [if_neg (by rw [zi_le (by omega) (by omega)]; omega), zm_g8 d, zm_r8 d (by decide), zi_clamp (by omega), e_in]
    have e : vp_in (Int32.ofNat i) 500 = True := eq_true (zi_inn (by omega) (by decide))
    rw [e, true_and]
    by_cases k2 : 48 ≤ w.2.1 8 i ∧ w.2.1 8 i ≤ 57
    · rw [sp_bt k2, if_neg (by decide), sp_bt ⟨k, k2⟩]
    · rw [sp_bf k2, if_pos rfl, sp_bf (fun e => k2 e.2)]
  · rw [if_pos (by rw [zi_le (by omega) (by omega)]; omega), sp_bf (fun e => k e.1)]
theorem c_skip (d : zm_d m) (g : zG w N) {s k x : Int32} {Q kk : zw_H → Prop} : ∀ f i M, N - i ≤ f → i ≤ N → f < M → kk (zm_o m (zT w (Int32.ofNat (sp_rn (w.2.1 8) N 32 32 i)) s k x) h) → zl1 (f_X2_next_B8 K Q X kk (some (m 0))) M (zm_o m (zT w (Int32.ofNat i) s k x) h)
  | f, i, 0, _, _, h3, _ => absurd h3 (Nat.not_lt_zero f)
  | f, i, M + 1, h1, h2, h3, hk => by
    obtain ⟨g1, g2, g3⟩ := g
    show f_X2_next_B8 K Q X kk (some (m 0)) (zl1 (f_X2_next_B8 K Q X kk (some (m 0))) M) _
    unfold f_X2_next_B8
    rw [zm_g13 d, zm_g12 d, zTg12, zTg13, g2]
    by_cases e : i < N
    · rw [if_neg (by rw [zi_le (by omega) (by omega)]; omega), zm_g8 d, zm_g13 d, zTg13, zm_r8 d (by decide), zi_clamp (by omega), zTg2]
      refine ⟨zi_inn (by omega) (by decide), ?_⟩
      by_cases e2 : w.2.1 8 i = 32
      · rw [if_neg (fun c => c e2), zm_g13 d, zTg13, zm_p13 d, zT_13, zi_succ]
        rw [sp_rn_go e (by rw [e2]; decide)] at hk
        cases f with
        | zero => omega
        | succ f => exact c_skip (Q := Q) d ⟨g1, g2, g3⟩ f (i + 1) M (by omega) (by omega) (by omega) hk
      · rw [if_pos e2]
        rw [sp_rn_st e (fun c => e2 (zi_chr c))] at hk
        exact hk
    · rw [if_pos (by rw [zi_le (by omega) (by omega)]; omega)]
      rw [sp_rn_end (by omega)] at hk
      exact hk
theorem c_letters (d : zm_d m) (g : zG w N) {s k x : Int32} {Q kk : zw_H → Prop} : ∀ f i M, N - i ≤ f → i ≤ N → f < M → kk (zm_o m (zT w (Int32.ofNat (sp_rn (w.2.1 8) N 97 122 i)) s k x) h) → zl1 (f_X2_next_B94 K Q X kk (some (m 0))) M (zm_o m (zT w (Int32.ofNat i) s k x) h)
  | f, i, 0, _, _, h3, _ => absurd h3 (Nat.not_lt_zero f)
  | f, i, M + 1, h1, h2, h3, hk => by
    obtain ⟨g1, g2, g3⟩ := g
    show f_X2_next_B94 K Q X kk (some (m 0)) (zl1 (f_X2_next_B94 K Q X kk (some (m 0))) M) _
    unfold f_X2_next_B94
    rw [zm_g13 d, zTg13, zm_c d, e_isLetter (w := zT w _ _ _ _) d (N := N) g2 g3 (by omega), zTg2]
    by_cases e : i < N ∧ 97 ≤ w.2.1 8 i ∧ w.2.1 8 i ≤ 122
    · rw [sp_bt e, if_neg (by decide), zm_g13 d, zTg13, zm_p13 d, zT_13, zi_succ]
      rw [sp_rn_go e.1 e.2] at hk
      cases f with
      | zero => omega
      | succ f => exact c_letters (Q := Q) d ⟨g1, g2, g3⟩ f (i + 1) M (by omega) (by omega) (by omega) hk
    · rw [sp_bf e, if_pos rfl]
      by_cases e2 : i < N
      · rw [sp_rn_st e2 (fun c => e ⟨e2, c⟩)] at hk
        exact hk
      · rw [sp_rn_end (by omega)] at hk
        exact hk
theorem c_digits (d : zm_d m) (g : zG w N) {s : Nat} {k : Int32} {Q kk : zw_H → Prop} : ∀ f i M, N - i ≤ f → s ≤ i → i ≤ N → f < M → (∀ x, (sp_rn (w.2.1 8) N 48 57 i - s ≤ 3 → x = sp_val (w.2.1 8) s (sp_rn (w.2.1 8) N 48 57 i - s)) → kk (zm_o m (zT w (Int32.ofNat (sp_rn (w.2.1 8) N 48 57 i)) (Int32.ofNat s) k x) h)) → ∀ x, (i - s ≤ 3 → x = sp_val (w.2.1 8) s (i - s)) → zl1 (f_X2_next_B158 K Q X kk (some (m 0))) M (zm_o m (zT w (Int32.ofNat i) (Int32.ofNat s) k x) h)
  | f, i, 0, _, _, _, h3, _, _, _ => absurd h3 (Nat.not_lt_zero f)
  | f, i, M + 1, h1, hs, h2, h3, hk, x, hx => by
    obtain ⟨g1, g2, g3⟩ := g
    show f_X2_next_B158 K Q X kk (some (m 0)) (zl1 (f_X2_next_B158 K Q X kk (some (m 0))) M) _
    unfold f_X2_next_B158 f_X2_next_J206
    rw [zm_g13 d, zTg13, zm_c d, e_isDigit (w := zT w _ _ _ _) d (N := N) g2 g3 (by omega), zTg2]
    by_cases e : i < N ∧ 48 ≤ w.2.1 8 i ∧ w.2.1 8 i ≤ 57
    · rw [sp_bt e, if_neg (by decide), zm_g13 d, zTg13, zm_g14 d, zTg14]
      rw [sp_rn_go e.1 e.2] at hk
      have es : Int32.ofNat i - Int32.ofNat s = Int32.ofNat (i - s) := (Int32.ofNat_sub _ _ hs).symm
      cases f with
      | zero => omega
      | succ f =>
        rw [es]
        by_cases e3 : 3 ≤ i - s
        · rw [if_pos (show (3 : Int32) ≤ Int32.ofNat (i - s) from (zi_le (a := 3) (by decide) (by omega)).mpr e3)]
          simp only [zm_g13 d, zTg13, zm_p13 d, zT_13, zi_succ]
          exact c_digits (Q := Q) d ⟨g1, g2, g3⟩ f (i + 1) M (by omega) (by omega) (by omega) (by omega) hk x (fun c => by omega)
        · rw [if_neg (show ¬ (3 : Int32) ≤ Int32.ofNat (i - s) from fun c => e3 ((zi_le (a := 3) (by decide) (by omega)).mp c)), zm_g16 d, zTg16, zm_g8 d, zm_g13 d, zTg13, zm_r8 d (by decide), zi_clamp (by omega), zTg2]
          refine ⟨zi_inn (by omega) (by decide), ?_⟩
          rw [zm_p16 d, zT_16]
          simp only [zm_g13 d, zTg13, zm_p13 d, zT_13, zi_succ]
          refine c_digits (Q := Q) d ⟨g1, g2, g3⟩ f (i + 1) M (by omega) (by omega) (by omega) (by omega) hk _ (fun c => ?_)
          rw [hx (by omega), show i + 1 - s = (i - s) + 1 by omega]
          show _ = 10 * sp_val (w.2.1 8) s (i - s) + w.2.1 8 (s + (i - s)) - 48
          rw [show s + (i - s) = i by omega]
    · rw [sp_bf e, if_pos rfl]
      by_cases e2 : i < N
      · rw [sp_rn_st e2 (fun c => e ⟨e2, c⟩)] at hk
        exact hk x hx
      · rw [sp_rn_end (by omega)] at hk
        exact hk x hx
theorem c_nextJ (d : zm_d m) (g : zG w N) {i : Nat} (hi : sp_rn (w.2.1 8) N 32 32 i ≤ N) {k x : Int32} {Q : zw_H → Prop} (hQ : ∀ v', zTs w N (sp_tk (w.2.1 8) N i) v' → Q (zm_o m v' h)) (ho : zTo (w.2.1 8) N (sp_tk (w.2.1 8) N i)) : f_X2_next_J71 K Q X (some (m 0)) (sp_b (sp_rn (w.2.1 8) N 32 32 i = N)) (some (m 0)) (zm_o m (zT w (Int32.ofNat (sp_rn (w.2.1 8) N 32 32 i)) (Int32.ofNat (sp_rn (w.2.1 8) N 32 32 i)) k x) h) := by
  have hQ2 : ∀ x, ((sp_tk (w.2.1 8) N i).1 = 3 → x = sp_val (w.2.1 8) (sp_tk (w.2.1 8) N i).2.1 ((sp_tk (w.2.1 8) N i).2.2 - (sp_tk (w.2.1 8) N i).2.1)) → Q (zm_o m (zT w (Int32.ofNat (sp_tk (w.2.1 8) N i).2.2) (Int32.ofNat (sp_tk (w.2.1 8) N i).2.1) (Int32.ofNat (sp_tk (w.2.1 8) N i).1) x) h) := fun x hx => hQ _ ⟨x, rfl, hx, ho⟩
  clear hQ ho
  have g2 := g.2.1
  have g3 := g.2.2
  unfold sp_tk at hQ2
  generalize sp_rn (w.2.1 8) N 32 32 i = s at hi hQ2 ⊢
  unfold f_X2_next_J71 f_X2_next_J261
  rw [zm_p15 d, zT_15, zm_g15 d, zTg15]
  by_cases k1 : N ≤ s
  · rw [if_pos k1] at hQ2
    have e : s = N := by omega
    rw [sp_bt e, if_neg (fun c => c rfl)]
    exact hQ2 x (fun c => absurd (show (1 : Nat) = 3 from c) (by decide))
  rw [if_neg k1] at hQ2
  rw [sp_bf (show ¬ s = N by omega), if_pos (by decide), zm_g13 d, zTg13, zm_c d, e_isLetter (w := zT w _ _ _ _) d (N := N) g2 g3 (by omega), zTg2]
  by_cases k2 : 97 ≤ w.2.1 8 s ∧ w.2.1 8 s ≤ 122
  · rw [if_pos k2] at hQ2
    rw [sp_bt ⟨by omega, k2⟩, if_neg (by decide)]
    refine c_letters d g (N - s) s zfu (Nat.le_refl _) hi (Nat.lt_of_le_of_lt (show N - s ≤ 500 by omega) (by decide)) ?_
    obtain ⟨⟨h3, h4⟩, -⟩ := sp_rn_all (B := w.2.1 8) (N := N) (lo := 97) (hi := 122) (N - s) s (Nat.le_refl _) hi
    generalize sp_rn (w.2.1 8) N 97 122 s = e at h3 h4 hQ2 ⊢
    have es : Int32.ofNat e - Int32.ofNat s = Int32.ofNat (e - s) := (Int32.ofNat_sub _ _ h3).symm
    rw [zm_g13 d, zTg13, zm_g14 d, zTg14, es]
    by_cases k4 : 6 < e - s
    · rw [if_pos k4] at hQ2
      rw [if_pos (show (6 : Int32) < Int32.ofNat (e - s) from (zi_lt (a := 6) (by decide) (by omega)).mpr k4), zm_p15 d, zT_15]
      exact hQ2 x (fun c => absurd (show (0 : Nat) = 3 from c) (by decide))
    · rw [if_neg k4] at hQ2
      rw [if_neg (show ¬ (6 : Int32) < Int32.ofNat (e - s) from fun c => k4 ((zi_lt (a := 6) (by decide) (by omega)).mp c)), zm_p15 d, zT_15]
      exact hQ2 x (fun c => absurd (show (2 : Nat) = 3 from c) (by decide))
  rw [if_neg k2] at hQ2
  rw [sp_bf (fun c => k2 c.2), if_pos rfl, zm_g13 d, zTg13, zm_c d, e_isDigit (w := zT w _ _ _ _) d (N := N) g2 g3 (by omega), zTg2]
  by_cases k3 : 48 ≤ w.2.1 8 s ∧ w.2.1 8 s ≤ 57
  · rw [if_pos k3] at hQ2
    rw [sp_bt ⟨by omega, k3⟩, if_neg (by decide), zm_p16 d, zT_16]
    obtain ⟨⟨h3, h4⟩, -⟩ := sp_rn_all (B := w.2.1 8) (N := N) (lo := 48) (hi := 57) (N - s) s (Nat.le_refl _) hi
    refine c_digits d g (s := s) (N - s) s zfu (Nat.le_refl _) (Nat.le_refl _) hi (Nat.lt_of_le_of_lt (show N - s ≤ 500 by omega) (by decide)) (fun y hy => ?_) 0 (fun _ => by rw [Nat.sub_self]; rfl)
    generalize sp_rn (w.2.1 8) N 48 57 s = e at h3 h4 hQ2 hy ⊢
    have es : Int32.ofNat e - Int32.ofNat s = Int32.ofNat (e - s) := (Int32.ofNat_sub _ _ h3).symm
    rw [zm_g13 d, zTg13, zm_g14 d, zTg14, es]
    by_cases k4 : 3 < e - s
    · rw [if_pos k4] at hQ2
      rw [if_pos (show (3 : Int32) < Int32.ofNat (e - s) from (zi_lt (a := 3) (by decide) (by omega)).mpr k4), zm_p15 d, zT_15]
      exact hQ2 y (fun c => absurd (show (0 : Nat) = 3 from c) (by decide))
    · rw [if_neg k4] at hQ2
      rw [if_neg (show ¬ (3 : Int32) < Int32.ofNat (e - s) from fun c => k4 ((zi_lt (a := 3) (by decide) (by omega)).mp c)), zm_p15 d, zT_15]
      exact hQ2 y (fun c => hy (by omega))
  rw [if_neg k3] at hQ2
  rw [sp_bf (fun c => k3 c.2), if_pos rfl, zm_g8 d, zm_g13 d, zTg13, zm_r8 d (by decide), zi_clamp (by omega), zTg2]
  refine ⟨zi_inn (by omega) (by decide), ?_⟩
  by_cases k4 : w.2.1 8 s = 59
  · rw [if_pos k4] at hQ2
    rw [if_neg (fun c => c k4), zm_p15 d, zT_15, zm_g13 d, zTg13, zm_p13 d, zT_13, zi_succ]
    exact hQ2 x (fun c => absurd (show (4 : Nat) = 3 from c) (by decide))
  · rw [if_neg k4] at hQ2
    rw [if_pos k4, zm_g13 d, zTg13, zm_p13 d, zT_13, zi_succ]
    exact hQ2 x (fun c => absurd (show (0 : Nat) = 3 from c) (by decide))
theorem c_next0 (d : zm_d m) (g : zG w N) {i : Nat} (hi : i ≤ N) {s k x : Int32} {Q : zw_H → Prop} (hQ : ∀ v', zTs w N (sp_tk (w.2.1 8) N i) v' → Q (zm_o m v' h)) : f_X2_next K (some (m 0)) (zm_o m (zT w (Int32.ofNat i) s k x) h) Q X := by
  obtain ⟨⟨h1, h2⟩, -⟩ := sp_rn_all (B := w.2.1 8) (N := N) (lo := 32) (hi := 32) (N - i) i (Nat.le_refl _) hi
  have g3 := g.2.2
  unfold f_X2_next
  rw [zm_g10 d, zTg10, g.1, if_pos (by decide)]
  refine c_skip d g (N - i) i zfu (Nat.le_refl _) hi (Nat.lt_of_le_of_lt (show N - i ≤ 500 by omega) (by decide)) ?_
  rw [zm_g13 d, zTg13, zm_p14 d, zT_14, zm_g13 d, zTg13, zm_g12 d, zTg12, g.2.1]
  have key := c_nextJ (K := K) (X := X) (h := h) d g (i := i) h2 (k := k) (x := x) hQ (sp_tk_ok hi)
  by_cases e : sp_rn (w.2.1 8) N 32 32 i = N
  · rw [sp_bt e] at key
    rw [if_neg (fun c => c (by rw [e]))]
    exact key
  · rw [sp_bf e] at key
    rw [if_pos (fun c => e ((zi_inj (by omega) (by omega)).mp c))]
    exact key
theorem c_next (d : zm_d m) (g : zG w N) {t : zTk} {v : zM} (ht : zTs w N t v) {Q : zw_H → Prop} (hQ : ∀ v', zTs w N (sp_tk (w.2.1 8) N t.2.2) v' → Q (zm_o m v' h)) : f_X2_next K (some (m 0)) (zm_o m v h) Q X := by
  obtain ⟨x, rfl, -, ho⟩ := ht
  exact c_next0 d g ho.2.2.1 hQ
theorem e_is (d : zm_d m) {c : Int32} {Q : Int32 → zw_H → Prop} : f_X2_is K (some (m 0)) c (zm_o m w h) Q X = Q (sp_b (w.1 10 = 0 ∧ w.1 15 = c)) (zm_o m w h) := by
  unfold f_X2_is
  rw [zm_g10 d, zm_g15 d]
  by_cases k1 : w.1 10 = 0
  · rw [if_neg (fun c => c k1)]
    by_cases k2 : w.1 15 = c
    · rw [if_neg (fun c => c k2), sp_bt ⟨k1, k2⟩]
    · rw [if_pos k2, sp_bf (fun c => k2 c.2)]
  · rw [if_pos k1, sp_bf (fun c => k1 c.1)]
theorem e_isK (d : zm_d m) (g : zG w N) {t : zTk} {v : zM} (ht : zTs w N t v) {c : Nat} {c' : Int32} (hc' : c' = Int32.ofNat c) (hc : c < 10) {Q : Int32 → zw_H → Prop} : f_X2_is K (some (m 0)) c' (zm_o m v h) Q X = Q (sp_b (t.1 = c)) (zm_o m v h) := by
  obtain ⟨x, rfl, -, ho⟩ := ht
  subst hc'
  rw [e_is d, zTg10, zTg15, sp_cong (q := t.1 = c)]
  have := ho.1
  exact ⟨fun e => (zi_inj (by omega) (by omega)).mp e.2, fun e => ⟨g.1, by rw [e]⟩⟩
theorem e_faults (d : zm_d m) {c : Int32} (h0 : w.1 10 = 0) {Q : zw_H → Prop} : f_X2_faults K (some (m 0)) c (zm_o m w h) Q X = Q (zm_o m (zS (zS w 10 c) 11 (w.1 14)) h) := by
  unfold f_X2_faults
  rw [zm_g10 d, h0, if_pos (by decide), zm_p10 d, zm_g14 d, zm_p11 d]
  rfl
theorem e_faultsB (d : zm_d m) {c : Int32} (h0 : 0 < w.1 10) {Q : zw_H → Prop} : f_X2_faults K (some (m 0)) c (zm_o m w h) Q X = Q (zm_o m w h) := by
  unfold f_X2_faults
  rw [zm_g10 d, if_neg (Int32.not_le.mpr h0)]
theorem e_nextB (d : zm_d m) (h0 : 0 < w.1 10) {Q : zw_H → Prop} : f_X2_next K (some (m 0)) (zm_o m w h) Q X = Q (zm_o m w h) := by
  unfold f_X2_next
  rw [zm_g10 d, if_neg (Int32.not_le.mpr h0)]
theorem zi_pos0 {x : Int32} (h : 0 < x) : x ≠ 0 := fun e => by
  rw [e] at h
  exact absurd h (by decide)
theorem e_isB (d : zm_d m) (h0 : 0 < w.1 10) {c : Int32} {Q : Int32 → zw_H → Prop} : f_X2_is K (some (m 0)) c (zm_o m w h) Q X = Q 0 (zm_o m w h) := by
  rw [e_is d, sp_bf (fun c => zi_pos0 h0 c.1)]
theorem e_isWordB (d : zm_d m) (h0 : 0 < w.1 10) {r : Option Nat} {Q : Int32 → zw_H → Prop} : f_X2_isWord K (some (m 0)) r (zm_o m w h) Q X = Q 0 (zm_o m w h) := by
  unfold f_X2_isWord
  rw [zm_c d, e_isB d h0, if_pos rfl]
theorem e_numHB (d : zm_d m) (h0 : 0 < w.1 10) {a b : Int32} {Q : Int32 → zw_H → Prop} : f_X2_numberHere K (some (m 0)) a b (zm_o m w h) Q X = Q a (zm_o m w h) := by
  unfold f_X2_numberHere f_X2_numberHere_J33
  rw [zm_c d, e_isB d h0, if_neg (fun c => c rfl), zm_c d, e_faultsB d h0, zm_g10 d, if_neg (Int32.not_le.mpr h0)]
theorem e_numB (d : zm_d m) (h0 : 0 < w.1 10) {a b : Int32} {Q : Int32 → zw_H → Prop} : f_X2_number K (some (m 0)) a b (zm_o m w h) Q X = Q a (zm_o m w h) := by
  unfold f_X2_number
  rw [zm_c d, e_numHB d h0, zm_c d, e_nextB d h0]
theorem e_J72B (d : zm_d m) (h0 : 0 < w.1 10) {a b c : Int32} {Q : zw_H → Prop} : f_X2_readsBody_J72 K Q X (some (m 0)) a b c (zm_o m w h) = Q (zm_o m w h) := by
  unfold f_X2_readsBody_J72
  rw [zm_c d, e_numB d h0, zm_g10 d, if_pos (zi_pos0 h0)]
theorem e_J53B (d : zm_d m) (h0 : 0 < w.1 10) {a b : Int32} {Q : zw_H → Prop} : f_X2_readsBody_J53 K Q X (some (m 0)) a b (zm_o m w h) = Q (zm_o m w h) := by
  unfold f_X2_readsBody_J53
  rw [zm_c d, e_nextB d h0, zm_c d, e_isWordB d h0, if_pos rfl, e_J72B d h0]
theorem e_J16B (d : zm_d m) (h0 : 0 < w.1 10) {a : Int32} {Q : zw_H → Prop} : f_X2_readsBody_J16 K Q X (some (m 0)) a (zm_o m w h) = Q (zm_o m w h) := by
  unfold f_X2_readsBody_J16
  rw [zm_c d, e_nextB d h0, zm_c d, e_numHB d h0, zm_g10 d, if_pos (zi_pos0 h0), e_J53B d h0]
theorem e_J121B (d : zm_d m) (h0 : 0 < w.1 10) {Q : zw_H → Prop} : f_X2_readsText_J121 K Q X (some (m 0)) (zm_o m w h) = Q (zm_o m w h) := by
  unfold f_X2_readsText_J121
  have e : vp_in (0 : Int32) 103 = True := eq_true (zi_inn (a := 0) (by decide) (by decide))
  rw [zm_g1 d, zm_r1 d (by decide), e, true_and]
  split
  · rfl
  · rw [zm_c d, e_faultsB d h0]
/-- the state behind a fault -/
def zPr (w v : zM) : Prop := (∀ k, k ≠ 10 → k ≠ 11 → k ≠ 13 → k ≠ 14 → k ≠ 15 → k ≠ 16 → v.1 k = w.1 k) ∧ (∀ k, k ≠ 1 → v.2.1 k = w.2.1 k) ∧ v.2.2 = w.2.2
theorem zPr.tr {w v u : zM} (h1 : zPr w v) (h2 : zPr v u) : zPr w u := ⟨fun k a b c d e f => (h2.1 k a b c d e f).trans (h1.1 k a b c d e f), fun k a => (h2.2.1 k a).trans (h1.2.1 k a), h2.2.2.trans h1.2.2⟩
theorem zPr.t (w : zM) (p s k x : Int32) : zPr w (zT w p s k x) := ⟨fun q _ _ c d e f => (if_neg c).trans ((if_neg d).trans ((if_neg e).trans (if_neg f))), fun _ _ => rfl, rfl⟩
theorem zPr.ai (w : zM) (f : Nat → Int32) : zPr w (zAI w 1 f) := ⟨fun _ _ _ _ _ _ _ => rfl, fun _ a => if_neg a, rfl⟩
def zEr (w : zM) (e : Nat × Nat) (v : zM) : Prop := zPr w v ∧ v.1 10 = Int32.ofNat e.1 ∧ v.1 11 = Int32.ofNat e.2 ∧ 1 ≤ e.1 ∧ e.1 ≤ 5
theorem zEr.pos {w v : zM} {e : Nat × Nat} (h : zEr w e v) : 0 < v.1 10 := by
  rw [h.2.1]
  have := h.2.2.2
  exact (zi_lt (a := 0) (by decide) (by omega)).mpr (by omega)
theorem zEr.ai {w v : zM} {e : Nat × Nat} (h : zEr w e v) (f : Nat → Int32) : zEr w e (zAI v 1 f) := ⟨h.1.tr (zPr.ai v f), h.2⟩
theorem zEr.up {w v u : zM} {e : Nat × Nat} (h : zEr w e v) (h0 : zPr u w) : zEr u e v := ⟨h0.tr h.1, h.2⟩
theorem zTs.pr {w v : zM} {t : zTk} (h : zTs w N t v) : zPr w v := by
  obtain ⟨x, rfl, -⟩ := h
  exact zPr.t _ _ _ _ _
theorem zTs.ai {w v : zM} {t : zTk} (h : zTs w N t v) (f : Nat → Int32) : zTs (zAI w 1 f) N t (zAI v 1 f) := by
  obtain ⟨x, rfl, h1, h2⟩ := h
  exact ⟨x, rfl, h1, h2⟩
theorem zG.ai {w : zM} (g : zG w N) (f : Nat → Int32) : zG (zAI w 1 f) N := g
theorem c_faults (d : zm_d m) (g : zG w N) {t : zTk} {v : zM} (ht : zTs w N t v) {c : Nat} (h1 : 1 ≤ c) (h5 : c ≤ 5) {Q : zw_H → Prop} (hQ : ∀ v', zEr w (c, t.2.1) v' → Q (zm_o m v' h)) : f_X2_faults K (some (m 0)) (Int32.ofNat c) (zm_o m v h) Q X := by
  obtain ⟨x, rfl, -, ho⟩ := ht
  rw [e_faults (w := zT w _ _ _ _) d g.1]
  refine hQ _ ⟨⟨fun k a b c d e f => ?_, fun _ _ => rfl, rfl⟩, rfl, rfl, h1, h5⟩
  exact (if_neg b).trans ((if_neg a).trans ((if_neg c).trans ((if_neg d).trans ((if_neg e).trans (if_neg f)))))
theorem c_numH (d : zm_d m) (g : zG w N) {t : zTk} {v : zM} (ht : zTs w N t v) {lo hi : Int32} {Q : Int32 → zw_H → Prop} (h0 : ∀ e, sp_nmb (w.2.1 8) lo hi t = .inl e → ∀ v', zEr w e v' → Q lo (zm_o m v' h)) (h1 : ∀ x, sp_nmb (w.2.1 8) lo hi t = .inr x → Q x (zm_o m v h)) : f_X2_numberHere K (some (m 0)) lo hi (zm_o m v h) Q X := by
  unfold f_X2_numberHere f_X2_numberHere_J33
  rw [zm_c d, e_isK d g ht (c := 3) (c' := 3) rfl (by decide)]
  unfold sp_nmb at h0 h1
  by_cases k1 : t.1 = 3
  · rw [if_pos k1] at h0 h1
    rw [sp_bt k1, if_pos (by decide)]
    have ht2 := ht
    obtain ⟨x, rfl, hx, ho⟩ := ht
    rw [zm_g16 d, zTg16, hx k1, e_in]
    by_cases k2 : lo ≤ sp_val (w.2.1 8) t.2.1 (t.2.2 - t.2.1) ∧ sp_val (w.2.1 8) t.2.1 (t.2.2 - t.2.1) ≤ hi
    · rw [if_pos k2] at h1
      have k3 := h1 _ rfl
      rw [sp_bt k2, if_pos (by decide), zm_g10 d, zTg10, g.1, if_pos (by decide), zm_g16 d, zTg16]
      rw [hx k1] at k3
      exact k3
    · rw [if_neg k2] at h0
      rw [sp_bf k2, if_neg (by decide), zm_c d]
      rw [← hx k1]
      refine c_faults d g ht2 (c := 2) (by decide) (by decide) (fun v' hv => ?_)
      rw [zm_g10 d, if_neg (Int32.not_le.mpr hv.pos)]
      exact h0 _ rfl v' hv
  · rw [if_neg k1] at h0
    rw [sp_bf k1, if_neg (fun c => c rfl), zm_c d]
    refine c_faults d g ht (c := 1) (by decide) (by decide) (fun v' hv => ?_)
    rw [zm_g10 d, if_neg (Int32.not_le.mpr hv.pos)]
    exact h0 _ rfl v' hv
theorem c_num (d : zm_d m) (g : zG w N) {t : zTk} {v : zM} (ht : zTs w N t v) {lo hi : Int32} {Q : Int32 → zw_H → Prop} (h0 : ∀ e, sp_nmb (w.2.1 8) lo hi t = .inl e → ∀ v', zEr w e v' → Q lo (zm_o m v' h)) (h1 : ∀ x, sp_nmb (w.2.1 8) lo hi t = .inr x → ∀ v', zTs w N (sp_tk (w.2.1 8) N t.2.2) v' → Q x (zm_o m v' h)) : f_X2_number K (some (m 0)) lo hi (zm_o m v h) Q X := by
  unfold f_X2_number
  rw [zm_c d]
  refine c_numH d g ht (fun e he v' hv => ?_) (fun x hx => ?_)
  · rw [zm_c d, e_nextB d hv.pos]
    exact h0 e he v' hv
  · rw [zm_c d]
    exact c_next d g ht (fun v' hv => h1 x hx v' hv)
theorem sp_cs_at {B : Nat → Int32} {s k q : Nat} (h : q < k) : (sp_cs B s k)[q]? = some (B (s + q)).toNatClampNeg := by
  unfold sp_cs
  rw [List.getElem?_map, List.getElem?_range h]
  rfl
theorem sp_cs_len {B : Nat → Int32} {s k : Nat} : (sp_cs B s k).length = k := by
  unfold sp_cs
  rw [List.length_map, List.length_range]
theorem zi_cl97 {x : Int32} (h : 97 ≤ x ∧ x ≤ 122) : x = Int32.ofNat x.toNatClampNeg ∧ x.toNatClampNeg < 128 := by
  obtain ⟨n, hn, rfl⟩ := zi_of (Int32.le_trans (show (0 : Int32) ≤ 97 by decide) h.1)
  rw [zi_clamp hn]
  have := (zi_le (b := 122) hn (by decide)).mp h.2
  exact ⟨rfl, by omega⟩
theorem c_isWord (d : zm_d m) (hx : zm_x m h) (g : zG w N) {t : zTk} {v : zM} (ht : zTs w N t v) {r : Option Nat} {U : List Nat} (hU : zStr h r U) {Q : Int32 → zw_H → Prop} (hQ : Q (sp_b (sp_isW (w.2.1 8) t U)) (zm_o m v h)) : f_X2_isWord K (some (m 0)) r (zm_o m v h) Q X := by
  unfold f_X2_isWord
  rw [zm_c d, e_isK d g ht (c := 2) (c' := 2) rfl (by decide)]
  by_cases k1 : t.1 = 2
  · rw [sp_bt k1, if_neg (by decide)]
    obtain ⟨x, rfl, -, ho1, ho2, ho3, ho4⟩ := ht
    have g3 := g.2.2
    have hl := hU.choose_spec.choose_spec.choose_spec.choose_spec.2.2.2.1
    have hle := ho4 k1
    have es : Int32.ofNat t.2.2 - Int32.ofNat t.2.1 = Int32.ofNat (t.2.2 - t.2.1) := (Int32.ofNat_sub _ _ ho2).symm
    rw [zm_g13 d, zTg13, zm_g14 d, zTg14, es, e_strc (hU.o hx), e_strl (hU.o hx)]
    obtain ⟨kd, s, e⟩ := t
    dsimp only at k1 hQ hle ho2 ho3 ⊢
    by_cases k2 : e - s = U.length
    · rw [if_pos (by rw [k2])]
      have key : ∀ k M q, q + k = U.length → k < M → (∀ j, j < q → U[j]? = some (w.2.1 8 (s + j)).toNatClampNeg) → zl2 (f_X2_isWord_B28 K Q X (fun h5 => Q 0 h5) (fun h6 => Q 1 h6) (some (m 0)) r) M (Int32.ofNat q) (zm_o m (zT w (Int32.ofNat e) (Int32.ofNat s) (Int32.ofNat kd) x) h) := by
        intro k
        induction k with
        | zero =>
          intro M q h1 h2 h3
          cases M with
          | zero => omega
          | succ M =>
            show f_X2_isWord_B28 K Q X (fun h5 => Q 0 h5) (fun h6 => Q 1 h6) (some (m 0)) r (zl2 _ M) (Int32.ofNat q) _
            unfold f_X2_isWord_B28
            rw [e_strc (hU.o hx), e_strl (hU.o hx), if_pos (by rw [zi_le (by omega) (by omega)]; omega)]
            rw [sp_bt] at hQ
            · exact hQ
            · refine ⟨k1, List.ext_getElem? (fun j => ?_)⟩
              by_cases hj : j < e - s
              · rw [sp_cs_at hj, h3 j (by omega)]
              · rw [List.getElem?_eq_none (by rw [sp_cs_len]; exact Nat.le_of_not_lt hj), List.getElem?_eq_none (by omega)]
        | succ k ih =>
          intro M q h1 h2 h3
          cases M with
          | zero => omega
          | succ M =>
            show f_X2_isWord_B28 K Q X (fun h5 => Q 0 h5) (fun h6 => Q 1 h6) (some (m 0)) r (zl2 _ M) (Int32.ofNat q) _
            unfold f_X2_isWord_B28
            have hq : U[q]? = some U[q] := List.getElem?_eq_getElem (by omega)
            have hc := hU.choose_spec.choose_spec.choose_spec.choose_spec.2.2.2.2 q _ hq
            rw [e_strc (hU.o hx), e_strl (hU.o hx), if_neg (by rw [zi_le (by omega) (by omega)]; omega), zm_g8 d, zm_g14 d, zTg14, zm_r8 d (by decide), ← Int32.ofNat_add, zi_clamp (by omega), zTg2]
            refine ⟨zi_inn (by omega) (by decide), ?_⟩
            rw [e_strc (hU.o hx), e_strch (hU.o hx) hq]
            have hb := zi_cl97 (hle (s + q) (by omega) (by omega))
            by_cases k3 : w.2.1 8 (s + q) = Int32.ofNat U[q]
            · rw [if_pos k3, olet_iff, zi_succ]
              refine ih M (q + 1) (by omega) (by omega) (fun j hj => ?_)
              by_cases e3 : j = q
              · rw [e3, hq, k3, zi_clamp (by omega)]
              · exact h3 j (by omega)
            · rw [if_neg k3]
              rw [sp_bf] at hQ
              · exact hQ
              · intro c
                refine k3 ?_
                have c3 := (congrArg (fun L : List Nat => L[q]?) c.2).trans hq
                dsimp only at c3
                rw [sp_cs_at (by omega)] at c3
                rw [hb.1]
                exact congrArg Int32.ofNat (Option.some.inj c3)
      exact key U.length zfu 0 (by omega) (Nat.lt_of_lt_of_le hl (by decide)) (fun j hj => absurd hj (Nat.not_lt_zero j))
    · rw [if_neg (fun c => k2 ((zi_inj (by omega) (by omega)).mp c))]
      rw [sp_bf] at hQ
      · exact hQ
      · intro c
        have c2 := congrArg List.length c.2
        rw [sp_cs_len] at c2
        exact k2 c2
  · rw [sp_bf k1, if_pos rfl]
    rw [sp_bf (fun c => k1 c.1)] at hQ
    exact hQ
end ZM24
