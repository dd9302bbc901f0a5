set_option maxRecDepth 100000
/-! boxes in numbers; far lists -/
theorem zi_div {a b : Nat} (ha : a < 2 ^ 31) (hb : b < 2 ^ 31) (h0 : 0 < b) : Int32.ofNat a / Int32.ofNat b = Int32.ofNat (a / b) := by
  have h1 : a / b ≤ a := Nat.div_le_self a b
  rw [← Int32.toInt_inj, Int32.toInt_div, zi_nat ha, zi_nat hb, zi_nat (Nat.lt_of_le_of_lt h1 ha)]
  have e : ((a : Int).tdiv (b : Int)) = ((a / b : Nat) : Int) := rfl
  rw [e]
  generalize a / b = q at h1
  exact Int.bmod_eq_of_le (by omega) (by omega)
def zdi (a b : Nat) : Nat := (a - b) + (b - a)
theorem zi_far {a b : Nat} (ha : a < 2 ^ 31) (hb : b < 2 ^ 31) : sp_far (Int32.ofNat a) (Int32.ofNat b) = Int32.ofNat (zdi a b) := by
  unfold sp_far
  by_cases g : b ≤ a
  · rw [if_pos ((zi_le hb ha).mpr g), ← Int32.ofNat_sub _ _ g, show zdi a b = a - b by unfold zdi; omega]
  · rw [if_neg (fun e => g ((zi_le hb ha).mp e)), ← Int32.ofNat_sub _ _ (by omega), show zdi a b = b - a by unfold zdi; omega]
theorem zi_8 {l : Nat} (h : l ≤ 8) {P : Nat → Prop} (h0 : P 0) (h1 : P 1) (h2 : P 2) (h3 : P 3) (h4 : P 4) (h5 : P 5) (h6 : P 6) (h7 : P 7) (h8 : P 8) : P l := by
  have h9 : l = 0 ∨ l = 1 ∨ l = 2 ∨ l = 3 ∨ l = 4 ∨ l = 5 ∨ l = 6 ∨ l = 7 ∨ l = 8 := by omega
  rcases h9 with rfl | rfl | rfl | rfl | rfl | rfl | rfl | rfl | rfl <;> assumption
theorem zi_wide {l : Nat} (h : l ≤ 8) : sp_wide (Int32.ofNat l) = Int32.ofNat (2 ^ (8 - l)) := zi_8 h (P := fun l => sp_wide (Int32.ofNat l) = Int32.ofNat (2 ^ (8 - l))) (by decide) (by decide) (by decide) (by decide) (by decide) (by decide) (by decide) (by decide) (by decide)
theorem zi_shl {l : Nat} (h : l ≤ 8) : (1 : Int32) <<< (Int32.ofNat l &&& 31) = Int32.ofNat (2 ^ l) := zi_8 h (P := fun l => (1 : Int32) <<< (Int32.ofNat l &&& 31) = Int32.ofNat (2 ^ l)) (by decide) (by decide) (by decide) (by decide) (by decide) (by decide) (by decide) (by decide) (by decide)
theorem zi_wide0 {l : Nat} (h : l ≤ 8) : sp_wide (Int32.ofNat l) ≠ 0 := zi_8 h (P := fun l => sp_wide (Int32.ofNat l) ≠ 0) (by decide) (by decide) (by decide) (by decide) (by decide) (by decide) (by decide) (by decide) (by decide)
theorem zi_p256 (l : Nat) : 2 ^ (8 - l) ≤ 256 := Nat.pow_le_pow_right (n := 2) (j := 8) (by decide) (by omega)
theorem zi_p2 {l : Nat} (h : l ≤ 8) : 2 ^ l ≤ 256 := Nat.pow_le_pow_right (n := 2) (j := 8) (by decide) h
def zbx (l y : Nat) : Nat := y / 2 ^ (8 - l)
theorem zbx_le (l y : Nat) : zbx l y ≤ y := Nat.div_le_self _ _
theorem zbx_lt {l y : Nat} (hl : l ≤ 8) (hy : y < 256) : zbx l y < 2 ^ l := by
  unfold zbx
  rw [Nat.div_lt_iff_lt_mul (Nat.two_pow_pos _), ← Nat.pow_add, show l + (8 - l) = 8 by omega]
  exact hy
theorem zi_box {l y : Nat} (hl : l ≤ 8) (hy : y < 256) : Int32.ofNat y / sp_wide (Int32.ofNat l) = Int32.ofNat (zbx l y) := by
  have := zi_p256 l
  rw [zi_wide hl, zi_div (by omega) (by omega) (Nat.two_pow_pos _)]
  rfl
/-- a row of numbers is a line -/
def zRow (a : Nat → Int32) (n l o : Nat) : Prop := a 0 = Int32.ofNat n ∧ n ≤ 24 ∧ a 3 = Int32.ofNat l ∧ 2 ≤ l ∧ l ≤ 5 ∧ a 4 = Int32.ofNat o ∧ o ≤ 4 ∧ (∃ f, f ≤ 999 ∧ a 5 = Int32.ofNat f) ∧ ∀ b, b < n → (∃ x, x < 256 ∧ a (7 + 4 * b) = Int32.ofNat x) ∧ (a (7 + 4 * b + 1) ≠ 0 ∧ -99 ≤ a (7 + 4 * b + 1) ∧ a (7 + 4 * b + 1) ≤ 99) ∧ (a (7 + 4 * b + 2) = 0 ∨ a (7 + 4 * b + 2) = 1)
theorem zRow.hw {a : Nat → Int32} {n l o : Nat} (h : zRow a n l o) : sp_wide (a 3) ≠ 0 := by
  rw [h.2.2.1]
  exact zi_wide0 (by have := h.2.2.2.2.1; omega)
theorem zc_bodiesIn (a : Nat → Int32) (l i : Int32) : ∀ n, n ≤ 24 → ∃ c, c ≤ n ∧ sp_bodiesIn a n l i = Int32.ofNat c
  | 0, _ => ⟨0, Nat.le_refl _, rfl⟩
  | n + 1, h => by
    obtain ⟨c, h1, h2⟩ := zc_bodiesIn a l i n (by omega)
    have e : sp_bodiesIn a (n + 1) l i = sp_bodiesIn a n l i + sp_b (a (7 + 4 * n) / sp_wide l = i) := rfl
    by_cases g : a (7 + 4 * n) / sp_wide l = i
    · refine ⟨c + 1, by omega, ?_⟩
      rw [e, sp_bt g, h2, zi_succ]
    · refine ⟨c, by omega, ?_⟩
      rw [e, sp_bf g, h2, Int32.add_zero]
abbrev zfarQ (a : Nat → Int32) (n f l i : Nat) : Prop := 1 < zdi i f ∧ zdi (i / 2) (f / 2) ≤ 1 ∧ 0 < sp_bodiesIn a n (Int32.ofNat l) (Int32.ofNat i)
abbrev zfarP (a : Nat → Int32) (n y l i : Nat) : Prop := zfarQ a n (zbx l y) l i
theorem zfarq_iff {a : Nat → Int32} {n f l i : Nat} (hf : f < 2 ^ 30) (hi : i < 2 ^ 30) : (1 < sp_far (Int32.ofNat i) (Int32.ofNat f) ∧ sp_far (Int32.ofNat i / 2) (Int32.ofNat f / 2) ≤ 1 ∧ 0 < sp_bodiesIn a n (Int32.ofNat l) (Int32.ofNat i)) ↔ zfarQ a n f l i := by
  have e1 : sp_far (Int32.ofNat i) (Int32.ofNat f) = Int32.ofNat (zdi i f) := zi_far (by omega) (by omega)
  have e2 : Int32.ofNat i / 2 = Int32.ofNat (i / 2) := zi_div (b := 2) (by omega) (by omega) (by omega)
  have e3 : Int32.ofNat f / 2 = Int32.ofNat (f / 2) := zi_div (b := 2) (by omega) (by omega) (by omega)
  rw [e1, e2, e3, zi_far (by omega) (by omega)]
  have e4 : (1 < Int32.ofNat (zdi i f)) ↔ 1 < zdi i f := zi_lt (a := 1) (by omega) (by unfold zdi; omega)
  have e5 : (Int32.ofNat (zdi (i / 2) (f / 2)) ≤ 1) ↔ zdi (i / 2) (f / 2) ≤ 1 := zi_le (b := 1) (by unfold zdi; omega) (by omega)
  unfold zfarQ
  rw [e4, e5]
theorem zfar_iff {a : Nat → Int32} {n y l i : Nat} (hy : y < 256) (hi : i < 2 ^ 30) : (1 < sp_far (Int32.ofNat i) (Int32.ofNat (zbx l y)) ∧ sp_far (Int32.ofNat i / 2) (Int32.ofNat (zbx l y) / 2) ≤ 1 ∧ 0 < sp_bodiesIn a n (Int32.ofNat l) (Int32.ofNat i)) ↔ zfarP a n y l i := zfarq_iff (by have := zbx_le l y; omega) hi
abbrev zFa : Type := Nat × (Nat → Nat) × (Nat → Nat)
def zun (f : Nat → Nat) (k v : Nat) : Nat → Nat := fun q => if q = k then v else f q
def sp_fpush (a : Nat → Int32) (n y l i : Nat) (s : zFa) : zFa := if zfarP a n y l i then (s.1 + 1, zun s.2.1 s.1 l, zun s.2.2 s.1 i) else s
def sp_frow (a : Nat → Int32) (n y l : Nat) (s : zFa) (i : Nat) : zFa := zacc (fun i s => sp_fpush a n y l i s) s i
def sp_fars (a : Nat → Int32) (n y c : Nat) : zFa := zacc (fun c s => sp_frow a n y (2 + c) s (2 ^ (2 + c))) (0, fun _ => 0, fun _ => 0) c
def zcnt (f i : Nat) : Nat := min 1 (i + 3 - f) + min 1 (i + 2 - f) + min 1 (i - (f + 2)) + min 1 (i - (f + 3))
theorem zc_frow (a : Nat → Int32) (n y l : Nat) (s : zFa) : ∀ i, (sp_frow a n y l s i).1 ≤ s.1 + zcnt (zbx l y) i
  | 0 => Nat.le_add_right _ _
  | i + 1 => by
    have ih := zc_frow a n y l s i
    show (sp_fpush a n y l i (sp_frow a n y l s i)).1 ≤ _
    unfold sp_fpush
    split
    · rename_i g
      obtain ⟨g1, g2, -⟩ := g
      show (sp_frow a n y l s i).1 + 1 ≤ _
      unfold zdi at g1 g2
      unfold zcnt at ih ⊢
      omega
    · unfold zcnt at ih ⊢
      omega
theorem zc_fars (a : Nat → Int32) (n y : Nat) : ∀ c, (sp_fars a n y c).1 ≤ 4 * c
  | 0 => Nat.le_refl _
  | c + 1 => by
    have ih := zc_fars a n y c
    have h := zc_frow a n y (2 + c) (sp_fars a n y c) (2 ^ (2 + c))
    show (sp_frow a n y (2 + c) (sp_fars a n y c) (2 ^ (2 + c))).1 ≤ _
    unfold zcnt at h
    omega
/-- what is on a far list -/
def zfok (y L : Nat) (s : zFa) : Prop := ∀ k, k < s.1 → 2 ≤ s.2.1 k ∧ s.2.1 k ≤ L ∧ s.2.2 k < 2 ^ s.2.1 k ∧ 1 < zdi (s.2.2 k) (zbx (s.2.1 k) y)
theorem zfok_push {a : Nat → Int32} {n y l i L : Nat} {s : zFa} (h : zfok y L s) (h2 : 2 ≤ l) (hl : l ≤ L) (hi : i < 2 ^ l) : zfok y L (sp_fpush a n y l i s) := by
  unfold sp_fpush
  split
  · rename_i g
    intro k hk
    show 2 ≤ (if k = s.1 then l else s.2.1 k) ∧ (if k = s.1 then l else s.2.1 k) ≤ L ∧ (if k = s.1 then i else s.2.2 k) < 2 ^ (if k = s.1 then l else s.2.1 k) ∧ 1 < zdi (if k = s.1 then i else s.2.2 k) (zbx (if k = s.1 then l else s.2.1 k) y)
    by_cases e : k = s.1
    · simp only [if_pos e]
      exact ⟨h2, hl, hi, g.1⟩
    · simp only [if_neg e]
      have hk2 : k < s.1 + 1 := hk
      exact h k (by omega)
  · exact h
theorem zfok_row {a : Nat → Int32} {n y l L : Nat} {s : zFa} (h : zfok y L s) (h2 : 2 ≤ l) (hl : l ≤ L) : ∀ i, i ≤ 2 ^ l → zfok y L (sp_frow a n y l s i)
  | 0, _ => h
  | i + 1, hi => zfok_push (zfok_row h h2 hl i (by omega)) h2 hl (by omega)
theorem zfok_mono {y L M : Nat} {s : zFa} (h : zfok y L s) (hm : L ≤ M) : zfok y M s := fun k hk => ⟨(h k hk).1, Nat.le_trans (h k hk).2.1 hm, (h k hk).2.2⟩
theorem zfok_fars (a : Nat → Int32) (n y : Nat) : ∀ c, zfok y (1 + c) (sp_fars a n y c)
  | 0 => fun k hk => absurd hk (Nat.not_lt_zero k)
  | c + 1 => zfok_row (zfok_mono (zfok_fars a n y c) (by omega)) (by omega) (by omega) _ (Nat.le_refl _)
/-- two states of the reference, alike but for its far list -/
def zSf (w v : zM) : Prop := (∀ k, k ≠ 20 → v.1 k = w.1 k) ∧ (∀ k, k ≠ 18 → k ≠ 19 → v.2.1 k = w.2.1 k) ∧ v.2.2 = w.2.2
theorem zSf.refl (w : zM) : zSf w w := ⟨fun _ _ => rfl, fun _ _ _ => rfl, rfl⟩
theorem zSf.trans {u v w : zM} (h : zSf u v) (g : zSf v w) : zSf u w := ⟨fun k hk => (g.1 k hk).trans (h.1 k hk), fun k h1 h2 => (g.2.1 k h1 h2).trans (h.2.1 k h1 h2), g.2.2.trans h.2.2⟩
theorem zSf.ai18 {w v : zM} (h : zSf w v) (f : Nat → Int32) : zSf w (zAI v 18 f) := ⟨h.1, fun k h1 h2 => (if_neg h1).trans (h.2.1 k h1 h2), h.2.2⟩
theorem zSf.ai19 {w v : zM} (h : zSf w v) (f : Nat → Int32) : zSf w (zAI v 19 f) := ⟨h.1, fun k h1 h2 => (if_neg h2).trans (h.2.1 k h1 h2), h.2.2⟩
theorem zSf.s20 {w v : zM} (h : zSf w v) (x : Int32) : zSf w (zS v 20 x) := ⟨fun k hk => (if_neg hk).trans (h.1 k hk), h.2⟩
theorem zSf.row {w v : zM} (h : zSf w v) : v.2.1 1 = w.2.1 1 := h.2.1 1 (by decide) (by decide)
/-- the reference's far list is this one -/
def zFl (w : zM) (s : zFa) : Prop := w.1 20 = Int32.ofNat s.1 ∧ ∀ k, k < s.1 → w.2.1 18 k = Int32.ofNat (s.2.1 k) ∧ w.2.1 19 k = Int32.ofNat (s.2.2 k)
section ZM11
variable {m : Nat → Nat} {w : zM} {h : zw_H} {K : Nat → Option Nat} {X : String → Nat → zw_H → Prop}
theorem zFl_push {w : zM} {s : zFa} {l i : Nat} (h : zFl w s) : zFl (zS (zAI (zAI w 18 (upd (w.2.1 18) s.1 (Int32.ofNat l))) 19 (upd (w.2.1 19) s.1 (Int32.ofNat i))) 20 (Int32.ofNat (s.1 + 1))) (s.1 + 1, zun s.2.1 s.1 l, zun s.2.2 s.1 i) := by
  refine ⟨rfl, fun k hk => ?_⟩
  have hk : k < s.1 + 1 := hk
  show (if k = s.1 then Int32.ofNat l else w.2.1 18 k) = Int32.ofNat (if k = s.1 then l else s.2.1 k) ∧ (if k = s.1 then Int32.ofNat i else w.2.1 19 k) = Int32.ofNat (if k = s.1 then i else s.2.2 k)
  by_cases e : k = s.1
  · simp only [if_pos e, and_self]
  · simp only [if_neg e]
    exact h.2 k (by omega)
theorem c_laysFar (d : zm_d m) {a : Nat → Int32} (ha : w.2.1 1 = a) {n l o y : Nat} (hr : zRow a n l o) (hy : y < 256) {Q : zw_H → Prop} (hQ : ∀ v, zSf w v → zFl v (sp_fars a n y (l - 1)) → Q (zm_o m v h)) : f_X2_laysFar K (some (m 0)) (Int32.ofNat y) (zm_o m w h) Q X := by
  obtain ⟨hn, h24, hl, h2, h5, -⟩ := hr
  unfold f_X2_laysFar
  rw [zm_p20 d]
  refine zl2_inv (B := f_X2_laysFar_B7 K Q X (fun h8 => Q h8) (some (m 0)) (Int32.ofNat y)) (fun c x hh => x = Int32.ofNat (2 + c) ∧ ∃ v, hh = zm_o m v h ∧ zSf w v ∧ zFl v (sp_fars a n y c)) (n := l - 1) (fun R c hc x hh hp hR => ?_) (fun R x hh hp => ?_) (l - 1) zfu 0 (by omega) (Nat.lt_of_le_of_lt (show l - 1 ≤ 4 by omega) (by decide)) _ _ ⟨rfl, _, rfl, (zSf.refl w).s20 0, rfl, fun k hk => absurd hk (Nat.not_lt_zero k)⟩
  · obtain ⟨rfl, v, rfl, hs, hf⟩ := hp
    have hrow : v.2.1 1 = a := hs.row.trans ha
    unfold f_X2_laysFar_B7
    rw [e_a3 d, hrow, hl, if_neg (by rw [zi_lt (by omega) (by omega)]; omega)]
    have hp2 : 2 ^ (2 + c) ≤ 32 := Nat.pow_le_pow_right (n := 2) (j := 5) (by decide) (by omega)
    refine zl2_inv (B := f_X2_laysFar_B19 K Q X _ (some (m 0)) (Int32.ofNat y) (Int32.ofNat (2 + c))) (fun i x hh => x = Int32.ofNat i ∧ ∃ v, hh = zm_o m v h ∧ zSf w v ∧ zFl v (sp_frow a n y (2 + c) (sp_fars a n y c) i)) (n := 2 ^ (2 + c)) (fun R2 i hi x hh hp hR2 => ?_) (fun R2 x hh hp => ?_) (2 ^ (2 + c)) zfu 0 (by omega) (Nat.lt_of_le_of_lt hp2 (by decide)) _ _ ⟨rfl, v, rfl, hs, hf⟩
    · obtain ⟨rfl, v, rfl, hs, hf⟩ := hp
      have hrow : v.2.1 1 = a := hs.row.trans ha
      unfold f_X2_laysFar_B19 f_X2_laysFar_J73
      rw [zi_shl (by omega), if_neg (by rw [zi_le (by omega) (by omega)]; omega), e_boxOf]
      refine ⟨zi_wide0 (by omega), ?_⟩
      rw [zm_c d, zi_box (by omega) hy]
      refine c_isFar d (n := n) (by rw [hrow]; exact hn) h24 (zi_wide0 (by omega)) ?_
      rw [hrow]
      have hle := zc_frow a n y (2 + c) (sp_fars a n y c) i
      have hle2 := zc_fars a n y c
      by_cases g : zfarP a n y (2 + c) i
      · rw [sp_bt ((zfar_iff hy (by omega)).mpr g), if_pos (by decide)]
        have es : sp_frow a n y (2 + c) (sp_fars a n y c) (i + 1) = ((sp_frow a n y (2 + c) (sp_fars a n y c) i).1 + 1, zun (sp_frow a n y (2 + c) (sp_fars a n y c) i).2.1 (sp_frow a n y (2 + c) (sp_fars a n y c) i).1 (2 + c), zun (sp_frow a n y (2 + c) (sp_fars a n y c) i).2.2 (sp_frow a n y (2 + c) (sp_fars a n y c) i).1 i) := if_pos g
        generalize sp_frow a n y (2 + c) (sp_fars a n y c) i = s at hf hle es
        have hs1 : s.1 < 30 := by unfold zcnt at hle; omega
        rw [zm_g18 d, zm_g20 d, hf.1, zm_s18 d (by decide), zi_clamp (by omega)]
        refine ⟨zi_inn hs1 (by decide), ?_⟩
        rw [zm_g19 d, zm_g20 d, show (zAI v 18 (upd (v.2.1 18) s.1 (Int32.ofNat (2 + c)))).1 20 = Int32.ofNat s.1 from hf.1, zm_s19 d (by decide), zi_clamp (by omega)]
        refine ⟨zi_inn hs1 (by decide), ?_⟩
        rw [zm_g20 d, show (zAI (zAI v 18 (upd (v.2.1 18) s.1 (Int32.ofNat (2 + c)))) 19 (upd ((zAI v 18 (upd (v.2.1 18) s.1 (Int32.ofNat (2 + c)))).2.1 19) s.1 (Int32.ofNat i))).1 20 = Int32.ofNat s.1 from hf.1, zm_p20 d, zi_succ]
        simp only [olet_iff, zi_succ]
        refine hR2 _ _ ⟨rfl, _, rfl, ((hs.ai18 _).ai19 _).s20 _, ?_⟩
        rw [es]
        exact zFl_push hf
      · rw [sp_bf (fun e => g ((zfar_iff hy (by omega)).mp e)), if_neg (by decide)]
        simp only [olet_iff, zi_succ]
        have es : sp_frow a n y (2 + c) (sp_fars a n y c) (i + 1) = sp_frow a n y (2 + c) (sp_fars a n y c) i := if_neg g
        exact hR2 _ _ ⟨rfl, v, rfl, hs, by rw [es]; exact hf⟩
    · obtain ⟨rfl, v, rfl, hs, hf⟩ := hp
      unfold f_X2_laysFar_B19
      rw [zi_shl (by omega), if_pos (by rw [zi_le (by omega) (by omega)]; omega)]
      simp only [olet_iff, zi_succ]
      exact hR _ _ ⟨rfl, v, rfl, hs, hf⟩
  · obtain ⟨rfl, v, rfl, hs, hf⟩ := hp
    have hrow : v.2.1 1 = a := hs.row.trans ha
    unfold f_X2_laysFar_B7
    rw [e_a3 d, hrow, hl, if_pos (by rw [zi_lt (by omega) (by omega)]; omega)]
    exact hQ v hs hf
end ZM11
