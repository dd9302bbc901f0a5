set_option maxRecDepth 100000
/-! the reference's texts -/
def sp_cnt (a : Nat → Int32) (n l i : Nat) : Nat := (sp_bodiesIn a n (Int32.ofNat l) (Int32.ofNat i)).toNatClampNeg
theorem sp_cnt_eq (a : Nat → Int32) {n : Nat} (l i : Nat) (h : n ≤ 24) : sp_bodiesIn a n (Int32.ofNat l) (Int32.ofNat i) = Int32.ofNat (sp_cnt a n l i) ∧ sp_cnt a n l i ≤ 24 := by
  obtain ⟨c, h1, h2⟩ := zc_bodiesIn a (Int32.ofNat l) (Int32.ofNat i) n h
  unfold sp_cnt
  rw [h2, zi_clamp (by omega)]
  exact ⟨rfl, by omega⟩
def sp_leafc (c : Nat) : Nat := if c < 10 then 48 + c else 87 + c
def sp_tLeaves (a : Nat → Int32) (n l c : Nat) : List Nat := zacc (fun i L => L ++ [sp_leafc (sp_cnt a n l i)]) [] c
theorem sp_tLeaves_len (a : Nat → Int32) (n l : Nat) : ∀ c, (sp_tLeaves a n l c).length = c
  | 0 => rfl
  | c + 1 => by
    show (sp_tLeaves a n l c ++ [_]).length = c + 1
    rw [List.length_append, sp_tLeaves_len a n l c]
    rfl
/-- the magnitude of a charge -/
def zmag (a : Nat → Int32) (b : Nat) : Nat := (sp_far (a (7 + 4 * b + 1)) 0).toNatClampNeg
theorem zmag_eq {a : Nat → Int32} {n l o b : Nat} (hr : zRow a n l o) (hb : b < n) : sp_far (a (7 + 4 * b + 1)) 0 = Int32.ofNat (zmag a b) ∧ 1 ≤ zmag a b ∧ zmag a b ≤ 99 := by
  obtain ⟨-, ⟨g1, g2, g3⟩, -⟩ := hr.2.2.2.2.2.2.2.2 b hb
  obtain ⟨c, h1, h2, h3⟩ := zi_99 g1 g2 g3
  unfold zmag
  rw [h3, zi_clamp (by omega)]
  exact ⟨rfl, h1, h2⟩
def sp_tBody (a : Nat → Int32) (b : Nat) : List Nat := sp_num (zpt a b) ++ ((if a (7 + 4 * b + 2) = 1 then [42] else []) ++ ([58] ++ ((if a (7 + 4 * b + 1) < 0 then [45] else []) ++ sp_num (zmag a b))))
def sp_tBodies (a : Nat → Int32) (c : Nat) : List Nat := zacc (fun b L => L ++ ((if b = 0 then [] else [32]) ++ sp_tBody a b)) [] c
theorem sp_tBody_len (a : Nat → Int32) (b : Nat) : (sp_tBody a b).length ≤ 9 := by
  have h1 := sp_dgD_le (zpt a b)
  have h2 := sp_dgD_le (zmag a b)
  unfold sp_tBody
  simp only [List.length_append, sp_num_len, List.length_singleton]
  split <;> split <;> simp only [List.length_singleton, List.length_nil] <;> omega
theorem sp_tBodies_len (a : Nat → Int32) : ∀ c, (sp_tBodies a c).length ≤ 10 * c
  | 0 => Nat.le_refl _
  | c + 1 => by
    have ih := sp_tBodies_len a c
    have h := sp_tBody_len a c
    show (sp_tBodies a c ++ ((if c = 0 then [] else [32]) ++ sp_tBody a c)).length ≤ _
    rw [List.length_append, List.length_append]
    split
    · simp only [List.length_nil]
      omega
    · simp only [List.length_singleton]
      omega
def zs_line : List Nat := [108, 105, 110, 101]
def zs_fixed : List Nat := [102, 105, 120, 101, 100]
def zs_free : List Nat := [102, 114, 101, 101]
def zs_minus : List Nat := [109, 105, 110, 117, 115]
def sp_tTok (k : Nat) : List Nat := [32] ++ sp_num k
def sp_tLb (a : Nat → Int32) (b : Nat) : List Nat := ((if a (7 + 4 * b + 2) = 1 then [59] ++ zs_fixed else [59] ++ zs_free) ++ (sp_tTok (zpt a b) ++ ((if a (7 + 4 * b + 1) < 0 then [32] ++ zs_minus else []) ++ sp_tTok (zmag a b))))
def sp_tLine0 (a : Nat → Int32) (c : Nat) : List Nat := zacc (fun c L => L ++ sp_tTok (a (3 + c)).toNatClampNeg) zs_line c
def sp_tLine (a : Nat → Int32) (c : Nat) : List Nat := zacc (fun b L => L ++ sp_tLb a b) (sp_tLine0 a 3) c
theorem sp_tTok_len (k : Nat) : (sp_tTok k).length ≤ 4 := by
  have := sp_dgD_le k
  unfold sp_tTok
  rw [List.length_append, sp_num_len]
  show 1 + _ ≤ _
  omega
theorem sp_tTok_len1 {k : Nat} (h : k < 100) : (sp_tTok k).length ≤ 3 := by
  have := sp_dgD_le1 h
  unfold sp_tTok
  rw [List.length_append, sp_num_len]
  show 1 + _ ≤ _
  omega
theorem sp_tLb_len {a : Nat → Int32} {n l o b : Nat} (hr : zRow a n l o) (hb : b < n) : (sp_tLb a b).length ≤ 19 := by
  have h1 := sp_tTok_len (zpt a b)
  have h2 := sp_tTok_len1 (k := zmag a b) (by have := (zmag_eq hr hb).2.2; omega)
  unfold sp_tLb
  simp only [List.length_append]
  have e1 : (if a (7 + 4 * b + 2) = 1 then [59] ++ zs_fixed else [59] ++ zs_free).length ≤ 6 := by split <;> decide
  have e2 : (if a (7 + 4 * b + 1) < 0 then [32] ++ zs_minus else []).length ≤ 6 := by split <;> decide
  omega
theorem sp_tLine0_len (a : Nat → Int32) : ∀ c, (sp_tLine0 a c).length ≤ 4 + 4 * c
  | 0 => Nat.le_refl _
  | c + 1 => by
    have ih := sp_tLine0_len a c
    have h := sp_tTok_len (a (3 + c)).toNatClampNeg
    show (sp_tLine0 a c ++ sp_tTok (a (3 + c)).toNatClampNeg).length ≤ _
    rw [List.length_append]
    omega
theorem sp_tLine_len {a : Nat → Int32} {n l o : Nat} (hr : zRow a n l o) : ∀ c, c ≤ n → (sp_tLine a c).length ≤ 16 + 19 * c
  | 0, _ => sp_tLine0_len a 3
  | c + 1, hc => by
    have ih := sp_tLine_len hr c (by omega)
    have h := sp_tLb_len hr (b := c) (by omega)
    show (sp_tLine a c ++ sp_tLb a c).length ≤ _
    rw [List.length_append]
    omega
def sp_tFar1 (s : zFa) (k : Nat) : List Nat := sp_num (s.2.1 k) ++ ([47] ++ sp_num (s.2.2 k))
def sp_tFars (s : zFa) (c : Nat) : List Nat := zacc (fun k L => L ++ ((if k = 0 then [] else [32]) ++ sp_tFar1 s k)) [] c
theorem sp_tFars_len (s : zFa) : ∀ c, (sp_tFars s c).length ≤ 8 * c
  | 0 => Nat.le_refl _
  | c + 1 => by
    have ih := sp_tFars_len s c
    have h1 := sp_dgD_le (s.2.1 c)
    have h2 := sp_dgD_le (s.2.2 c)
    show (sp_tFars s c ++ ((if c = 0 then [] else [32]) ++ (sp_num (s.2.1 c) ++ ([47] ++ sp_num (s.2.2 c))))).length ≤ _
    simp only [List.length_append, sp_num_len, List.length_singleton]
    split
    · simp only [List.length_nil]
      omega
    · simp only [List.length_singleton]
      omega
/-- the string constants of the reference -/
def zKs (K : Nat → Option Nat) (h : zw_H) : Prop := zStr h (K 16) zs_line ∧ zStr h (K 17) zs_fixed ∧ zStr h (K 18) zs_free ∧ zStr h (K 19) zs_minus ∧ zStr h (K 20) ([59] ++ zs_fixed) ∧ zStr h (K 21) ([59] ++ zs_free) ∧ zStr h (K 22) ([32] ++ zs_minus)
/-- .. a text written: the code, and the page -/
def zSt (w v : zM) : Prop := (∀ k, k ≠ 0 → k ≠ 20 → k ≠ 25 → v.1 k = w.1 k) ∧ (∀ k, k ≠ 2 → k ≠ 18 → k ≠ 19 → k ≠ 23 → k ≠ 24 → v.2.1 k = w.2.1 k)
def sp_txt (n : Nat) (T : List Nat) : List Nat := if n = 0 then [46] else T
section ZM22
variable {m : Nat → Nat} {w : zM} {h : zw_H} {K : Nat → Option Nat} {X : String → Nat → zw_H → Prop}
theorem zSt.mk0 {w v : zM} (h : zSw (zS (zS w 0 0) 25 0) v) : v.1 0 = 0 ∧ zSt w v := ⟨h.1 0 (by decide), fun k h1 h2 h3 => (h.1 k h3).trans ((if_neg h3).trans (if_neg h1)), fun k _ _ _ _ h5 => h.2.1 k h5⟩
theorem zSt.mk1 {w v u : zM} (g : zSf (zS w 0 0) u) (h : zSw (zS u 25 0) v) : v.1 0 = 0 ∧ zSt w v := ⟨(h.1 0 (by decide)).trans (g.1 0 (by decide)), fun k h1 h2 h3 => (h.1 k h3).trans ((if_neg h3).trans ((g.1 k h2).trans (if_neg h1))), fun k _ h2 h3 _ h5 => (h.2.1 k h5).trans (g.2.1 k h2 h3)⟩
theorem zPg_nil (w : zM) : zPg (zS w 25 0) [] := ⟨rfl, fun q c h => by cases h⟩
theorem p_writeLeaves (d : zm_d m) {n l o : Nat} (I : zInv w n l o) {Q : Int32 → zw_H → Prop} (h0 : sp_cT (w.1 6) ≠ 0 → Q 0 (zm_o m (zS w 0 (sp_cT (w.1 6))) h)) (h1 : sp_cT (w.1 6) = 0 → ∀ v, v.1 0 = 0 → zSt w v → zPg v (sp_tLeaves (w.2.1 1) n l (2 ^ l)) → Q (Int32.ofNat (sp_tLeaves (w.2.1 1) n l (2 ^ l)).length) (zm_o m v h)) : f_X2_writeLeaves K (some (m 0)) (zm_o m w h) Q X := by
  unfold f_X2_writeLeaves
  refine q_asn d h0 (fun g gt => ?_)
  have hr := I gt
  have H := h1 g
  obtain ⟨hn, h24, hl, h2, h5, -⟩ := hr
  have hp := zi_p5 h5
  rw [zm_p25 d]
  refine zl2_inv (B := f_X2_writeLeaves_B16 K Q X _ (some (m 0))) (fun i x hh => x = Int32.ofNat i ∧ ∃ v, hh = zm_o m v h ∧ zSw (zS (zS w 0 0) 25 0) v ∧ zPg v (sp_tLeaves (w.2.1 1) n l i)) (n := 2 ^ l) (fun R i hi x hh hp hR => ?_) (fun R x hh hp => ?_) (2 ^ l) zfu 0 (by omega) (Nat.lt_of_le_of_lt hp (by decide)) _ _ ⟨rfl, _, rfl, zSw.refl _, zPg_nil _⟩
  · obtain ⟨rfl, v, rfl, hs, hv⟩ := hp
    have hrow : v.2.1 1 = w.2.1 1 := hs.row
    obtain ⟨c1, c2⟩ := sp_cnt_eq (w.2.1 1) l i h24
    unfold f_X2_writeLeaves_B16 f_X2_writeLeaves_J61
    rw [e_a3 d, hrow, hl, zi_shl (by omega), if_neg (by rw [zi_le (by omega) (by omega)]; omega), e_a3 d, hrow, hl, zm_c d]
    refine c_bodiesIn d (n := n) (by rw [hrow]; exact hn) h24 (zi_wide0 (by omega)) ?_
    rw [hrow, c1]
    have hfin : ∀ u, zSw v u → zPg u (sp_tLeaves (w.2.1 1) n l i ++ [sp_leafc (sp_cnt (w.2.1 1) n l i)]) → R (Int32.ofNat i + 1) (zm_o m u h) := fun u hu hu2 => hR _ _ ⟨zi_succ i, u, rfl, hs.trans hu, hu2⟩
    have hlen := sp_tLeaves_len (w.2.1 1) n l i
    unfold sp_leafc at hfin
    split
    · rename_i g2
      rw [show (10 : Int32) = Int32.ofNat 10 from rfl, zi_le (by omega) (by omega)] at g2
      rw [if_neg (by omega)] at hfin
      have e : ((97 : Int32) + Int32.ofNat (sp_cnt (w.2.1 1) n l i)) - 10 = Int32.ofNat (87 + sp_cnt (w.2.1 1) n l i) := by
        rw [show (97 : Int32) + Int32.ofNat (sp_cnt (w.2.1 1) n l i) = Int32.ofNat (97 + sp_cnt (w.2.1 1) n l i) from (Int32.ofNat_add 97 _).symm, show 87 + sp_cnt (w.2.1 1) n l i = 97 + sp_cnt (w.2.1 1) n l i - 10 by omega]
        exact (Int32.ofNat_sub _ 10 (by omega)).symm
      rw [e, zm_c d]
      refine c_writesByte d hv (by omega) (by omega) (fun u hu hu2 => ?_)
      simp only [olet_iff]
      exact hfin u hu hu2
    · rename_i g2
      rw [show (10 : Int32) = Int32.ofNat 10 from rfl, zi_le (by omega) (by omega)] at g2
      rw [if_pos (by omega)] at hfin
      rw [show (48 : Int32) + Int32.ofNat (sp_cnt (w.2.1 1) n l i) = Int32.ofNat (48 + sp_cnt (w.2.1 1) n l i) from (Int32.ofNat_add 48 _).symm, zm_c d]
      refine c_writesByte d hv (by omega) (by omega) (fun u hu hu2 => ?_)
      simp only [olet_iff]
      exact hfin u hu hu2
  · obtain ⟨rfl, v, rfl, hs, hv⟩ := hp
    have hrow : v.2.1 1 = w.2.1 1 := hs.row
    unfold f_X2_writeLeaves_B16
    rw [e_a3 d, hrow, hl, zi_shl (by omega), if_pos (by rw [zi_le (by omega) (by omega)]; omega)]
    dsimp only
    rw [zm_g25 d, hv.1]
    exact H v (zSt.mk0 hs).1 (zSt.mk0 hs).2 hv
theorem c_writesBody (d : zm_d m) {a : Nat → Int32} (ha : w.2.1 1 = a) {n l o b : Nat} (hr : zRow a n l o) (hb : b < n) {T : List Nat} (hT : zPg w T) (hl : T.length ≤ 460) {Q : zw_H → Prop} (hQ : ∀ v, zSw w v → zPg v (T ++ sp_tBody a b) → Q (zm_o m v h)) : f_X2_writesBody K (some (m 0)) (Int32.ofNat b) (zm_o m w h) Q X := by
  have h24 := hr.2.1
  obtain ⟨e1, e2⟩ := zpt_eq hr hb
  obtain ⟨e3, e4, e5⟩ := zmag_eq hr hb
  have l1 := sp_dgD_le (zpt a b)
  have l2 := sp_dgD_le (zmag a b)
  unfold f_X2_writesBody
  rw [zm_c d, e_of0 d (by omega), ha, e1, zm_c d]
  unfold sp_tBody at hQ
  refine c_writesNumber d hT (by omega) (by omega) (fun v hv hv2 => ?_)
  have hrow : v.2.1 1 = a := hv.row.trans ha
  rw [zm_c d, e_of2 d (by omega), hrow]
  have k47 : ∀ (u : zM) (U : List Nat), zSw w u → zPg u U → U.length ≤ 470 → (∀ x, zSw w x → zPg x (U ++ sp_num (zmag a b)) → Q (zm_o m x h)) → f_X2_writesBody_J47 K Q X (some (m 0)) (Int32.ofNat b) (zm_o m u h) := by
    intro u U hu hu2 hlen hk
    unfold f_X2_writesBody_J47
    rw [zm_c d, e_of1 d (by omega), hu.row.trans ha, e_far, e3, zm_c d]
    exact c_writesNumber d hu2 (by omega) (by omega) (fun x hx hx2 => hk x (hu.trans hx) hx2)
  have k26 : ∀ (u : zM) (U : List Nat), zSw w u → zPg u U → U.length ≤ 467 → (∀ x, zSw w x → zPg x (U ++ ([58] ++ ((if a (7 + 4 * b + 1) < 0 then [45] else []) ++ sp_num (zmag a b)))) → Q (zm_o m x h)) → f_X2_writesBody_J26 K Q X (some (m 0)) (Int32.ofNat b) (zm_o m u h) := by
    intro u U hu hu2 hlen hk
    unfold f_X2_writesBody_J26
    rw [zm_c d]
    refine c_writesByte d (c := 58) hu2 (by decide) (by omega) (fun x hx hx2 => ?_)
    have hux := hu.trans hx
    rw [zm_c d, e_of1 d (by omega), hux.row.trans ha]
    by_cases g : a (7 + 4 * b + 1) < 0
    · rw [if_neg (Int32.not_le.mpr g), zm_c d]
      refine c_writesByte d (c := 45) hx2 (by decide) (by rw [List.length_append, List.length_singleton]; omega) (fun t ht ht2 => ?_)
      refine k47 t _ (hux.trans ht) ht2 (by simp only [List.length_append, List.length_singleton]; omega) (fun s hs hs2 => hk s hs ?_)
      rw [if_pos g]
      simp only [List.append_assoc] at hs2 ⊢
      exact hs2
    · rw [if_pos (Int32.not_lt.mp g)]
      refine k47 x _ hux hx2 (by simp only [List.length_append, List.length_singleton]; omega) (fun s hs hs2 => hk s hs ?_)
      rw [if_neg g]
      simp only [List.append_assoc, List.nil_append] at hs2 ⊢
      exact hs2
  by_cases g : a (7 + 4 * b + 2) = 1
  · rw [if_neg (fun e => e g), zm_c d]
    refine c_writesByte d (c := 42) hv2 (by decide) (by rw [List.length_append, sp_num_len]; omega) (fun u hu hu2 => ?_)
    refine k26 u _ (hv.trans hu) hu2 (by simp only [List.length_append, List.length_singleton, sp_num_len]; omega) (fun s hs hs2 => hQ s hs ?_)
    rw [if_pos g]
    simp only [List.append_assoc] at hs2 ⊢
    exact hs2
  · rw [if_pos g]
    refine k26 v _ hv hv2 (by simp only [List.length_append, sp_num_len]; omega) (fun s hs hs2 => hQ s hs ?_)
    rw [if_neg g]
    simp only [List.append_assoc, List.nil_append] at hs2 ⊢
    exact hs2
theorem p_writeBodies (d : zm_d m) {n l o : Nat} (I : zInv w n l o) {Q : Int32 → zw_H → Prop} (h0 : sp_cT (w.1 6) ≠ 0 → Q 0 (zm_o m (zS w 0 (sp_cT (w.1 6))) h)) (h1 : sp_cT (w.1 6) = 0 → ∀ v, v.1 0 = 0 → zSt w v → zPg v (sp_txt n (sp_tBodies (w.2.1 1) n)) → Q (Int32.ofNat (sp_txt n (sp_tBodies (w.2.1 1) n)).length) (zm_o m v h)) : f_X2_writeBodies K (some (m 0)) (zm_o m w h) Q X := by
  unfold f_X2_writeBodies
  refine q_asn d h0 (fun g gt => ?_)
  have hr := I gt
  have H := h1 g
  have hn := hr.1
  have h24 := hr.2.1
  rw [zm_p25 d, e_n (w := zS (zS w 0 0) 25 0) d (n := n) hn]
  unfold sp_txt at H
  have key : ∀ (T : List Nat) (u : zM), zSw (zS (zS w 0 0) 25 0) u → zPg u T → (n ≠ 0 → T = []) → (∀ v, v.1 0 = 0 → zSt w v → zPg v (if n = 0 then T else sp_tBodies (w.2.1 1) n) → Q (Int32.ofNat (if n = 0 then T else sp_tBodies (w.2.1 1) n).length) (zm_o m v h)) → f_X2_writeBodies_J29 K Q X (some (m 0)) (zm_o m u h) := by
    intro T u hu hu2 hT hk
    unfold f_X2_writeBodies_J29
    refine zl2_inv (B := f_X2_writeBodies_B31 K Q X _ (some (m 0))) (fun b x hh => x = Int32.ofNat b ∧ ∃ v, hh = zm_o m v h ∧ zSw (zS (zS w 0 0) 25 0) v ∧ zPg v (if b = 0 then T else sp_tBodies (w.2.1 1) b)) (n := n) (fun R b hb x hh hp hR => ?_) (fun R x hh hp => ?_) n zfu 0 (by omega) (Nat.lt_of_le_of_lt h24 (by decide)) _ _ ⟨rfl, u, rfl, hu, by rw [if_pos rfl]; exact hu2⟩
    · obtain ⟨rfl, v, rfl, hs, hv⟩ := hp
      have hrow : v.2.1 1 = w.2.1 1 := hs.row
      have hv : zPg v (sp_tBodies (w.2.1 1) b) := by
        by_cases e : b = 0
        · rw [if_pos e, hT (by omega)] at hv
          rw [e]
          exact hv
        · rw [if_neg e] at hv
          exact hv
      have hlen := sp_tBodies_len (w.2.1 1) b
      unfold f_X2_writeBodies_B31 f_X2_writeBodies_J51
      rw [e_n d (n := n) (by rw [hrow]; exact hn), if_neg (by rw [zi_le (by omega) (by omega)]; omega)]
      by_cases e : b = 0
      · rw [if_pos (by rw [e]; decide), zm_c d]
        refine c_writesBody d hrow hr hb hv (by omega) (fun t ht ht2 => ?_)
        simp only [olet_iff, zi_succ]
        refine hR _ _ ⟨rfl, t, rfl, hs.trans ht, ?_⟩
        rw [if_neg (by omega)]
        show zPg t (sp_tBodies (w.2.1 1) b ++ ((if b = 0 then [] else [32]) ++ sp_tBody (w.2.1 1) b))
        rw [if_pos e, List.nil_append]
        exact ht2
      · rw [if_neg (by rw [show (0 : Int32) = Int32.ofNat 0 from rfl, zi_le (by omega) (by omega)]; omega), zm_c d]
        refine c_writesByte d (c := 32) hv (by decide) (by omega) (fun t ht ht2 => ?_)
        rw [zm_c d]
        refine c_writesBody d (ht.row.trans hrow) hr hb ht2 (by rw [List.length_append, List.length_singleton]; omega) (fun s hs2 hs3 => ?_)
        simp only [olet_iff, zi_succ]
        refine hR _ _ ⟨rfl, s, rfl, (hs.trans ht).trans hs2, ?_⟩
        rw [if_neg (by omega)]
        show zPg s (sp_tBodies (w.2.1 1) b ++ ((if b = 0 then [] else [32]) ++ sp_tBody (w.2.1 1) b))
        rw [if_neg e]
        rw [List.append_assoc] at hs3
        exact hs3
    · obtain ⟨rfl, v, rfl, hs, hv⟩ := hp
      have hrow : v.2.1 1 = w.2.1 1 := hs.row
      unfold f_X2_writeBodies_B31
      rw [e_n d (n := n) (by rw [hrow]; exact hn), if_pos (by rw [zi_le (by omega) (by omega)]; omega)]
      dsimp only
      rw [zm_g25 d, hv.1]
      exact hk v (zSt.mk0 hs).1 (zSt.mk0 hs).2 hv
  by_cases g2 : n = 0
  · rw [if_neg (show ¬ Int32.ofNat n ≠ 0 from fun e => e (by rw [g2]; rfl)), zm_c d]
    refine c_writesByte d (c := 46) (zPg_nil _) (by decide) (by decide) (fun t ht ht2 => ?_)
    refine key _ t ht ht2 (fun e => absurd g2 e) (fun v hv hv2 hv3 => ?_)
    rw [if_pos g2] at hv3 ⊢
    rw [if_pos g2] at H
    exact H v hv hv2 hv3
  · rw [if_pos (show Int32.ofNat n ≠ 0 from fun e => g2 ((zi_inj (b := 0) (by omega) (by decide)).mp e))]
    refine key [] _ (zSw.refl _) (zPg_nil _) (fun _ => rfl) (fun v hv hv2 hv3 => ?_)
    rw [if_neg g2] at hv3 ⊢
    rw [if_neg g2] at H
    exact H v hv hv2 hv3
theorem c_writesToken (d : zm_d m) {T : List Nat} {k : Nat} (hT : zPg w T) (hk : k < 1000) (hl : T.length + (sp_tTok k).length ≤ 480) {Q : zw_H → Prop} (hQ : ∀ v, zSw w v → zPg v (T ++ sp_tTok k) → Q (zm_o m v h)) : f_X2_writesToken K (some (m 0)) (Int32.ofNat k) (zm_o m w h) Q X := by
  unfold sp_tTok at hl hQ
  rw [List.length_append, sp_num_len, List.length_singleton] at hl
  unfold f_X2_writesToken
  rw [zm_c d]
  refine c_writesByte d (c := 32) hT (by decide) (by omega) (fun v hv hv2 => ?_)
  rw [zm_c d]
  refine c_writesNumber d hv2 hk (by rw [List.length_append, List.length_singleton]; omega) (fun u hu hu2 => hQ u (hv.trans hu) ?_)
  rw [List.append_assoc] at hu2
  exact hu2
theorem p_writeLine (d : zm_d m) (hx : zm_x m h) (hK : zKs K h) {n l o : Nat} (I : zInv w n l o) {Q : Int32 → zw_H → Prop} (h0 : sp_cT (w.1 6) ≠ 0 → Q 0 (zm_o m (zS w 0 (sp_cT (w.1 6))) h)) (h1 : sp_cT (w.1 6) = 0 → ∀ v, v.1 0 = 0 → zSt w v → zPg v (sp_tLine (w.2.1 1) n) → Q (Int32.ofNat (sp_tLine (w.2.1 1) n).length) (zm_o m v h)) : f_X2_writeLine K (some (m 0)) (zm_o m w h) Q X := by
  unfold f_X2_writeLine
  refine q_asn d h0 (fun g gt => ?_)
  have hr := I gt
  have H := h1 g
  obtain ⟨s1, s2, s3, s4, s5, s6, s7⟩ := hK
  obtain ⟨hn, h24, hl, h2, h5, ho, h4, ⟨f, hf, hf2⟩, hb⟩ := id hr
  rw [zm_p25 d, zm_c d]
  refine c_writesWord d hx s1 (zPg_nil _) (by decide) (fun u hu hu2 => ?_)
  rw [List.nil_append] at hu2
  refine zl2_inv (B := f_X2_writeLine_B22 K Q X _ (some (m 0))) (fun c x hh => x = Int32.ofNat (3 + c) ∧ ∃ v, hh = zm_o m v h ∧ zSw (zS (zS w 0 0) 25 0) v ∧ zPg v (sp_tLine0 (w.2.1 1) c)) (n := 3) (fun R c hc x hh hp hR => ?_) (fun R x hh hp => ?_) 3 zfu 0 (by omega) (by decide) _ _ ⟨rfl, u, rfl, hu, hu2⟩
  · obtain ⟨rfl, v, rfl, hs, hv⟩ := hp
    have hrow : v.2.1 1 = w.2.1 1 := hs.row
    have hlen := sp_tLine0_len (w.2.1 1) c
    have htk := sp_tTok_len ((w.2.1 1) (3 + c)).toNatClampNeg
    have hval : ∃ k, k < 1000 ∧ (w.2.1 1) (3 + c) = Int32.ofNat k := by
      have e : c = 0 ∨ c = 1 ∨ c = 2 := by omega
      rcases e with rfl | rfl | rfl
      · exact ⟨l, by omega, hl⟩
      · exact ⟨o, by omega, ho⟩
      · exact ⟨f, by omega, hf2⟩
    obtain ⟨k, hk, hk2⟩ := hval
    unfold f_X2_writeLine_B22
    rw [if_neg (by rw [show (5 : Int32) = Int32.ofNat 5 from rfl, zi_lt (by omega) (by omega)]; omega), zm_g1 d, zm_r1 d (by decide), zi_clamp (by omega), hrow]
    refine ⟨zi_inn (by omega) (by decide), ?_⟩
    have hR2 : ∀ t, zSw v t → zPg t (sp_tLine0 (w.2.1 1) c ++ sp_tTok ((w.2.1 1) (3 + c)).toNatClampNeg) → R (Int32.ofNat (3 + c + 1)) (zm_o m t h) := fun t ht ht2 => hR _ _ ⟨rfl, t, rfl, hs.trans ht, ht2⟩
    rw [hk2] at hR2 htk ⊢
    rw [zi_clamp (by omega)] at hR2 htk
    rw [zm_c d]
    refine c_writesToken d hv hk (by omega) (fun t ht ht2 => ?_)
    simp only [olet_iff, zi_succ]
    exact hR2 t ht ht2
  · obtain ⟨rfl, v, rfl, hs, hv⟩ := hp
    unfold f_X2_writeLine_B22
    rw [if_pos (by decide)]
    refine zl2_inv (B := f_X2_writeLine_B45 K Q X _ (some (m 0))) (fun b x hh => x = Int32.ofNat b ∧ ∃ v, hh = zm_o m v h ∧ zSw (zS (zS w 0 0) 25 0) v ∧ zPg v (sp_tLine (w.2.1 1) b)) (n := n) (fun R2 b hb x hh hp hR => ?_) (fun R2 x hh hp => ?_) n zfu 0 (by omega) (Nat.lt_of_le_of_lt h24 (by decide)) _ _ ⟨rfl, v, rfl, hs, hv⟩
    · obtain ⟨rfl, v, rfl, hs, hv⟩ := hp
      have hrow : v.2.1 1 = w.2.1 1 := hs.row
      have hlen := sp_tLine_len hr b (by omega)
      obtain ⟨e1, e2⟩ := zpt_eq hr hb
      obtain ⟨e3, e4, e5⟩ := zmag_eq hr hb
      have l1 := sp_tTok_len (zpt (w.2.1 1) b)
      have l2 := sp_tTok_len1 (k := zmag (w.2.1 1) b) (by omega)
      have hR2 : ∀ t, zSw v t → zPg t (sp_tLine (w.2.1 1) b ++ sp_tLb (w.2.1 1) b) → R2 (Int32.ofNat b + 1) (zm_o m t h) := fun t ht ht2 => hR _ _ ⟨zi_succ b, t, rfl, hs.trans ht, ht2⟩
      have k104 : ∀ (x : zM) (U : List Nat), zSw v x → zPg x U → U.length + 3 ≤ 480 → (∀ t, zSw v t → zPg t (U ++ sp_tTok (zmag (w.2.1 1) b)) → R2 (Int32.ofNat b + 1) (zm_o m t h)) → f_X2_writeLine_J104 K Q X R2 (fun h15 => og_I h15 (some (m 0)) [0] 25 (fun v13 => Q v13 h15)) (some (m 0)) (Int32.ofNat b) (zm_o m x h) := by
        intro x U hx1 hx2 hxl hk
        unfold f_X2_writeLine_J104
        rw [zm_c d, e_of1 d (by omega), hx1.row.trans hrow, e_far, e3, zm_c d]
        refine c_writesToken d hx2 (by omega) (by omega) (fun t ht ht2 => ?_)
        simp only [olet_iff]
        exact hk t (hx1.trans ht) ht2
      have k75 : ∀ (r : Option Nat) (W : List Nat), zStr h r W → W.length ≤ 6 → (∀ t, zSw v t → zPg t (sp_tLine (w.2.1 1) b ++ (W ++ (sp_tTok (zpt (w.2.1 1) b) ++ ((if (w.2.1 1) (7 + 4 * b + 1) < 0 then [32] ++ zs_minus else []) ++ sp_tTok (zmag (w.2.1 1) b))))) → R2 (Int32.ofNat b + 1) (zm_o m t h)) → f_X2_writeLine_J75 K Q X R2 (fun h15 => og_I h15 (some (m 0)) [0] 25 (fun v13 => Q v13 h15)) (some (m 0)) (Int32.ofNat b) r (some (m 0)) (zm_o m v h) := by
        intro r W hW hWl hk
        unfold f_X2_writeLine_J75
        rw [zm_c d]
        refine c_writesWord d hx hW hv (by omega) (fun t ht ht2 => ?_)
        rw [zm_c d, e_of0 d (by omega), ht.row.trans hrow, e1, zm_c d]
        refine c_writesToken d ht2 (by omega) (by rw [List.length_append]; omega) (fun u hu hu2 => ?_)
        have htu := ht.trans hu
        rw [zm_c d, e_of1 d (by omega), htu.row.trans hrow]
        by_cases g9 : (w.2.1 1) (7 + 4 * b + 1) < 0
        · rw [if_neg (Int32.not_le.mpr g9), zm_c d]
          refine c_writesWord d hx s7 hu2 (by simp only [List.length_append]; show _ + (1 + 5) ≤ 480; omega) (fun y hy hy2 => ?_)
          refine k104 y _ (htu.trans hy) hy2 (by simp only [List.length_append]; show _ + (1 + 5) + 3 ≤ 480; omega) (fun z hz hz2 => hk z hz ?_)
          rw [if_pos g9]
          simp only [List.append_assoc] at hz2 ⊢
          exact hz2
        · rw [if_pos (Int32.not_lt.mp g9)]
          refine k104 u _ htu hu2 (by simp only [List.length_append]; omega) (fun z hz hz2 => hk z hz ?_)
          rw [if_neg g9]
          simp only [List.append_assoc, List.nil_append] at hz2 ⊢
          exact hz2
      unfold f_X2_writeLine_B45
      rw [e_n d (n := n) (by rw [hrow]; exact hn), if_neg (by rw [zi_le (by omega) (by omega)]; omega), zm_c d, e_of2 d (by omega), hrow]
      unfold sp_tLb at hR2
      by_cases g9 : (w.2.1 1) (7 + 4 * b + 2) = 1
      · rw [if_neg (fun e => e g9)]
        rw [if_pos g9] at hR2
        exact k75 _ _ s5 (by decide) hR2
      · rw [if_pos g9]
        rw [if_neg g9] at hR2
        exact k75 _ _ s6 (by decide) hR2
    · obtain ⟨rfl, v, rfl, hs, hv⟩ := hp
      have hrow : v.2.1 1 = w.2.1 1 := hs.row
      unfold f_X2_writeLine_B45
      rw [e_n d (n := n) (by rw [hrow]; exact hn), if_pos (by rw [zi_le (by omega) (by omega)]; omega)]
      dsimp only
      rw [zm_g25 d, hv.1]
      exact H v (zSt.mk0 hs).1 (zSt.mk0 hs).2 hv
theorem p_writeFar (d : zm_d m) {n l o : Nat} (I : zInv w n l o) {x : Int32} {Q : Int32 → zw_H → Prop} (h0 : sp_cP (w.1 6) x ≠ 0 → Q 0 (zm_o m (zS w 0 (sp_cP (w.1 6) x)) h)) (h1 : sp_cP (w.1 6) x = 0 → ∀ y, y < 256 → x = Int32.ofNat y → ∀ v, v.1 0 = 0 → zSt w v → zPg v (sp_txt (sp_fars (w.2.1 1) n y (l - 1)).1 (sp_tFars (sp_fars (w.2.1 1) n y (l - 1)) (sp_fars (w.2.1 1) n y (l - 1)).1)) → Q (Int32.ofNat (sp_txt (sp_fars (w.2.1 1) n y (l - 1)).1 (sp_tFars (sp_fars (w.2.1 1) n y (l - 1)) (sp_fars (w.2.1 1) n y (l - 1)).1)).length) (zm_o m v h)) : f_X2_writeFar K (some (m 0)) x (zm_o m w h) Q X := by
  unfold f_X2_writeFar
  refine q_ptn d h0 (fun g gt y hy e => ?_)
  subst e
  have hr := I gt
  have H := h1 g y hy rfl
  rw [zm_c d]
  refine c_laysFar (w := zS w 0 0) d (a := w.2.1 1) rfl hr hy (fun u hu hf => ?_)
  have hc := zc_fars (w.2.1 1) n y (l - 1)
  have hok := zfok_fars (w.2.1 1) n y (l - 1)
  have h5 := hr.2.2.2.2.1
  generalize sp_fars (w.2.1 1) n y (l - 1) = s at hf H hc hok
  have hf2 : zFl (zS u 25 0) s := ⟨hf.1, hf.2⟩
  rw [zm_p25 d, zm_g20 d, hf2.1]
  unfold sp_txt at H
  have key : ∀ (T : List Nat) (t : zM), zSw (zS u 25 0) t → zPg t T → (s.1 ≠ 0 → T = []) → (∀ v, v.1 0 = 0 → zSt w v → zPg v (if s.1 = 0 then T else sp_tFars s s.1) → Q (Int32.ofNat (if s.1 = 0 then T else sp_tFars s s.1).length) (zm_o m v h)) → f_X2_writeFar_J33 K Q X (some (m 0)) (zm_o m t h) := by
    intro T t ht ht2 hT hk
    unfold f_X2_writeFar_J33
    refine zl2_inv (B := f_X2_writeFar_B35 K Q X _ (some (m 0))) (fun b x hh => x = Int32.ofNat b ∧ ∃ v, hh = zm_o m v h ∧ zSw (zS u 25 0) v ∧ zPg v (if b = 0 then T else sp_tFars s b)) (n := s.1) (fun R b hb x hh hp hR => ?_) (fun R x hh hp => ?_) s.1 zfu 0 (by omega) (Nat.lt_of_le_of_lt (show s.1 ≤ 16 by omega) (by decide)) _ _ ⟨rfl, t, rfl, ht, by rw [if_pos rfl]; exact ht2⟩
    · obtain ⟨rfl, v, rfl, hs, hv⟩ := hp
      have hfv := hs.fl hf2
      have hv : zPg v (sp_tFars s b) := by
        by_cases e : b = 0
        · rw [if_pos e, hT (by omega)] at hv
          rw [e]
          exact hv
        · rw [if_neg e] at hv
          exact hv
      have hlen := sp_tFars_len s b
      obtain ⟨q1, q2, q3, -⟩ := hok b hb
      have q4 := zi_p5 (show s.2.1 b ≤ 5 by omega)
      have l1 := sp_dgD_le (s.2.1 b)
      have l2 := sp_dgD_le (s.2.2 b)
      have k53 : ∀ (v2 : zM) (U : List Nat), zSw (zS u 25 0) v2 → zPg v2 U → U.length ≤ 400 → (∀ z, zSw (zS u 25 0) z → zPg z (U ++ sp_tFar1 s b) → R (Int32.ofNat b + 1) (zm_o m z h)) → f_X2_writeFar_J53 K Q X R (fun h8 => og_I h8 (some (m 0)) [0] 25 (fun v9 => Q v9 h8)) (some (m 0)) (Int32.ofNat b) (zm_o m v2 h) := by
        intro v2 U g1 g2 g3 g4
        have hfv2 := g1.fl hf2
        unfold f_X2_writeFar_J53
        rw [zm_g18 d, zm_r18 d (by decide), zi_clamp (by omega)]
        refine ⟨zi_inn (by omega) (by decide), ?_⟩
        rw [(hfv2.2 b hb).1, zm_c d]
        refine c_writesNumber d g2 (by omega) (by omega) (fun z1 hz1 hz2 => ?_)
        rw [zm_c d]
        refine c_writesByte d (c := 47) hz2 (by decide) (by rw [List.length_append, sp_num_len]; omega) (fun z3 hz3 hz4 => ?_)
        have hfv3 := ((g1.trans hz1).trans hz3).fl hf2
        rw [zm_g19 d, zm_r19 d (by decide), zi_clamp (by omega)]
        refine ⟨zi_inn (by omega) (by decide), ?_⟩
        rw [(hfv3.2 b hb).2, zm_c d]
        refine c_writesNumber d hz4 (by omega) (by simp only [List.length_append, sp_num_len, List.length_singleton]; omega) (fun z5 hz5 hz6 => ?_)
        simp only [olet_iff]
        refine g4 z5 (((g1.trans hz1).trans hz3).trans hz5) ?_
        unfold sp_tFar1
        simp only [List.append_assoc] at hz6 ⊢
        exact hz6
      unfold f_X2_writeFar_B35
      rw [zm_g20 d, hfv.1, if_neg (by rw [zi_le (by omega) (by omega)]; omega)]
      by_cases e : b = 0
      · rw [if_pos (by rw [e]; decide)]
        refine k53 v _ hs hv (by omega) (fun z hz hz2 => hR _ _ ⟨zi_succ b, z, rfl, hz, ?_⟩)
        rw [if_neg (by omega)]
        show zPg z (sp_tFars s b ++ ((if b = 0 then [] else [32]) ++ sp_tFar1 s b))
        rw [if_pos e, List.nil_append]
        exact hz2
      · rw [if_neg (by rw [show (0 : Int32) = Int32.ofNat 0 from rfl, zi_le (by omega) (by omega)]; omega), zm_c d]
        refine c_writesByte d (c := 32) hv (by decide) (by omega) (fun v2 hv2 hv3 => ?_)
        refine k53 v2 _ (hs.trans hv2) hv3 (by rw [List.length_append, List.length_singleton]; omega) (fun z hz hz2 => hR _ _ ⟨zi_succ b, z, rfl, hz, ?_⟩)
        rw [if_neg (by omega)]
        show zPg z (sp_tFars s b ++ ((if b = 0 then [] else [32]) ++ sp_tFar1 s b))
        rw [if_neg e]
        rw [List.append_assoc] at hz2
        exact hz2
    · obtain ⟨rfl, v, rfl, hs, hv⟩ := hp
      have hfv := hs.fl hf2
      unfold f_X2_writeFar_B35
      rw [zm_g20 d, hfv.1, if_pos (by rw [zi_le (by omega) (by omega)]; omega)]
      dsimp only
      rw [zm_g25 d, hv.1]
      exact hk v (zSt.mk1 hu hs).1 (zSt.mk1 hu hs).2 hv
  by_cases g2 : s.1 = 0
  · rw [if_neg (show ¬ Int32.ofNat s.1 ≠ 0 from fun e => e (by rw [g2]; rfl)), zm_c d]
    refine c_writesByte d (c := 46) (zPg_nil _) (by decide) (by decide) (fun t ht ht2 => ?_)
    refine key _ t ht ht2 (fun e => absurd g2 e) (fun v hv hv2 hv3 => ?_)
    rw [if_pos g2] at hv3 ⊢
    rw [if_pos g2] at H
    exact H v hv hv2 hv3
  · rw [if_pos (show Int32.ofNat s.1 ≠ 0 from fun e => g2 ((zi_inj (b := 0) (by omega) (by decide)).mp e))]
    refine key [] _ (zSw.refl _) (zPg_nil _) (fun _ => rfl) (fun v hv hv2 hv3 => ?_)
    rw [if_neg g2] at hv3 ⊢
    rw [if_neg g2] at H
    exact H v hv hv2 hv3
def sp_cK (s i : Int32) : Int32 := sp_may (sp_b (0 ≤ i ∧ i ≤ s - 1)) 1 1
theorem p_textByte (d : zm_d m) {T : List Nat} (hT : zPg w T) (hl : T.length ≤ 480) {i : Int32} {Q : Int32 → zw_H → Prop} (h0 : sp_cK (w.1 25) i ≠ 0 → Q 0 (zm_o m (zS w 0 (sp_cK (w.1 25) i)) h)) (h1 : sp_cK (w.1 25) i = 0 → ∀ q c, i = Int32.ofNat q → T[q]? = some c → Q (Int32.ofNat c) (zm_o m (zS w 0 0) h)) : f_X2_textByte K (some (m 0)) i (zm_o m w h) Q X := by
  unfold f_X2_textByte
  rw [zm_g25 d, e_in, zm_c d, e_mayC d]
  by_cases g : sp_cK (w.1 25) i = 0
  · have g' : sp_may (sp_b (0 ≤ i ∧ i ≤ w.1 25 - 1)) 1 1 = 0 := g
    rw [if_pos g', if_neg (by decide)]
    have k1 := (sp_bne _).mp (sp_may0.mp g').1
    rw [hT.1] at k1
    have hpos : 0 < T.length := by
      rcases Nat.eq_zero_or_pos T.length with e | e
      · rw [e] at k1
        exact absurd (Int32.le_trans k1.1 k1.2) (by decide)
      · exact e
    obtain ⟨q, hq, rfl⟩ := zi_of k1.1
    have k2 := k1.2
    rw [show Int32.ofNat T.length - 1 = Int32.ofNat (T.length - 1) from (Int32.ofNat_sub T.length 1 hpos).symm, zi_le hq (by omega)] at k2
    have hlt : q < T.length := by omega
    have hc : T[q]? = some T[q] := List.getElem?_eq_getElem hlt
    rw [zm_g24 d, zm_r24 d (by decide), zi_clamp (by omega), show (zS w 0 0).2.1 24 q = w.2.1 24 q from rfl, (hT.2 q _ hc).1]
    exact ⟨zi_inn (by omega) (by decide), h1 g q _ rfl hc⟩
  · have g' : ¬ sp_may (sp_b (0 ≤ i ∧ i ≤ w.1 25 - 1)) 1 1 = 0 := g
    rw [if_neg g', if_pos rfl]
    exact h0 g
end ZM22
