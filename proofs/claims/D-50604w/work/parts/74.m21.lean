set_option maxRecDepth 100000
/-! texts: lists of numbers below 128 -/
theorem zi_byte {k : Nat} (h : k < 128) : vp_nar .byte (Int32.ofNat k).toInt8.toInt32 = Int32.ofNat k := by
  rw [vp_nar_byte]
  have key : ∀ i : Fin 128, (Int32.ofNat i.val).toInt8.toInt32.toInt8.toInt32 = Int32.ofNat i.val := by decide +kernel
  exact key ⟨k, h⟩
/-- the reference's page is this text -/
def zPg (w : zM) (T : List Nat) : Prop := w.1 25 = Int32.ofNat T.length ∧ ∀ q c, T[q]? = some c → w.2.1 24 q = Int32.ofNat c ∧ c < 128
def zSw (w v : zM) : Prop := (∀ k, k ≠ 25 → v.1 k = w.1 k) ∧ (∀ k, k ≠ 24 → v.2.1 k = w.2.1 k) ∧ v.2.2 = w.2.2
theorem zSw.refl (w : zM) : zSw w w := ⟨fun _ _ => rfl, fun _ _ => rfl, rfl⟩
theorem zSw.trans {u v w : zM} (h : zSw u v) (g : zSw v w) : zSw u w := ⟨fun k hk => (g.1 k hk).trans (h.1 k hk), fun k hk => (g.2.1 k hk).trans (h.2.1 k hk), g.2.2.trans h.2.2⟩
theorem zSw.row {w v : zM} (h : zSw w v) : v.2.1 1 = w.2.1 1 := h.2.1 1 (by decide)
theorem zSw.fl {w v : zM} {s : zFa} (h : zSw w v) (hf : zFl w s) : zFl v s := ⟨(h.1 20 (by decide)).trans hf.1, fun k hk => by rw [h.2.1 18 (by decide), h.2.1 19 (by decide)]; exact hf.2 k hk⟩
/-- a string stands in the heap -/
def zStr (h : zw_H) (r : Option Nat) (T : List Nat) : Prop := ∃ a b : Nat, ∃ vs : List Value, ∃ f : Nat → Int32, r = some a ∧ h a = some (.inr (17, .ref b :: .int 0 :: vs)) ∧ h b = some (.inl (10, T.length, .inl f)) ∧ T.length < 1000 ∧ ∀ q c, T[q]? = some c → f q = Int32.ofNat c ∧ c < 128
def zm_x (m : Nat → Nat) (h : zw_H) : Prop := ∀ (w : zM) (q : Nat), h q ≠ none → zm_o m w h q = h q
theorem zStr.o {m : Nat → Nat} {h : zw_H} {w : zM} {r : Option Nat} {T : List Nat} (hx : zm_x m h) (hs : zStr h r T) : zStr (zm_o m w h) r T := by
  obtain ⟨a, b, vs, f, e1, e2, e3, e4⟩ := hs
  exact ⟨a, b, vs, f, e1, (hx w a (by rw [e2]; exact Option.some_ne_none _)).trans e2, (hx w b (by rw [e3]; exact Option.some_ne_none _)).trans e3, e4⟩
theorem e_strc {H : zw_H} {r : Option Nat} {T : List Nat} (hs : zStr H r T) (P : Prop) : oc_ H r [11, 17] P = P := by
  obtain ⟨a, b, vs, f, rfl, e2, -⟩ := hs
  exact k_c e2 (by decide) P
theorem zi_shr0 (x : Int32) : x >>> ((0 : Int32) &&& 31) = x := by
  show x >>> (0 : Int32) = x
  exact Int32.shiftRight_zero
theorem e_strl {K : Nat → Option Nat} {X : String → Nat → zw_H → Prop} {H : zw_H} {r : Option Nat} {T : List Nat} (hs : zStr H r T) {Q : Int32 → zw_H → Prop} : f_J4_length K r H Q X = Q (Int32.ofNat T.length) H := by
  have hc := fun P => e_strc hs P
  obtain ⟨a, b, vs, f, rfl, e2, e3, e4, -⟩ := hs
  unfold f_J4_length f_J4_coder
  rw [k_gA e2 (by decide) rfl, k_l e3 (by decide), hc, if_neg (by decide), k_gI e2 (by decide) rfl]
  dsimp only
  rw [zi_shr0]
  exact propext ⟨fun g => g.2, fun g => ⟨by decide, g⟩⟩
theorem zi_lat {k : Nat} (h : k < 128) : ((Int32.ofNat k &&& 255).toUInt32 % 65536).toInt32 = Int32.ofNat k := by
  have key : ∀ i : Fin 128, ((Int32.ofNat i.val &&& 255).toUInt32 % 65536).toInt32 = Int32.ofNat i.val := by decide +kernel
  exact key ⟨k, h⟩
theorem zi_char {k : Nat} (h : k < 128) : narrow .char (.int (Int32.ofNat k)) = .int (Int32.ofNat k) := by
  have key : ∀ i : Fin 128, (Int32.ofNat i.val).toUInt32.toUInt16.toUInt32.toInt32 = Int32.ofNat i.val := by decide +kernel
  exact congrArg Value.int (key ⟨k, h⟩)
theorem e_strch {K : Nat → Option Nat} {X : String → Nat → zw_H → Prop} {H : zw_H} {r : Option Nat} {T : List Nat} (hs : zStr H r T) {q c : Nat} (hq : T[q]? = some c) {Q : Int32 → zw_H → Prop} : f_J4_charAt K r (Int32.ofNat q) H Q X = Q (Int32.ofNat c) H := by
  have hc := fun P => e_strc hs P
  obtain ⟨a, b, vs, f, rfl, e2, e3, e4, e5⟩ := hs
  obtain ⟨g1, g2⟩ := e5 q c hq
  have hlt : q < T.length := by
    rcases Nat.lt_or_ge q T.length with g | g
    · exact g
    · rw [List.getElem?_eq_none g] at hq
      cases hq
  unfold f_J4_charAt f_J4_isLatin1
  rw [hc, if_neg (by decide), k_gI e2 (by decide) rfl, if_neg (by decide)]
  dsimp only
  rw [if_neg (by decide), k_gA e2 (by decide) rfl]
  unfold f_J16_charAt f_J4_checkIndex f_J17_checkIndex
  rw [k_l e3 (by decide), if_neg (zi_nn (by omega)), if_pos ((zi_lt (by omega) (by omega)).mpr hlt)]
  dsimp only
  rw [k_rI e3 (by decide) (zi_inn hlt (by omega)), zi_clamp (by omega), g1, zi_lat g2]
  exact propext ⟨fun g => g.2.2, fun g => ⟨zi_char g2, zi_char g2, g⟩⟩
/-- a number's digits -/
def sp_dgD (k : Nat) : Nat := if k < 10 then 0 else if k < 100 then 1 else 2
def sp_dg (k D : Nat) (c : Nat) : List Nat := zacc (fun c L => L ++ [48 + k / 10 ^ (D - c) % 10]) [] c
def sp_num (k : Nat) : List Nat := sp_dg k (sp_dgD k) (sp_dgD k + 1)
theorem sp_dg_len (k D : Nat) : ∀ c, (sp_dg k D c).length = c
  | 0 => rfl
  | c + 1 => by
    show (sp_dg k D c ++ [48 + k / 10 ^ (D - c) % 10]).length = c + 1
    rw [List.length_append, sp_dg_len k D c]
    rfl
theorem sp_num_len (k : Nat) : (sp_num k).length = sp_dgD k + 1 := sp_dg_len _ _ _
theorem sp_dgD_le (k : Nat) : sp_dgD k ≤ 2 := by
  unfold sp_dgD
  split
  · omega
  · split <;> omega
theorem sp_dgD_le1 {k : Nat} (h : k < 100) : sp_dgD k ≤ 1 := by
  unfold sp_dgD
  rw [if_pos h]
  split <;> omega
theorem zi_mod10 {q : Nat} (hq : q < 100000) : (48 : Int32) + (Int32.ofNat q - Int32.ofNat q / 10 * 10) = Int32.ofNat (48 + q % 10) := by
  have e1 : Int32.ofNat q / 10 = Int32.ofNat (q / 10) := zi_div (b := 10) (by omega) (by omega) (by omega)
  have e2 : Int32.ofNat (q / 10) * 10 = Int32.ofNat (q / 10 * 10) := (Int32.ofNat_mul (q / 10) 10).symm
  have e3 : Int32.ofNat q - Int32.ofNat (q / 10 * 10) = Int32.ofNat (q - q / 10 * 10) := (Int32.ofNat_sub _ _ (by omega)).symm
  rw [e1, e2, e3, show q - q / 10 * 10 = q % 10 by omega]
  exact (Int32.ofNat_add 48 (q % 10)).symm
theorem zi_p10 {D : Nat} (h : D ≤ 2) : 0 < 10 ^ D ∧ 10 ^ D ≤ 100 := ⟨Nat.pow_pos (by decide), Nat.pow_le_pow_right (n := 10) (j := 2) (by decide) h⟩
section ZM21
variable {m : Nat → Nat} {w : zM} {h : zw_H} {K : Nat → Option Nat} {X : String → Nat → zw_H → Prop}
theorem c_writesByte (d : zm_d m) {T : List Nat} {c : Nat} (hT : zPg w T) (hc : c < 128) (hl : T.length < 480) {Q : zw_H → Prop} (hQ : ∀ v, zSw w v → zPg v (T ++ [c]) → Q (zm_o m v h)) : f_X2_writesByte K (some (m 0)) (Int32.ofNat c) (zm_o m w h) Q X := by
  unfold f_X2_writesByte
  rw [zm_g24 d, zm_g25 d, hT.1, zm_s24 d (by decide), zi_clamp (by omega), zi_byte hc]
  refine ⟨zi_inn hl (by decide), ?_⟩
  rw [zm_g25 d, show (zAI w 24 (upd (w.2.1 24) T.length (Int32.ofNat c))).1 25 = Int32.ofNat T.length from hT.1, zm_p25 d, zi_succ]
  refine hQ _ ⟨fun k hk => if_neg hk, fun k hk => if_neg hk, rfl⟩ ⟨?_, fun q e he => ?_⟩
  · rw [List.length_append]
    rfl
  · show (if q = T.length then Int32.ofNat c else w.2.1 24 q) = _ ∧ _
    rcases Nat.lt_trichotomy q T.length with g | g | g
    · rw [List.getElem?_append_left g] at he
      rw [if_neg (by omega)]
      exact hT.2 q e he
    · rw [g, List.getElem?_append_right (Nat.le_refl _), Nat.sub_self] at he
      cases Option.some.inj he
      rw [if_pos g]
      exact ⟨rfl, hc⟩
    · rw [List.getElem?_append_right (by omega), List.getElem?_eq_none (by show 1 ≤ _; omega)] at he
      cases he
theorem c_writesNumber (d : zm_d m) {T : List Nat} {k : Nat} (hT : zPg w T) (hk : k < 1000) (hl : T.length + (sp_dgD k + 1) ≤ 480) {Q : zw_H → Prop} (hQ : ∀ v, zSw w v → zPg v (T ++ sp_num k) → Q (zm_o m v h)) : f_X2_writesNumber K (some (m 0)) (Int32.ofNat k) (zm_o m w h) Q X := by
  unfold f_X2_writesNumber
  have hD2 := sp_dgD_le k
  have hlo : ∀ c, c < sp_dgD k → 9 < k / 10 ^ c := by
    intro c hc
    unfold sp_dgD at hc
    split at hc
    · omega
    · split at hc
      · have e : c = 0 := by omega
        subst e
        rw [Nat.pow_zero, Nat.div_one]
        omega
      · have e : c = 0 ∨ c = 1 := by omega
        rcases e with rfl | rfl
        · rw [Nat.pow_zero, Nat.div_one]
          omega
        · rw [Nat.pow_one]
          omega
  have hhi : k / 10 ^ sp_dgD k ≤ 9 := by
    unfold sp_dgD
    split
    · rw [Nat.pow_zero, Nat.div_one]
      omega
    · split
      · rw [Nat.pow_one]
        omega
      · show k / 100 ≤ 9
        omega
  have hQ2 : ∀ v, zSw w v → zPg v (T ++ sp_dg k (sp_dgD k) (sp_dgD k + 1)) → Q (zm_o m v h) := hQ
  generalize sp_dgD k = D at hD2 hlo hhi hQ2 hl
  refine zl2_run (B := f_X2_writesNumber_B2 K Q X _ (some (m 0)) (Int32.ofNat k)) (fun c => Int32.ofNat (10 ^ c)) (fun _ => zm_o m w h) (n := D) (fun R c hc hR => ?_) (fun R => ?_) D zfu 0 (by omega) (Nat.lt_of_le_of_lt hD2 (by decide))
  · unfold f_X2_writesNumber_B2
    have hp := zi_p10 (show c ≤ 2 by omega)
    have h9 := hlo c hc
    have hle := Nat.div_le_self k (10 ^ c)
    refine ⟨fun e => by have := (zi_inj (b := 0) (by omega) (by decide)).mp e; omega, ?_⟩
    rw [zi_div (by omega) (by omega) hp.1, if_neg (by rw [show (9 : Int32) = Int32.ofNat 9 from rfl, zi_le (by omega) (by omega)]; omega)]
    simp only [olet_iff]
    have e2 : Int32.ofNat (10 ^ c) * 10 = Int32.ofNat (10 ^ (c + 1)) := by rw [Nat.pow_succ]; exact (Int32.ofNat_mul (10 ^ c) 10).symm
    rw [e2]
    exact hR
  · unfold f_X2_writesNumber_B2
    have hp := zi_p10 hD2
    have hle := Nat.div_le_self k (10 ^ D)
    refine ⟨fun e => by have := (zi_inj (b := 0) (by omega) (by decide)).mp e; omega, ?_⟩
    rw [zi_div (by omega) (by omega) hp.1, if_pos (by rw [show (9 : Int32) = Int32.ofNat 9 from rfl, zi_le (by omega) (by omega)]; omega)]
    refine zl2_inv (B := f_X2_writesNumber_B20 K Q X _ (some (m 0)) (Int32.ofNat k)) (fun c x hh => x = Int32.ofNat (if c ≤ D then 10 ^ (D - c) else 0) ∧ ∃ v, hh = zm_o m v h ∧ zSw w v ∧ zPg v (T ++ sp_dg k D c)) (n := D + 1) (fun R2 c hc x hh hp hR2 => ?_) (fun R2 x hh hp => ?_) (D + 1) zfu 0 (by omega) (Nat.lt_of_le_of_lt (show D + 1 ≤ 3 by omega) (by decide)) _ _ ⟨by rw [if_pos (Nat.zero_le D), Nat.sub_zero], w, rfl, zSw.refl w, by rw [show sp_dg k D 0 = [] from rfl, List.append_nil]; exact hT⟩
    · obtain ⟨rfl, v, rfl, hs, hv⟩ := hp
      rw [if_pos (show c ≤ D by omega)]
      have hp := zi_p10 (show D - c ≤ 2 by omega)
      have hle := Nat.div_le_self k (10 ^ (D - c))
      unfold f_X2_writesNumber_B20
      rw [if_neg (by rw [show (0 : Int32) = Int32.ofNat 0 from rfl, zi_le (by omega) (by omega)]; omega)]
      refine ⟨fun e => by have := (zi_inj (b := 0) (by omega) (by decide)).mp e; omega, by decide, ?_⟩
      rw [zi_div (by omega) (by omega) hp.1, zi_mod10 (by omega), zm_c d]
      refine c_writesByte d hv (by omega) (by rw [List.length_append, sp_dg_len]; omega) (fun u hu hu2 => ⟨by decide, ?_⟩)
      simp only [olet_iff]
      refine hR2 _ _ ⟨?_, u, rfl, hs.trans hu, ?_⟩
      · rw [show Int32.ofNat (10 ^ (D - c)) / 10 = Int32.ofNat (10 ^ (D - c) / 10) from zi_div (b := 10) (by omega) (by omega) (by omega)]
        congr 1
        by_cases g : c + 1 ≤ D
        · rw [if_pos g, show D - c = D - (c + 1) + 1 by omega, Nat.pow_succ, Nat.mul_div_cancel _ (by decide)]
        · rw [if_neg g, show D - c = 0 by omega]
      · have e : T ++ sp_dg k D (c + 1) = T ++ sp_dg k D c ++ [48 + k / 10 ^ (D - c) % 10] := (List.append_assoc _ _ _).symm
        rw [e]
        exact hu2
    · obtain ⟨rfl, v, rfl, hs, hv⟩ := hp
      unfold f_X2_writesNumber_B20
      rw [if_neg (show ¬ D + 1 ≤ D by omega), if_pos (by decide)]
      exact hQ2 v hs hv
theorem c_writesWord (d : zm_d m) (hx : zm_x m h) {r : Option Nat} {T U : List Nat} (hU : zStr h r U) (hT : zPg w T) (hl : T.length + U.length ≤ 480) {Q : zw_H → Prop} (hQ : ∀ v, zSw w v → zPg v (T ++ U) → Q (zm_o m v h)) : f_X2_writesWord K (some (m 0)) r (zm_o m w h) Q X := by
  unfold f_X2_writesWord
  have hlen : U.length < 1000 := by obtain ⟨_, _, _, _, _, _, _, e, _⟩ := hU; exact e
  have hch : ∀ q c : Nat, U[q]? = some c → c < 128 := by
    obtain ⟨_, _, _, _, _, _, _, _, e⟩ := hU
    exact fun q c hq => (e q c hq).2
  refine zl2_inv (B := f_X2_writesWord_B2 K Q X _ (some (m 0)) r) (fun c x hh => x = Int32.ofNat c ∧ ∃ v, hh = zm_o m v h ∧ zSw w v ∧ zPg v (T ++ U.take c)) (n := U.length) (fun R c hc x hh hp hR => ?_) (fun R x hh hp => ?_) U.length zfu 0 (by omega) (by unfold zfu; exact hlen) _ _ ⟨rfl, w, rfl, zSw.refl w, by rw [List.take_zero, List.append_nil]; exact hT⟩
  · obtain ⟨rfl, v, rfl, hs, hv⟩ := hp
    unfold f_X2_writesWord_B2
    have hq : U[c]? = some U[c] := List.getElem?_eq_getElem hc
    rw [e_strc (hU.o hx), e_strl (hU.o hx), if_neg (by rw [zi_le (by omega) (by omega)]; omega), e_strc (hU.o hx), e_strch (hU.o hx) hq, zm_c d]
    refine c_writesByte d hv (hch c _ hq) (by rw [List.length_append, List.length_take]; omega) (fun u hu hu2 => ?_)
    simp only [olet_iff, zi_succ]
    refine hR _ _ ⟨rfl, u, rfl, hs.trans hu, ?_⟩
    rw [List.append_assoc, List.take_append_getElem hc] at hu2
    exact hu2
  · obtain ⟨rfl, v, rfl, hs, hv⟩ := hp
    unfold f_X2_writesWord_B2
    rw [e_strc (hU.o hx), e_strl (hU.o hx), if_pos (by rw [zi_le (by omega) (by omega)]; omega)]
    rw [List.take_length] at hv
    exact hQ v hs hv
end ZM21
