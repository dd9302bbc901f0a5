set_option maxRecDepth 100000
/-! the row that a text gives; the reference's first state -/
theorem sp_add_lo {a : Nat → Int32} {n : Nat} {f x c : Int32} {k : Nat} (h0 : k ≠ 0) (h : k < 7 + 4 * n) : sp_add a n f x c k = a k := by
  unfold sp_add upd
  rw [if_neg (by omega), if_neg (by omega), if_neg (by omega), if_neg (by omega), if_neg h0]
theorem sp_add_x {a : Nat → Int32} {n : Nat} {f x c : Int32} : sp_add a n f x c (7 + 4 * n) = x := by
  unfold sp_add upd
  rw [if_neg (by omega), if_neg (by omega), if_neg (by omega), if_pos rfl]
theorem sp_add_c {a : Nat → Int32} {n : Nat} {f x c : Int32} : sp_add a n f x c (7 + 4 * n + 1) = c := by
  unfold sp_add upd
  rw [if_neg (by omega), if_neg (by omega), if_pos rfl]
theorem sp_add_f {a : Nat → Int32} {n : Nat} {f x c : Int32} : sp_add a n f x c (7 + 4 * n + 2) = f := by
  unfold sp_add upd
  rw [if_neg (by omega), if_pos rfl]
theorem sp_b_01 (p : Prop) [Decidable p] : sp_b p = 0 ∨ sp_b p = 1 := by
  rw [sp_b01]
  trivial
theorem zRow.addb {a : Nat → Int32} {n l o : Nat} (hr : zRow a n l o) (h24 : n < 24) {f x c : Int32} (hx : 0 ≤ x ∧ x ≤ 255) (hc : c ≠ 0 ∧ -99 ≤ c ∧ c ≤ 99) (hf : f = 0 ∨ f = 1) : zRow (sp_add a n f x c) (n + 1) l o := by
  obtain ⟨hn, _, hl, h2, h5, ho, h4, ⟨q, hq, hq2⟩, hb⟩ := hr
  refine ⟨sp_add_0 a n f x c, by omega, (sp_add_lo (by decide) (by omega)).trans hl, h2, h5, (sp_add_lo (by decide) (by omega)).trans ho, h4, ⟨q, hq, (sp_add_lo (by decide) (by omega)).trans hq2⟩, fun b hb2 => ?_⟩
  by_cases e : b = n
  · subst e
    rw [sp_add_x, sp_add_c, sp_add_f]
    exact ⟨zi_pt hx, hc, hf⟩
  · rw [sp_add_lo (by omega) (by omega), sp_add_lo (by omega) (by omega), sp_add_lo (by omega) (by omega)]
    exact hb b (by omega)
theorem sq_lns_row {B : Nat → Int32} {N l o : Nat} : ∀ (f n : Nat) (a : Nat → Int32) (t : zTk) (r : (Nat → Int32) × Nat × zTk), zRow a n l o → sq_lns B N f a n t = .inr r → zRow r.1 r.2.1 l o
  | 0, n, a, t, r, hr, h => by
    cases h
    exact hr
  | f + 1, n, a, t, r, hr, h => by
    unfold sq_lns at h
    by_cases e : t.1 = 4
    · rw [if_pos e] at h
      cases k : sq_ln B N a n (sp_tk B N t.2.2) with
      | inl er =>
        rw [k] at h
        cases h
      | inr q =>
        rw [k] at h
        dsimp only at h
        unfold sq_ln at k
        by_cases e2 : sp_isW B (sp_tk B N t.2.2) zs_fixed ∨ sp_isW B (sp_tk B N t.2.2) zs_free
        · rw [if_pos e2] at k
          obtain ⟨hlt, c, x, hq, hx, hc⟩ := sq_bdy_ok hr.2.1 k
          refine sq_lns_row f (n + 1) q.1 q.2 r ?_ h
          rw [hq]
          exact hr.addb hlt hx hc (sp_b_01 _)
        · rw [if_neg e2] at k
          cases k
    · rw [if_neg e] at h
      cases h
      exact hr
theorem zi_between {x : Int32} {lo hi : Nat} (hl : lo < 2 ^ 31) (hh : hi < 2 ^ 31) (h : Int32.ofNat lo ≤ x ∧ x ≤ Int32.ofNat hi) : ∃ y, lo ≤ y ∧ y ≤ hi ∧ x = Int32.ofNat y := by
  have h0 : (0 : Int32) ≤ Int32.ofNat lo := (zi_le (a := 0) (by decide) hl).mpr (Nat.zero_le _)
  obtain ⟨y, hy, rfl⟩ := zi_of (Int32.le_trans h0 h.1)
  exact ⟨y, (zi_le hl hy).mp h.1, (zi_le hy hh).mp h.2, rfl⟩
theorem sq_all_row {B : Nat → Int32} {N : Nat} {a : Nat → Int32} (ha : a 0 = 0) {r : (Nat → Int32) × Nat} (h : sq_all B N a = .inr r) : ∃ l o, zRow r.1 r.2 l o := by
  unfold sq_all at h
  by_cases e : sp_isW B (sp_tk B N 0) zs_line
  · rw [if_pos e] at h
    unfold sq_1 at h
    cases k1 : sp_nmb B 2 5 (sp_tk B N (sp_tk B N 0).2.2) with
    | inl er =>
      rw [k1] at h
      cases h
    | inr x3 =>
      rw [k1] at h
      dsimp only at h
      generalize sp_tk B N (sp_tk B N (sp_tk B N 0).2.2).2.2 = t2 at h
      unfold sq_2 at h
      cases k2 : sp_nmb B 0 4 t2 with
      | inl er =>
        rw [k2] at h
        cases h
      | inr x4 =>
        rw [k2] at h
        dsimp only at h
        generalize sp_tk B N t2.2.2 = t3 at h
        unfold sq_3 at h
        cases k3 : sp_nmb B 0 999 t3 with
        | inl er =>
          rw [k3] at h
          cases h
        | inr x5 =>
          rw [k3] at h
          dsimp only at h
          generalize sp_tk B N t3.2.2 = t4 at h
          unfold sq_4 at h
          obtain ⟨l, l2, l5, el⟩ := zi_between (lo := 2) (hi := 5) (by decide) (by decide) (sp_nmb_in k1)
          obtain ⟨o, o0, o4, eo⟩ := zi_between (lo := 0) (hi := 4) (by decide) (by decide) (sp_nmb_in k2)
          obtain ⟨f, f0, f9, ef⟩ := zi_between (lo := 0) (hi := 999) (by decide) (by decide) (sp_nmb_in k3)
          have base : zRow (upd (upd (upd a 3 x3) 4 x4) 5 x5) 0 l o := ⟨ha, by decide, el, l2, l5, eo, o4, ⟨f, f9, ef⟩, fun b hb => absurd hb (Nat.not_lt_zero b)⟩
          cases k4 : sq_lns B N 26 (upd (upd (upd a 3 x3) 4 x4) 5 x5) 0 t4 with
          | inl er =>
            rw [k4] at h
            cases h
          | inr q =>
            rw [k4] at h
            dsimp only at h
            have hq := sq_lns_row 26 0 _ t4 q base k4
            unfold sq_end at h
            by_cases e1 : q.2.2.1 = 1
            · rw [if_pos e1] at h
              by_cases e2 : q.2.1 = 0
              · rw [if_pos e2] at h
                cases h
              · rw [if_neg e2] at h
                cases h
                exact ⟨l, o, hq⟩
            · rw [if_neg e1] at h
              cases h
  · rw [if_neg e] at h
    cases h
def zM0 : zM := ((fun k => if k = 11 then -1 else 0), (fun _ _ => 0), (fun _ => 0), fun _ _ => 0)
/-! the reference made new -/
theorem zu_ne {h : zw_H} {a b : Nat} {x : zw_C} (hx : zw_up h a x b = none) : b ≠ a ∧ h b = none := by
  unfold zw_up at hx
  by_cases e : b = a
  · rw [if_pos e] at hx
    cases hx
  · rw [if_neg e] at hx
    exact ⟨e, hx⟩
theorem i_put2 {h : zw_H} {q0 k : Nat} {o : List Value} {v : Value} {F : zw_H → Prop} (hk : k < o.length) (hF : F (zw_up (zw_up h q0 (.inr (0, o))) q0 (.inr (0, o.set k v)))) : op_V (zw_up h q0 (.inr (0, o))) (some q0) [0] k v F := by
  rw [k_p (k_u1 _ _ _) (by decide) hk]
  exact hF
theorem i_put {h : zw_H} {q0 qk k : Nat} {o : List Value} {c : zw_C} {v : Value} {F : zw_H → Prop} (e : qk ≠ q0) (hk : k < o.length) (hF : F (zw_up (zw_up (zw_up h q0 (.inr (0, o))) qk c) q0 (.inr (0, o.set k v)))) : op_V (zw_up (zw_up h q0 (.inr (0, o))) qk c) (some q0) [0] k v F := by
  rw [k_p ((k_u2 (Ne.symm e)).trans (k_u1 _ _ _)) (by decide) hk]
  exact hF
section ZM27
variable {K : Nat → Option Nat} {X : String → Nat → zw_H → Prop} {h : zw_H}
theorem c_init2 {Q : Option Nat → zw_H → Prop} (hQ : ∀ m, zm_d m → (∀ k, k ∈ [0, 1, 2, 3, 4, 5, 8, 17, 18, 19, 21, 22, 23, 24] → h (m k) = none) → Q (some (m 0)) (zm_o m zM0 h)) : on_C h (.inr (0, [.int 0, .null, .null, .null, .null, .null, .int 0, .int 0, .null, .int 0, .int 0, .int 0, .int 0, .int 0, .int 0, .int 0, .int 0, .null, .null, .null, .int 0, .null, .null, .null, .null, .int 0])) (fun v2 h3 => f_X2_init K (some v2) h3 (fun h4 => Q (some v2) h4) X) := by
  intro q0 n0
  unfold f_X2_init
  refine ⟨Option.some_ne_none _, ?_⟩
  refine ⟨by decide, by decide, fun q1 n1 => ?_⟩
  obtain ⟨x1_0_0, n1⟩ := zu_ne n1
  refine i_put x1_0_0 (by exact Nat.lt_of_sub_pos (by decide)) ?_
  simp only [List.set_cons_succ, List.set_cons_zero]
  refine ⟨by decide, by decide, fun q2 n2 => ?_⟩
  obtain ⟨x2_0_0, n2⟩ := zu_ne n2
  obtain ⟨x2_1_1, n2⟩ := zu_ne n2
  obtain ⟨x2_0_2, n2⟩ := zu_ne n2
  refine i_put x2_0_0 (by exact Nat.lt_of_sub_pos (by decide)) ?_
  simp only [List.set_cons_succ, List.set_cons_zero]
  refine ⟨by decide, by decide, fun q3 n3 => ?_⟩
  obtain ⟨x3_0_0, n3⟩ := zu_ne n3
  obtain ⟨x3_2_1, n3⟩ := zu_ne n3
  obtain ⟨x3_0_2, n3⟩ := zu_ne n3
  obtain ⟨x3_1_3, n3⟩ := zu_ne n3
  obtain ⟨x3_0_4, n3⟩ := zu_ne n3
  refine i_put x3_0_0 (by exact Nat.lt_of_sub_pos (by decide)) ?_
  simp only [List.set_cons_succ, List.set_cons_zero]
  refine ⟨by decide, by decide, fun q4 n4 => ?_⟩
  obtain ⟨x4_0_0, n4⟩ := zu_ne n4
  obtain ⟨x4_3_1, n4⟩ := zu_ne n4
  obtain ⟨x4_0_2, n4⟩ := zu_ne n4
  obtain ⟨x4_2_3, n4⟩ := zu_ne n4
  obtain ⟨x4_0_4, n4⟩ := zu_ne n4
  obtain ⟨x4_1_5, n4⟩ := zu_ne n4
  obtain ⟨x4_0_6, n4⟩ := zu_ne n4
  refine i_put x4_0_0 (by exact Nat.lt_of_sub_pos (by decide)) ?_
  simp only [List.set_cons_succ, List.set_cons_zero]
  refine ⟨by decide, by decide, fun q5 n5 => ?_⟩
  obtain ⟨x5_0_0, n5⟩ := zu_ne n5
  obtain ⟨x5_4_1, n5⟩ := zu_ne n5
  obtain ⟨x5_0_2, n5⟩ := zu_ne n5
  obtain ⟨x5_3_3, n5⟩ := zu_ne n5
  obtain ⟨x5_0_4, n5⟩ := zu_ne n5
  obtain ⟨x5_2_5, n5⟩ := zu_ne n5
  obtain ⟨x5_0_6, n5⟩ := zu_ne n5
  obtain ⟨x5_1_7, n5⟩ := zu_ne n5
  obtain ⟨x5_0_8, n5⟩ := zu_ne n5
  refine i_put x5_0_0 (by exact Nat.lt_of_sub_pos (by decide)) ?_
  simp only [List.set_cons_succ, List.set_cons_zero]
  refine ⟨by decide, by decide, fun q8 n8 => ?_⟩
  obtain ⟨x8_0_0, n8⟩ := zu_ne n8
  obtain ⟨x8_5_1, n8⟩ := zu_ne n8
  obtain ⟨x8_0_2, n8⟩ := zu_ne n8
  obtain ⟨x8_4_3, n8⟩ := zu_ne n8
  obtain ⟨x8_0_4, n8⟩ := zu_ne n8
  obtain ⟨x8_3_5, n8⟩ := zu_ne n8
  obtain ⟨x8_0_6, n8⟩ := zu_ne n8
  obtain ⟨x8_2_7, n8⟩ := zu_ne n8
  obtain ⟨x8_0_8, n8⟩ := zu_ne n8
  obtain ⟨x8_1_9, n8⟩ := zu_ne n8
  obtain ⟨x8_0_10, n8⟩ := zu_ne n8
  refine i_put x8_0_0 (by exact Nat.lt_of_sub_pos (by decide)) ?_
  simp only [List.set_cons_succ, List.set_cons_zero]
  refine i_put2 (by decide) ?_
  simp only [List.set_cons_succ, List.set_cons_zero]
  refine ⟨by decide, by decide, fun q17 n17 => ?_⟩
  obtain ⟨x17_0_0, n17⟩ := zu_ne n17
  obtain ⟨x17_0_1, n17⟩ := zu_ne n17
  obtain ⟨x17_8_2, n17⟩ := zu_ne n17
  obtain ⟨x17_0_3, n17⟩ := zu_ne n17
  obtain ⟨x17_5_4, n17⟩ := zu_ne n17
  obtain ⟨x17_0_5, n17⟩ := zu_ne n17
  obtain ⟨x17_4_6, n17⟩ := zu_ne n17
  obtain ⟨x17_0_7, n17⟩ := zu_ne n17
  obtain ⟨x17_3_8, n17⟩ := zu_ne n17
  obtain ⟨x17_0_9, n17⟩ := zu_ne n17
  obtain ⟨x17_2_10, n17⟩ := zu_ne n17
  obtain ⟨x17_0_11, n17⟩ := zu_ne n17
  obtain ⟨x17_1_12, n17⟩ := zu_ne n17
  obtain ⟨x17_0_13, n17⟩ := zu_ne n17
  refine i_put x17_0_0 (by exact Nat.lt_of_sub_pos (by decide)) ?_
  simp only [List.set_cons_succ, List.set_cons_zero]
  refine ⟨by decide, by decide, fun q18 n18 => ?_⟩
  obtain ⟨x18_0_0, n18⟩ := zu_ne n18
  obtain ⟨x18_17_1, n18⟩ := zu_ne n18
  obtain ⟨x18_0_2, n18⟩ := zu_ne n18
  obtain ⟨x18_0_3, n18⟩ := zu_ne n18
  obtain ⟨x18_8_4, n18⟩ := zu_ne n18
  obtain ⟨x18_0_5, n18⟩ := zu_ne n18
  obtain ⟨x18_5_6, n18⟩ := zu_ne n18
  obtain ⟨x18_0_7, n18⟩ := zu_ne n18
  obtain ⟨x18_4_8, n18⟩ := zu_ne n18
  obtain ⟨x18_0_9, n18⟩ := zu_ne n18
  obtain ⟨x18_3_10, n18⟩ := zu_ne n18
  obtain ⟨x18_0_11, n18⟩ := zu_ne n18
  obtain ⟨x18_2_12, n18⟩ := zu_ne n18
  obtain ⟨x18_0_13, n18⟩ := zu_ne n18
  obtain ⟨x18_1_14, n18⟩ := zu_ne n18
  obtain ⟨x18_0_15, n18⟩ := zu_ne n18
  refine i_put x18_0_0 (by exact Nat.lt_of_sub_pos (by decide)) ?_
  simp only [List.set_cons_succ, List.set_cons_zero]
  refine ⟨by decide, by decide, fun q19 n19 => ?_⟩
  obtain ⟨x19_0_0, n19⟩ := zu_ne n19
  obtain ⟨x19_18_1, n19⟩ := zu_ne n19
  obtain ⟨x19_0_2, n19⟩ := zu_ne n19
  obtain ⟨x19_17_3, n19⟩ := zu_ne n19
  obtain ⟨x19_0_4, n19⟩ := zu_ne n19
  obtain ⟨x19_0_5, n19⟩ := zu_ne n19
  obtain ⟨x19_8_6, n19⟩ := zu_ne n19
  obtain ⟨x19_0_7, n19⟩ := zu_ne n19
  obtain ⟨x19_5_8, n19⟩ := zu_ne n19
  obtain ⟨x19_0_9, n19⟩ := zu_ne n19
  obtain ⟨x19_4_10, n19⟩ := zu_ne n19
  obtain ⟨x19_0_11, n19⟩ := zu_ne n19
  obtain ⟨x19_3_12, n19⟩ := zu_ne n19
  obtain ⟨x19_0_13, n19⟩ := zu_ne n19
  obtain ⟨x19_2_14, n19⟩ := zu_ne n19
  obtain ⟨x19_0_15, n19⟩ := zu_ne n19
  obtain ⟨x19_1_16, n19⟩ := zu_ne n19
  obtain ⟨x19_0_17, n19⟩ := zu_ne n19
  refine i_put x19_0_0 (by exact Nat.lt_of_sub_pos (by decide)) ?_
  simp only [List.set_cons_succ, List.set_cons_zero]
  refine ⟨by decide, by decide, fun q21 n21 => ?_⟩
  obtain ⟨x21_0_0, n21⟩ := zu_ne n21
  obtain ⟨x21_19_1, n21⟩ := zu_ne n21
  obtain ⟨x21_0_2, n21⟩ := zu_ne n21
  obtain ⟨x21_18_3, n21⟩ := zu_ne n21
  obtain ⟨x21_0_4, n21⟩ := zu_ne n21
  obtain ⟨x21_17_5, n21⟩ := zu_ne n21
  obtain ⟨x21_0_6, n21⟩ := zu_ne n21
  obtain ⟨x21_0_7, n21⟩ := zu_ne n21
  obtain ⟨x21_8_8, n21⟩ := zu_ne n21
  obtain ⟨x21_0_9, n21⟩ := zu_ne n21
  obtain ⟨x21_5_10, n21⟩ := zu_ne n21
  obtain ⟨x21_0_11, n21⟩ := zu_ne n21
  obtain ⟨x21_4_12, n21⟩ := zu_ne n21
  obtain ⟨x21_0_13, n21⟩ := zu_ne n21
  obtain ⟨x21_3_14, n21⟩ := zu_ne n21
  obtain ⟨x21_0_15, n21⟩ := zu_ne n21
  obtain ⟨x21_2_16, n21⟩ := zu_ne n21
  obtain ⟨x21_0_17, n21⟩ := zu_ne n21
  obtain ⟨x21_1_18, n21⟩ := zu_ne n21
  obtain ⟨x21_0_19, n21⟩ := zu_ne n21
  refine i_put x21_0_0 (by exact Nat.lt_of_sub_pos (by decide)) ?_
  simp only [List.set_cons_succ, List.set_cons_zero]
  refine ⟨by decide, by decide, fun q22 n22 => ?_⟩
  obtain ⟨x22_0_0, n22⟩ := zu_ne n22
  obtain ⟨x22_21_1, n22⟩ := zu_ne n22
  obtain ⟨x22_0_2, n22⟩ := zu_ne n22
  obtain ⟨x22_19_3, n22⟩ := zu_ne n22
  obtain ⟨x22_0_4, n22⟩ := zu_ne n22
  obtain ⟨x22_18_5, n22⟩ := zu_ne n22
  obtain ⟨x22_0_6, n22⟩ := zu_ne n22
  obtain ⟨x22_17_7, n22⟩ := zu_ne n22
  obtain ⟨x22_0_8, n22⟩ := zu_ne n22
  obtain ⟨x22_0_9, n22⟩ := zu_ne n22
  obtain ⟨x22_8_10, n22⟩ := zu_ne n22
  obtain ⟨x22_0_11, n22⟩ := zu_ne n22
  obtain ⟨x22_5_12, n22⟩ := zu_ne n22
  obtain ⟨x22_0_13, n22⟩ := zu_ne n22
  obtain ⟨x22_4_14, n22⟩ := zu_ne n22
  obtain ⟨x22_0_15, n22⟩ := zu_ne n22
  obtain ⟨x22_3_16, n22⟩ := zu_ne n22
  obtain ⟨x22_0_17, n22⟩ := zu_ne n22
  obtain ⟨x22_2_18, n22⟩ := zu_ne n22
  obtain ⟨x22_0_19, n22⟩ := zu_ne n22
  obtain ⟨x22_1_20, n22⟩ := zu_ne n22
  obtain ⟨x22_0_21, n22⟩ := zu_ne n22
  refine i_put x22_0_0 (by exact Nat.lt_of_sub_pos (by decide)) ?_
  simp only [List.set_cons_succ, List.set_cons_zero]
  refine ⟨by decide, by decide, fun q23 n23 => ?_⟩
  obtain ⟨x23_0_0, n23⟩ := zu_ne n23
  obtain ⟨x23_22_1, n23⟩ := zu_ne n23
  obtain ⟨x23_0_2, n23⟩ := zu_ne n23
  obtain ⟨x23_21_3, n23⟩ := zu_ne n23
  obtain ⟨x23_0_4, n23⟩ := zu_ne n23
  obtain ⟨x23_19_5, n23⟩ := zu_ne n23
  obtain ⟨x23_0_6, n23⟩ := zu_ne n23
  obtain ⟨x23_18_7, n23⟩ := zu_ne n23
  obtain ⟨x23_0_8, n23⟩ := zu_ne n23
  obtain ⟨x23_17_9, n23⟩ := zu_ne n23
  obtain ⟨x23_0_10, n23⟩ := zu_ne n23
  obtain ⟨x23_0_11, n23⟩ := zu_ne n23
  obtain ⟨x23_8_12, n23⟩ := zu_ne n23
  obtain ⟨x23_0_13, n23⟩ := zu_ne n23
  obtain ⟨x23_5_14, n23⟩ := zu_ne n23
  obtain ⟨x23_0_15, n23⟩ := zu_ne n23
  obtain ⟨x23_4_16, n23⟩ := zu_ne n23
  obtain ⟨x23_0_17, n23⟩ := zu_ne n23
  obtain ⟨x23_3_18, n23⟩ := zu_ne n23
  obtain ⟨x23_0_19, n23⟩ := zu_ne n23
  obtain ⟨x23_2_20, n23⟩ := zu_ne n23
  obtain ⟨x23_0_21, n23⟩ := zu_ne n23
  obtain ⟨x23_1_22, n23⟩ := zu_ne n23
  obtain ⟨x23_0_23, n23⟩ := zu_ne n23
  refine i_put x23_0_0 (by exact Nat.lt_of_sub_pos (by decide)) ?_
  simp only [List.set_cons_succ, List.set_cons_zero]
  refine ⟨by decide, by decide, fun q24 n24 => ?_⟩
  obtain ⟨x24_0_0, n24⟩ := zu_ne n24
  obtain ⟨x24_23_1, n24⟩ := zu_ne n24
  obtain ⟨x24_0_2, n24⟩ := zu_ne n24
  obtain ⟨x24_22_3, n24⟩ := zu_ne n24
  obtain ⟨x24_0_4, n24⟩ := zu_ne n24
  obtain ⟨x24_21_5, n24⟩ := zu_ne n24
  obtain ⟨x24_0_6, n24⟩ := zu_ne n24
  obtain ⟨x24_19_7, n24⟩ := zu_ne n24
  obtain ⟨x24_0_8, n24⟩ := zu_ne n24
  obtain ⟨x24_18_9, n24⟩ := zu_ne n24
  obtain ⟨x24_0_10, n24⟩ := zu_ne n24
  obtain ⟨x24_17_11, n24⟩ := zu_ne n24
  obtain ⟨x24_0_12, n24⟩ := zu_ne n24
  obtain ⟨x24_0_13, n24⟩ := zu_ne n24
  obtain ⟨x24_8_14, n24⟩ := zu_ne n24
  obtain ⟨x24_0_15, n24⟩ := zu_ne n24
  obtain ⟨x24_5_16, n24⟩ := zu_ne n24
  obtain ⟨x24_0_17, n24⟩ := zu_ne n24
  obtain ⟨x24_4_18, n24⟩ := zu_ne n24
  obtain ⟨x24_0_19, n24⟩ := zu_ne n24
  obtain ⟨x24_3_20, n24⟩ := zu_ne n24
  obtain ⟨x24_0_21, n24⟩ := zu_ne n24
  obtain ⟨x24_2_22, n24⟩ := zu_ne n24
  obtain ⟨x24_0_23, n24⟩ := zu_ne n24
  obtain ⟨x24_1_24, n24⟩ := zu_ne n24
  obtain ⟨x24_0_25, n24⟩ := zu_ne n24
  refine i_put x24_0_0 (by exact Nat.lt_of_sub_pos (by decide)) ?_
  simp only [List.set_cons_succ, List.set_cons_zero]
  have d : zm_d (fun k => if k = 0 then q0 else if k = 1 then q1 else if k = 2 then q2 else if k = 3 then q3 else if k = 4 then q4 else if k = 5 then q5 else if k = 8 then q8 else if k = 17 then q17 else if k = 18 then q18 else if k = 19 then q19 else if k = 21 then q21 else if k = 22 then q22 else if k = 23 then q23 else q24) := ⟨fun e => x1_0_0 e.symm, fun e => x2_0_0 e.symm, fun e => x3_0_0 e.symm, fun e => x4_0_0 e.symm, fun e => x5_0_0 e.symm, fun e => x8_0_0 e.symm, fun e => x17_0_0 e.symm, fun e => x18_0_0 e.symm, fun e => x19_0_0 e.symm, fun e => x21_0_0 e.symm, fun e => x22_0_0 e.symm, fun e => x23_0_0 e.symm, fun e => x24_0_0 e.symm, fun e => x2_1_1 e.symm, fun e => x3_1_3 e.symm, fun e => x4_1_5 e.symm, fun e => x5_1_7 e.symm, fun e => x8_1_9 e.symm, fun e => x17_1_12 e.symm, fun e => x18_1_14 e.symm, fun e => x19_1_16 e.symm, fun e => x21_1_18 e.symm, fun e => x22_1_20 e.symm, fun e => x23_1_22 e.symm, fun e => x24_1_24 e.symm, fun e => x3_2_1 e.symm, fun e => x4_2_3 e.symm, fun e => x5_2_5 e.symm, fun e => x8_2_7 e.symm, fun e => x17_2_10 e.symm, fun e => x18_2_12 e.symm, fun e => x19_2_14 e.symm, fun e => x21_2_16 e.symm, fun e => x22_2_18 e.symm, fun e => x23_2_20 e.symm, fun e => x24_2_22 e.symm, fun e => x4_3_1 e.symm, fun e => x5_3_3 e.symm, fun e => x8_3_5 e.symm, fun e => x17_3_8 e.symm, fun e => x18_3_10 e.symm, fun e => x19_3_12 e.symm, fun e => x21_3_14 e.symm, fun e => x22_3_16 e.symm, fun e => x23_3_18 e.symm, fun e => x24_3_20 e.symm, fun e => x5_4_1 e.symm, fun e => x8_4_3 e.symm, fun e => x17_4_6 e.symm, fun e => x18_4_8 e.symm, fun e => x19_4_10 e.symm, fun e => x21_4_12 e.symm, fun e => x22_4_14 e.symm, fun e => x23_4_16 e.symm, fun e => x24_4_18 e.symm, fun e => x8_5_1 e.symm, fun e => x17_5_4 e.symm, fun e => x18_5_6 e.symm, fun e => x19_5_8 e.symm, fun e => x21_5_10 e.symm, fun e => x22_5_12 e.symm, fun e => x23_5_14 e.symm, fun e => x24_5_16 e.symm, fun e => x17_8_2 e.symm, fun e => x18_8_4 e.symm, fun e => x19_8_6 e.symm, fun e => x21_8_8 e.symm, fun e => x22_8_10 e.symm, fun e => x23_8_12 e.symm, fun e => x24_8_14 e.symm, fun e => x18_17_1 e.symm, fun e => x19_17_3 e.symm, fun e => x21_17_5 e.symm, fun e => x22_17_7 e.symm, fun e => x23_17_9 e.symm, fun e => x24_17_11 e.symm, fun e => x19_18_1 e.symm, fun e => x21_18_3 e.symm, fun e => x22_18_5 e.symm, fun e => x23_18_7 e.symm, fun e => x24_18_9 e.symm, fun e => x21_19_1 e.symm, fun e => x22_19_3 e.symm, fun e => x23_19_5 e.symm, fun e => x24_19_7 e.symm, fun e => x22_21_1 e.symm, fun e => x23_21_3 e.symm, fun e => x24_21_5 e.symm, fun e => x23_22_1 e.symm, fun e => x24_22_3 e.symm, fun e => x24_23_1 e.symm⟩
  have hn : ∀ k, k ∈ [0, 1, 2, 3, 4, 5, 8, 17, 18, 19, 21, 22, 23, 24] → h ((fun k => if k = 0 then q0 else if k = 1 then q1 else if k = 2 then q2 else if k = 3 then q3 else if k = 4 then q4 else if k = 5 then q5 else if k = 8 then q8 else if k = 17 then q17 else if k = 18 then q18 else if k = 19 then q19 else if k = 21 then q21 else if k = 22 then q22 else if k = 23 then q23 else q24) k) = none := by
    intro k hk
    simp only [List.mem_cons, List.not_mem_nil, or_false] at hk
    rcases hk with rfl | rfl | rfl | rfl | rfl | rfl | rfl | rfl | rfl | rfl | rfl | rfl | rfl | rfl
    · exact n0
    · exact n1
    · exact n2
    · exact n3
    · exact n4
    · exact n5
    · exact n8
    · exact n17
    · exact n18
    · exact n19
    · exact n21
    · exact n22
    · exact n23
    · exact n24
  have fin := hQ (fun k => if k = 0 then q0 else if k = 1 then q1 else if k = 2 then q2 else if k = 3 then q3 else if k = 4 then q4 else if k = 5 then q5 else if k = 8 then q8 else if k = 17 then q17 else if k = 18 then q18 else if k = 19 then q19 else if k = 21 then q21 else if k = 22 then q22 else if k = 23 then q23 else q24) d hn
  refine Eq.mp (congrArg (Q (some q0)) (funext (fun q => ?_))) fin
  by_cases e0 : q = q0
  · rw [e0, k_u1]
    exact zm_o0 (w := zM0) (h := h) d
  by_cases e1 : q = q1
  · rw [e1]
    rw [k_u2 x1_0_0, k_u2 (Ne.symm x24_1_24), k_u2 x1_0_0, k_u2 (Ne.symm x23_1_22), k_u2 x1_0_0, k_u2 (Ne.symm x22_1_20), k_u2 x1_0_0, k_u2 (Ne.symm x21_1_18), k_u2 x1_0_0, k_u2 (Ne.symm x19_1_16), k_u2 x1_0_0, k_u2 (Ne.symm x18_1_14), k_u2 x1_0_0, k_u2 (Ne.symm x17_1_12), k_u2 x1_0_0, k_u2 x1_0_0, k_u2 (Ne.symm x8_1_9), k_u2 x1_0_0, k_u2 (Ne.symm x5_1_7), k_u2 x1_0_0, k_u2 (Ne.symm x4_1_5), k_u2 x1_0_0, k_u2 (Ne.symm x3_1_3), k_u2 x1_0_0, k_u2 (Ne.symm x2_1_1), k_u2 x1_0_0, k_u1]
    exact zm_o1 (w := zM0) (h := h) d
  by_cases e2 : q = q2
  · rw [e2]
    rw [k_u2 x2_0_0, k_u2 (Ne.symm x24_2_22), k_u2 x2_0_0, k_u2 (Ne.symm x23_2_20), k_u2 x2_0_0, k_u2 (Ne.symm x22_2_18), k_u2 x2_0_0, k_u2 (Ne.symm x21_2_16), k_u2 x2_0_0, k_u2 (Ne.symm x19_2_14), k_u2 x2_0_0, k_u2 (Ne.symm x18_2_12), k_u2 x2_0_0, k_u2 (Ne.symm x17_2_10), k_u2 x2_0_0, k_u2 x2_0_0, k_u2 (Ne.symm x8_2_7), k_u2 x2_0_0, k_u2 (Ne.symm x5_2_5), k_u2 x2_0_0, k_u2 (Ne.symm x4_2_3), k_u2 x2_0_0, k_u2 (Ne.symm x3_2_1), k_u2 x2_0_0, k_u1]
    exact zm_o2 (w := zM0) (h := h) d
  by_cases e3 : q = q3
  · rw [e3]
    rw [k_u2 x3_0_0, k_u2 (Ne.symm x24_3_20), k_u2 x3_0_0, k_u2 (Ne.symm x23_3_18), k_u2 x3_0_0, k_u2 (Ne.symm x22_3_16), k_u2 x3_0_0, k_u2 (Ne.symm x21_3_14), k_u2 x3_0_0, k_u2 (Ne.symm x19_3_12), k_u2 x3_0_0, k_u2 (Ne.symm x18_3_10), k_u2 x3_0_0, k_u2 (Ne.symm x17_3_8), k_u2 x3_0_0, k_u2 x3_0_0, k_u2 (Ne.symm x8_3_5), k_u2 x3_0_0, k_u2 (Ne.symm x5_3_3), k_u2 x3_0_0, k_u2 (Ne.symm x4_3_1), k_u2 x3_0_0, k_u1]
    exact zm_o3 (w := zM0) (h := h) d
  by_cases e4 : q = q4
  · rw [e4]
    rw [k_u2 x4_0_0, k_u2 (Ne.symm x24_4_18), k_u2 x4_0_0, k_u2 (Ne.symm x23_4_16), k_u2 x4_0_0, k_u2 (Ne.symm x22_4_14), k_u2 x4_0_0, k_u2 (Ne.symm x21_4_12), k_u2 x4_0_0, k_u2 (Ne.symm x19_4_10), k_u2 x4_0_0, k_u2 (Ne.symm x18_4_8), k_u2 x4_0_0, k_u2 (Ne.symm x17_4_6), k_u2 x4_0_0, k_u2 x4_0_0, k_u2 (Ne.symm x8_4_3), k_u2 x4_0_0, k_u2 (Ne.symm x5_4_1), k_u2 x4_0_0, k_u1]
    exact zm_o4 (w := zM0) (h := h) d
  by_cases e5 : q = q5
  · rw [e5]
    rw [k_u2 x5_0_0, k_u2 (Ne.symm x24_5_16), k_u2 x5_0_0, k_u2 (Ne.symm x23_5_14), k_u2 x5_0_0, k_u2 (Ne.symm x22_5_12), k_u2 x5_0_0, k_u2 (Ne.symm x21_5_10), k_u2 x5_0_0, k_u2 (Ne.symm x19_5_8), k_u2 x5_0_0, k_u2 (Ne.symm x18_5_6), k_u2 x5_0_0, k_u2 (Ne.symm x17_5_4), k_u2 x5_0_0, k_u2 x5_0_0, k_u2 (Ne.symm x8_5_1), k_u2 x5_0_0, k_u1]
    exact zm_o5 (w := zM0) (h := h) d
  by_cases e8 : q = q8
  · rw [e8]
    rw [k_u2 x8_0_0, k_u2 (Ne.symm x24_8_14), k_u2 x8_0_0, k_u2 (Ne.symm x23_8_12), k_u2 x8_0_0, k_u2 (Ne.symm x22_8_10), k_u2 x8_0_0, k_u2 (Ne.symm x21_8_8), k_u2 x8_0_0, k_u2 (Ne.symm x19_8_6), k_u2 x8_0_0, k_u2 (Ne.symm x18_8_4), k_u2 x8_0_0, k_u2 (Ne.symm x17_8_2), k_u2 x8_0_0, k_u2 x8_0_0, k_u1]
    exact zm_o8 (w := zM0) (h := h) d
  by_cases e17 : q = q17
  · rw [e17]
    rw [k_u2 x17_0_0, k_u2 (Ne.symm x24_17_11), k_u2 x17_0_0, k_u2 (Ne.symm x23_17_9), k_u2 x17_0_0, k_u2 (Ne.symm x22_17_7), k_u2 x17_0_0, k_u2 (Ne.symm x21_17_5), k_u2 x17_0_0, k_u2 (Ne.symm x19_17_3), k_u2 x17_0_0, k_u2 (Ne.symm x18_17_1), k_u2 x17_0_0, k_u1]
    exact zm_o17 (w := zM0) (h := h) d
  by_cases e18 : q = q18
  · rw [e18]
    rw [k_u2 x18_0_0, k_u2 (Ne.symm x24_18_9), k_u2 x18_0_0, k_u2 (Ne.symm x23_18_7), k_u2 x18_0_0, k_u2 (Ne.symm x22_18_5), k_u2 x18_0_0, k_u2 (Ne.symm x21_18_3), k_u2 x18_0_0, k_u2 (Ne.symm x19_18_1), k_u2 x18_0_0, k_u1]
    exact zm_o18 (w := zM0) (h := h) d
  by_cases e19 : q = q19
  · rw [e19]
    rw [k_u2 x19_0_0, k_u2 (Ne.symm x24_19_7), k_u2 x19_0_0, k_u2 (Ne.symm x23_19_5), k_u2 x19_0_0, k_u2 (Ne.symm x22_19_3), k_u2 x19_0_0, k_u2 (Ne.symm x21_19_1), k_u2 x19_0_0, k_u1]
    exact zm_o19 (w := zM0) (h := h) d
  by_cases e21 : q = q21
  · rw [e21]
    rw [k_u2 x21_0_0, k_u2 (Ne.symm x24_21_5), k_u2 x21_0_0, k_u2 (Ne.symm x23_21_3), k_u2 x21_0_0, k_u2 (Ne.symm x22_21_1), k_u2 x21_0_0, k_u1]
    exact zm_o21 (w := zM0) (h := h) d
  by_cases e22 : q = q22
  · rw [e22]
    rw [k_u2 x22_0_0, k_u2 (Ne.symm x24_22_3), k_u2 x22_0_0, k_u2 (Ne.symm x23_22_1), k_u2 x22_0_0, k_u1]
    exact zm_o22 (w := zM0) (h := h) d
  by_cases e23 : q = q23
  · rw [e23]
    rw [k_u2 x23_0_0, k_u2 (Ne.symm x24_23_1), k_u2 x23_0_0, k_u1]
    exact zm_o23 (w := zM0) (h := h) d
  by_cases e24 : q = q24
  · rw [e24]
    rw [k_u2 x24_0_0, k_u1]
    exact zm_o24 (w := zM0) (h := h) d
  rw [k_u2 e0, k_u2 e24, k_u2 e0, k_u2 e23, k_u2 e0, k_u2 e22, k_u2 e0, k_u2 e21, k_u2 e0, k_u2 e19, k_u2 e0, k_u2 e18, k_u2 e0, k_u2 e17, k_u2 e0, k_u2 e0, k_u2 e8, k_u2 e0, k_u2 e5, k_u2 e0, k_u2 e4, k_u2 e0, k_u2 e3, k_u2 e0, k_u2 e2, k_u2 e0, k_u2 e1, k_u2 e0]
  show (if q = q0 then _ else if q = q1 then _ else if q = q2 then _ else if q = q3 then _ else if q = q4 then _ else if q = q5 then _ else if q = q8 then _ else if q = q17 then _ else if q = q18 then _ else if q = q19 then _ else if q = q21 then _ else if q = q22 then _ else if q = q23 then _ else if q = q24 then _ else h q) = h q
  rw [if_neg e0, if_neg e1, if_neg e2, if_neg e3, if_neg e4, if_neg e5, if_neg e8, if_neg e17, if_neg e18, if_neg e19, if_neg e21, if_neg e22, if_neg e23, if_neg e24]
end ZM27
