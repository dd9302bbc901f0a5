set_option maxRecDepth 100000
section ZWA
variable {X : zw_X} {cc : ByteArray} {own nm : String} {nL kc ks pc : Nat} {h : zw_H} {L L' : List (Nat × Value)} {S : List Value}
theorem zg_iald {r : Option Nat} {i : Int32} {F : Int32 → Prop} (ok : zw_ok X cc own nm nL) (d : decode cc pc = .ok (.iaload, 1)) (hE : oa_I h r [0, 11] i F) (g : ∀ x, F x → zw_G X kc ks nL h (pc + 1) L (.int x :: S)) : zw_G X kc ks nL h pc L (.int i :: va_rf r :: S) := by
  obtain ⟨p, l, e, R, s, m, args, below, meth, c, Z, Q⟩ := X
  obtain ⟨hx, hb, hml, hown, hts, hK, hzs, hbs, -⟩ := ok
  unfold oa_I at hE
  cases r with
  | none => exact hE.elim
  | some a =>
    dsimp only at hE
    cases ha : h a with
    | none => rw [ha] at hE; exact hE.elim
    | some x9 =>
      rw [ha] at hE
      rcases x9 with ⟨t, n, f | f | f | f | f⟩ | x9
      · obtain ⟨ht, hin, hF⟩ := hE
        intro H locs ls hR hz hc hl
        have hg := g _ hF H locs ls hR hz hc hl
        simp only [List.mem_cons, List.not_mem_nil, or_false] at ht
        rcases ht with rfl | rfl
        · exact va_iald hx hb hK.1 (zr_one hR ha) 0 0 rfl rfl hin d hg
        · exact va_iald hx hb hK.1 (zr_one hR ha) 0 11 rfl rfl hin d hg
      · exact hE.elim
      · exact hE.elim
      · exact hE.elim
      · exact hE.elim
      · exact hE.elim
theorem zg_bald {r : Option Nat} {i : Int32} {F : Int32 → Prop} (ok : zw_ok X cc own nm nL) (d : decode cc pc = .ok (.baload, 1)) (hE : oa_I h r [1, 10] i F) (g : ∀ x, F x → zw_G X kc ks nL h (pc + 1) L (.int x :: S)) : zw_G X kc ks nL h pc L (.int i :: va_rf r :: S) := by
  obtain ⟨p, l, e, R, s, m, args, below, meth, c, Z, Q⟩ := X
  obtain ⟨hx, hb, hml, hown, hts, hK, hzs, hbs, -⟩ := ok
  unfold oa_I at hE
  cases r with
  | none => exact hE.elim
  | some a =>
    dsimp only at hE
    cases ha : h a with
    | none => rw [ha] at hE; exact hE.elim
    | some x9 =>
      rw [ha] at hE
      rcases x9 with ⟨t, n, f | f | f | f | f⟩ | x9
      · obtain ⟨ht, hin, hF⟩ := hE
        intro H locs ls hR hz hc hl
        have hg := g _ hF H locs ls hR hz hc hl
        simp only [List.mem_cons, List.not_mem_nil, or_false] at ht
        rcases ht with rfl | rfl
        · exact va_bald hx hb hK.1 (zr_one hR ha) 0 1 rfl rfl hin d hg
        · exact va_bald hx hb hK.1 (zr_one hR ha) 0 10 rfl rfl hin d hg
      · exact hE.elim
      · exact hE.elim
      · exact hE.elim
      · exact hE.elim
      · exact hE.elim
theorem zg_zald {r : Option Nat} {i : Int32} {F : Int32 → Prop} (ok : zw_ok X cc own nm nL) (d : decode cc pc = .ok (.baload, 1)) (hE : oa_I h r [2] i F) (g : ∀ x, F x → zw_G X kc ks nL h (pc + 1) L (.int x :: S)) : zw_G X kc ks nL h pc L (.int i :: va_rf r :: S) := by
  obtain ⟨p, l, e, R, s, m, args, below, meth, c, Z, Q⟩ := X
  obtain ⟨hx, hb, hml, hown, hts, hK, hzs, hbs, -⟩ := ok
  unfold oa_I at hE
  cases r with
  | none => exact hE.elim
  | some a =>
    dsimp only at hE
    cases ha : h a with
    | none => rw [ha] at hE; exact hE.elim
    | some x9 =>
      rw [ha] at hE
      rcases x9 with ⟨t, n, f | f | f | f | f⟩ | x9
      · obtain ⟨ht, hin, hF⟩ := hE
        intro H locs ls hR hz hc hl
        have hg := g _ hF H locs ls hR hz hc hl
        simp only [List.mem_cons, List.not_mem_nil, or_false] at ht
        subst ht
        exact va_zald hx hb hK.1 (zr_one hR ha) 0 2 rfl rfl hin d hg
      · exact hE.elim
      · exact hE.elim
      · exact hE.elim
      · exact hE.elim
      · exact hE.elim
theorem zg_lald {r : Option Nat} {i : Int32} {F : Int64 → Prop} (ok : zw_ok X cc own nm nL) (d : decode cc pc = .ok (.laload, 1)) (hE : oa_J h r [3] i F) (g : ∀ x, F x → zw_G X kc ks nL h (pc + 1) L (.long x :: S)) : zw_G X kc ks nL h pc L (.int i :: va_rf r :: S) := by
  obtain ⟨p, l, e, R, s, m, args, below, meth, c, Z, Q⟩ := X
  obtain ⟨hx, hb, hml, hown, hts, hK, hzs, hbs, -⟩ := ok
  unfold oa_J at hE
  cases r with
  | none => exact hE.elim
  | some a =>
    dsimp only at hE
    cases ha : h a with
    | none => rw [ha] at hE; exact hE.elim
    | some x9 =>
      rw [ha] at hE
      rcases x9 with ⟨t, n, f | f | f | f | f⟩ | x9
      · exact hE.elim
      · obtain ⟨ht, hin, hF⟩ := hE
        intro H locs ls hR hz hc hl
        have hg := g _ hF H locs ls hR hz hc hl
        simp only [List.mem_cons, List.not_mem_nil, or_false] at ht
        subst ht
        exact va_lald hx hb hK.1 (zr_one hR ha) 0 3 rfl rfl hin d hg
      · exact hE.elim
      · exact hE.elim
      · exact hE.elim
      · exact hE.elim
theorem zg_dald {r : Option Nat} {i : Int32} {F : UInt64 → Prop} (ok : zw_ok X cc own nm nL) (d : decode cc pc = .ok (.daload, 1)) (hE : oa_D h r [4] i F) (g : ∀ x, F x → zw_G X kc ks nL h (pc + 1) L (.double x :: S)) : zw_G X kc ks nL h pc L (.int i :: va_rf r :: S) := by
  obtain ⟨p, l, e, R, s, m, args, below, meth, c, Z, Q⟩ := X
  obtain ⟨hx, hb, hml, hown, hts, hK, hzs, hbs, -⟩ := ok
  unfold oa_D at hE
  cases r with
  | none => exact hE.elim
  | some a =>
    dsimp only at hE
    cases ha : h a with
    | none => rw [ha] at hE; exact hE.elim
    | some x9 =>
      rw [ha] at hE
      rcases x9 with ⟨t, n, f | f | f | f | f⟩ | x9
      · exact hE.elim
      · exact hE.elim
      · exact hE.elim
      · obtain ⟨ht, hin, hF⟩ := hE
        intro H locs ls hR hz hc hl
        have hg := g _ hF H locs ls hR hz hc hl
        simp only [List.mem_cons, List.not_mem_nil, or_false] at ht
        subst ht
        exact va_dald hx hb hK.1 (zr_one hR ha) 0 4 rfl rfl hin d hg
      · exact hE.elim
      · exact hE.elim
theorem zg_aaldO {r : Option Nat} {i : Int32} {F : Option Nat → Prop} (ok : zw_ok X cc own nm nL) (d : decode cc pc = .ok (.aaload, 1)) (hE : oa_A h r [5, 12] i F) (g : ∀ x, F x → zw_G X kc ks nL h (pc + 1) L (va_rf x :: S)) : zw_G X kc ks nL h pc L (.int i :: va_rf r :: S) := by
  obtain ⟨p, l, e, R, s, m, args, below, meth, c, Z, Q⟩ := X
  obtain ⟨hx, hb, hml, hown, hts, hK, hzs, hbs, -⟩ := ok
  unfold oa_A at hE
  cases r with
  | none => exact hE.elim
  | some a =>
    dsimp only at hE
    cases ha : h a with
    | none => rw [ha] at hE; exact hE.elim
    | some x9 =>
      rw [ha] at hE
      rcases x9 with ⟨t, n, f | f | f | f | f⟩ | x9
      · exact hE.elim
      · exact hE.elim
      · exact hE.elim
      · exact hE.elim
      · obtain ⟨ht, hin, hF⟩ := hE
        intro H locs ls hR hz hc hl
        have hg := g _ hF H locs ls hR hz hc hl
        have hlt : i.toNatClampNeg < n := Nat.not_le.mp fun q => hin (Or.inr q)
        simp only [List.mem_cons, List.not_mem_nil, or_false] at ht
        rcases ht with rfl | rfl
        · exact va_aldq hx hb hK.1 (zr_one hR ha) 0 5 rfl rfl hin d hg
        · exact va_aldq hx hb hK.1 (zr_one hR ha) 0 12 rfl rfl hin d hg
      · exact hE.elim
theorem zg_aaldB {r : Option Nat} {i : Int32} {F : Option Nat → Prop} (ok : zw_ok X cc own nm nL) (d : decode cc pc = .ok (.aaload, 1)) (hE : oa_A h r [6] i F) (g : ∀ x, F x → zw_G X kc ks nL h (pc + 1) L (va_rf x :: S)) : zw_G X kc ks nL h pc L (.int i :: va_rf r :: S) := by
  obtain ⟨p, l, e, R, s, m, args, below, meth, c, Z, Q⟩ := X
  obtain ⟨hx, hb, hml, hown, hts, hK, hzs, hbs, -⟩ := ok
  unfold oa_A at hE
  cases r with
  | none => exact hE.elim
  | some a =>
    dsimp only at hE
    cases ha : h a with
    | none => rw [ha] at hE; exact hE.elim
    | some x9 =>
      rw [ha] at hE
      rcases x9 with ⟨t, n, f | f | f | f | f⟩ | x9
      · exact hE.elim
      · exact hE.elim
      · exact hE.elim
      · exact hE.elim
      · obtain ⟨ht, hin, hF⟩ := hE
        intro H locs ls hR hz hc hl
        have hg := g _ hF H locs ls hR hz hc hl
        have hlt : i.toNatClampNeg < n := Nat.not_le.mp fun q => hin (Or.inr q)
        simp only [List.mem_cons, List.not_mem_nil, or_false] at ht
        subst ht
        exact va_aldq hx hb hK.1 (zr_one hR ha) 0 6 rfl rfl hin d hg
      · exact hE.elim
theorem zg_aaldBB {r : Option Nat} {i : Int32} {F : Option Nat → Prop} (ok : zw_ok X cc own nm nL) (d : decode cc pc = .ok (.aaload, 1)) (hE : oa_A h r [7] i F) (g : ∀ x, F x → zw_G X kc ks nL h (pc + 1) L (va_rf x :: S)) : zw_G X kc ks nL h pc L (.int i :: va_rf r :: S) := by
  obtain ⟨p, l, e, R, s, m, args, below, meth, c, Z, Q⟩ := X
  obtain ⟨hx, hb, hml, hown, hts, hK, hzs, hbs, -⟩ := ok
  unfold oa_A at hE
  cases r with
  | none => exact hE.elim
  | some a =>
    dsimp only at hE
    cases ha : h a with
    | none => rw [ha] at hE; exact hE.elim
    | some x9 =>
      rw [ha] at hE
      rcases x9 with ⟨t, n, f | f | f | f | f⟩ | x9
      · exact hE.elim
      · exact hE.elim
      · exact hE.elim
      · exact hE.elim
      · obtain ⟨ht, hin, hF⟩ := hE
        intro H locs ls hR hz hc hl
        have hg := g _ hF H locs ls hR hz hc hl
        have hlt : i.toNatClampNeg < n := Nat.not_le.mp fun q => hin (Or.inr q)
        simp only [List.mem_cons, List.not_mem_nil, or_false] at ht
        subst ht
        have hP := zr_one hR ha
        have hP0 := hP 0 _ rfl
        have hA := ((hK.1.2 7 _ rfl).1 n (fun j => va_rf (f j)))
        exact W.aald (v := va_rf (f i.toNatClampNeg)) (ty := .array (.object "MultipoleLine$Box")) hx hb hP0 hA rfl (fun q => by cases q) (by show ¬ (i < 0 ∨ (arrV _ _ _).slots.size ≤ _); rw [arrV_size]; exact hin) (by show (arrV _ _ _).slots[_]? = _; rw [arrV_read _ _ hlt]) rfl rfl d hg
      · exact hE.elim
theorem zg_aaldL {r : Option Nat} {i : Int32} {F : Option Nat → Prop} (ok : zw_ok X cc own nm nL) (d : decode cc pc = .ok (.aaload, 1)) (hE : oa_A h r [8] i F) (g : ∀ x, F x → zw_G X kc ks nL h (pc + 1) L (va_rf x :: S)) : zw_G X kc ks nL h pc L (.int i :: va_rf r :: S) := by
  obtain ⟨p, l, e, R, s, m, args, below, meth, c, Z, Q⟩ := X
  obtain ⟨hx, hb, hml, hown, hts, hK, hzs, hbs, -⟩ := ok
  unfold oa_A at hE
  cases r with
  | none => exact hE.elim
  | some a =>
    dsimp only at hE
    cases ha : h a with
    | none => rw [ha] at hE; exact hE.elim
    | some x9 =>
      rw [ha] at hE
      rcases x9 with ⟨t, n, f | f | f | f | f⟩ | x9
      · exact hE.elim
      · exact hE.elim
      · exact hE.elim
      · exact hE.elim
      · obtain ⟨ht, hin, hF⟩ := hE
        intro H locs ls hR hz hc hl
        have hg := g _ hF H locs ls hR hz hc hl
        have hlt : i.toNatClampNeg < n := Nat.not_le.mp fun q => hin (Or.inr q)
        simp only [List.mem_cons, List.not_mem_nil, or_false] at ht
        subst ht
        exact va_aldq hx hb hK.1 (zr_one hR ha) 0 8 rfl rfl hin d hg
      · exact hE.elim
theorem zg_aaldN {r : Option Nat} {i : Int32} {F : Option Nat → Prop} (ok : zw_ok X cc own nm nL) (d : decode cc pc = .ok (.aaload, 1)) (hE : oa_A h r [13] i F) (g : ∀ x, F x → zw_G X kc ks nL h (pc + 1) L (va_rf x :: S)) : zw_G X kc ks nL h pc L (.int i :: va_rf r :: S) := by
  obtain ⟨p, l, e, R, s, m, args, below, meth, c, Z, Q⟩ := X
  obtain ⟨hx, hb, hml, hown, hts, hK, hzs, hbs, -⟩ := ok
  unfold oa_A at hE
  cases r with
  | none => exact hE.elim
  | some a =>
    dsimp only at hE
    cases ha : h a with
    | none => rw [ha] at hE; exact hE.elim
    | some x9 =>
      rw [ha] at hE
      rcases x9 with ⟨t, n, f | f | f | f | f⟩ | x9
      · exact hE.elim
      · exact hE.elim
      · exact hE.elim
      · exact hE.elim
      · obtain ⟨ht, hin, hF⟩ := hE
        intro H locs ls hR hz hc hl
        have hg := g _ hF H locs ls hR hz hc hl
        have hlt : i.toNatClampNeg < n := Nat.not_le.mp fun q => hin (Or.inr q)
        simp only [List.mem_cons, List.not_mem_nil, or_false] at ht
        subst ht
        exact va_aldq hx hb hK.1 (zr_one hR ha) 0 13 rfl rfl hin d hg
      · exact hE.elim
theorem zg_iast {r : Option Nat} {i : Int32} {x : Int32} {F : zw_H → Prop} (ok : zw_ok X cc own nm nL) (d : decode cc pc = .ok (.iastore, 1)) (hE : os_I h r [0] i x F) (g : ∀ h', F h' → zw_G X kc ks nL h' (pc + 1) L S) : zw_G X kc ks nL h pc L (.int x :: .int i :: va_rf r :: S) := by
  obtain ⟨p, l, e, R, s, m, args, below, meth, c, Z, Q⟩ := X
  obtain ⟨hx, hb, hml, hown, hts, hK, hzs, hbs, -⟩ := ok
  unfold os_I at hE
  cases r with
  | none => exact hE.elim
  | some a =>
    dsimp only at hE
    cases ha : h a with
    | none => rw [ha] at hE; exact hE.elim
    | some x9 =>
      rw [ha] at hE
      rcases x9 with ⟨t, n, f | f | f | f | f⟩ | x9
      · obtain ⟨ht, hin, hF⟩ := hE
        simp only [List.mem_cons, List.not_mem_nil, or_false] at ht
        subst ht
        intro H locs ls hR hz hc hl
        have hg := g _ hF
        obtain ⟨q0, hq0⟩ := zr_at hR ha rfl
        have hS := zr_S hR hbs hz hc
        refine va_iast hx hb hK.1 (zr_en_P hR _) zr_en_D hS q0 0 hq0 rfl hin d (fun H1 locs1 hP1 hD1 hS1 => ?_)
        obtain ⟨b1, b2⟩ := zr_base hS1 hzs hbs
        exact hg H1 locs1 ls (zr_set hR (x1 := .inl (0, n, .inl (upd f i.toNatClampNeg x))) ha hq0 rfl b1 b2 hP1) hS1.1 hS1.2.2 hl
      · exact hE.elim
      · exact hE.elim
      · exact hE.elim
      · exact hE.elim
      · exact hE.elim
theorem zg_bast {r : Option Nat} {i : Int32} {x : Int32} {F : zw_H → Prop} (ok : zw_ok X cc own nm nL) (d : decode cc pc = .ok (.bastore, 1)) (hE : os_I h r [1] i (vp_nar .byte x) F) (g : ∀ h', F h' → zw_G X kc ks nL h' (pc + 1) L S) : zw_G X kc ks nL h pc L (.int x :: .int i :: va_rf r :: S) := by
  obtain ⟨p, l, e, R, s, m, args, below, meth, c, Z, Q⟩ := X
  obtain ⟨hx, hb, hml, hown, hts, hK, hzs, hbs, -⟩ := ok
  unfold os_I at hE
  cases r with
  | none => exact hE.elim
  | some a =>
    dsimp only at hE
    cases ha : h a with
    | none => rw [ha] at hE; exact hE.elim
    | some x9 =>
      rw [ha] at hE
      rcases x9 with ⟨t, n, f | f | f | f | f⟩ | x9
      · obtain ⟨ht, hin, hF⟩ := hE
        simp only [List.mem_cons, List.not_mem_nil, or_false] at ht
        subst ht
        intro H locs ls hR hz hc hl
        have hg := g _ hF
        obtain ⟨q0, hq0⟩ := zr_at hR ha rfl
        have hS := zr_S hR hbs hz hc
        refine va_bast hx hb hK.1 (zr_en_P hR _) zr_en_D hS q0 1 hq0 rfl hin d (fun H1 locs1 hP1 hD1 hS1 => ?_)
        obtain ⟨b1, b2⟩ := zr_base hS1 hzs hbs
        exact hg H1 locs1 ls (zr_set hR (x1 := .inl (1, n, .inl (upd f i.toNatClampNeg (vp_nar .byte x)))) ha hq0 rfl b1 b2 hP1) hS1.1 hS1.2.2 hl
      · exact hE.elim
      · exact hE.elim
      · exact hE.elim
      · exact hE.elim
      · exact hE.elim
theorem zg_zast {r : Option Nat} {i : Int32} {x : Int32} {F : zw_H → Prop} (ok : zw_ok X cc own nm nL) (d : decode cc pc = .ok (.bastore, 1)) (hE : os_I h r [2] i (vp_nar .boolean x) F) (g : ∀ h', F h' → zw_G X kc ks nL h' (pc + 1) L S) : zw_G X kc ks nL h pc L (.int x :: .int i :: va_rf r :: S) := by
  obtain ⟨p, l, e, R, s, m, args, below, meth, c, Z, Q⟩ := X
  obtain ⟨hx, hb, hml, hown, hts, hK, hzs, hbs, -⟩ := ok
  unfold os_I at hE
  cases r with
  | none => exact hE.elim
  | some a =>
    dsimp only at hE
    cases ha : h a with
    | none => rw [ha] at hE; exact hE.elim
    | some x9 =>
      rw [ha] at hE
      rcases x9 with ⟨t, n, f | f | f | f | f⟩ | x9
      · obtain ⟨ht, hin, hF⟩ := hE
        simp only [List.mem_cons, List.not_mem_nil, or_false] at ht
        subst ht
        intro H locs ls hR hz hc hl
        have hg := g _ hF
        obtain ⟨q0, hq0⟩ := zr_at hR ha rfl
        have hS := zr_S hR hbs hz hc
        refine va_zast hx hb hK.1 (zr_en_P hR _) zr_en_D hS q0 2 hq0 rfl hin d (fun H1 locs1 hP1 hD1 hS1 => ?_)
        obtain ⟨b1, b2⟩ := zr_base hS1 hzs hbs
        exact hg H1 locs1 ls (zr_set hR (x1 := .inl (2, n, .inl (upd f i.toNatClampNeg (vp_nar .boolean x)))) ha hq0 rfl b1 b2 hP1) hS1.1 hS1.2.2 hl
      · exact hE.elim
      · exact hE.elim
      · exact hE.elim
      · exact hE.elim
      · exact hE.elim
theorem zg_last {r : Option Nat} {i : Int32} {x : Int64} {F : zw_H → Prop} (ok : zw_ok X cc own nm nL) (d : decode cc pc = .ok (.lastore, 1)) (hE : os_J h r [3] i x F) (g : ∀ h', F h' → zw_G X kc ks nL h' (pc + 1) L S) : zw_G X kc ks nL h pc L (.long x :: .int i :: va_rf r :: S) := by
  obtain ⟨p, l, e, R, s, m, args, below, meth, c, Z, Q⟩ := X
  obtain ⟨hx, hb, hml, hown, hts, hK, hzs, hbs, -⟩ := ok
  unfold os_J at hE
  cases r with
  | none => exact hE.elim
  | some a =>
    dsimp only at hE
    cases ha : h a with
    | none => rw [ha] at hE; exact hE.elim
    | some x9 =>
      rw [ha] at hE
      rcases x9 with ⟨t, n, f | f | f | f | f⟩ | x9
      · exact hE.elim
      · obtain ⟨ht, hin, hF⟩ := hE
        simp only [List.mem_cons, List.not_mem_nil, or_false] at ht
        subst ht
        intro H locs ls hR hz hc hl
        have hg := g _ hF
        obtain ⟨q0, hq0⟩ := zr_at hR ha rfl
        have hS := zr_S hR hbs hz hc
        refine va_last hx hb hK.1 (zr_en_P hR _) zr_en_D hS q0 3 hq0 rfl hin d (fun H1 locs1 hP1 hD1 hS1 => ?_)
        obtain ⟨b1, b2⟩ := zr_base hS1 hzs hbs
        exact hg H1 locs1 ls (zr_set hR (x1 := .inl (3, n, .inr (.inl (vp_updL f i.toNatClampNeg x)))) ha hq0 rfl b1 b2 hP1) hS1.1 hS1.2.2 hl
      · exact hE.elim
      · exact hE.elim
      · exact hE.elim
      · exact hE.elim
theorem zg_dast {r : Option Nat} {i : Int32} {x : UInt64} {F : zw_H → Prop} (ok : zw_ok X cc own nm nL) (d : decode cc pc = .ok (.dastore, 1)) (hE : os_D h r [4] i x F) (g : ∀ h', F h' → zw_G X kc ks nL h' (pc + 1) L S) : zw_G X kc ks nL h pc L (.double x :: .int i :: va_rf r :: S) := by
  obtain ⟨p, l, e, R, s, m, args, below, meth, c, Z, Q⟩ := X
  obtain ⟨hx, hb, hml, hown, hts, hK, hzs, hbs, -⟩ := ok
  unfold os_D at hE
  cases r with
  | none => exact hE.elim
  | some a =>
    dsimp only at hE
    cases ha : h a with
    | none => rw [ha] at hE; exact hE.elim
    | some x9 =>
      rw [ha] at hE
      rcases x9 with ⟨t, n, f | f | f | f | f⟩ | x9
      · exact hE.elim
      · exact hE.elim
      · exact hE.elim
      · obtain ⟨ht, hin, hF⟩ := hE
        simp only [List.mem_cons, List.not_mem_nil, or_false] at ht
        subst ht
        intro H locs ls hR hz hc hl
        have hg := g _ hF
        obtain ⟨q0, hq0⟩ := zr_at hR ha rfl
        have hS := zr_S hR hbs hz hc
        refine va_dast hx hb hK.1 (zr_en_P hR _) zr_en_D hS q0 4 hq0 rfl hin d (fun H1 locs1 hP1 hD1 hS1 => ?_)
        obtain ⟨b1, b2⟩ := zr_base hS1 hzs hbs
        exact hg H1 locs1 ls (zr_set hR (x1 := .inl (4, n, .inr (.inr (.inr (.inl (vf_upd f i.toNatClampNeg x)))))) ha hq0 rfl b1 b2 hP1) hS1.1 hS1.2.2 hl
      · exact hE.elim
      · exact hE.elim
/-- the classes of cs go into an array of E -/
def zw_fits (cs : List Nat) (E : String) : Prop := ∀ ci ∈ cs, ∃ q : vw_C, zwCl[ci]? = some q ∧ (q.1 = E ∨ Cond.castable q.1 E ∈ lw_tbl)
theorem zw_any {Z : zw_Z} {s : State} {H : Heap} {cs : List Nat} {E : String} {b : Nat} {o : Nat × List Value} (hK : zw_K Z s) (hR : zw_R Z h H) (hb : h b = some (.inr o)) (hci : o.1 ∈ cs) (hf : zw_fits cs E) : va_Any E s H b := by
  obtain ⟨q, hq, hE⟩ := hf _ hci
  refine va_rAny (ci := o.1) (fs := o.2) (r := q) (q0 := 0) hK.1 (zr_one hR hb) rfl hq (fun comp c0 hc1 hc2 => ?_)
  rcases hE with rfl | hE
  · have h9 := (hK.1.1 _ _ hq).2
    cases Option.some.inj (hc1.symm.trans hc2)
    cases Option.some.inj (hc1.symm.trans h9.1)
    exact va_assign h9
  · obtain ⟨c3, c4, hc3, hc4, hasg⟩ := Cond.castable_spec (va_Nw.use (A := #[]) rfl (hK.2.1 _ hE rfl))
    cases Option.some.inj (hc3.symm.trans hc2)
    cases Option.some.inj (hc4.symm.trans hc1)
    exact hasg
theorem zg_aastO {r v : Option Nat} {i : Int32} {cs : List Nat} {F : zw_H → Prop} (ok : zw_ok X cc own nm nL) (hf : zw_fits cs "java/lang/Object") (d : decode cc pc = .ok (.aastore, 1)) (hE : os_A h r 5 cs [] i v F) (g : ∀ h', F h' → zw_G X kc ks nL h' (pc + 1) L S) : zw_G X kc ks nL h pc L (va_rf v :: .int i :: va_rf r :: S) := by
  obtain ⟨p, l, e, R, s, m, args, below, meth, c, Z, Q⟩ := X
  obtain ⟨hx, hb, hml, hown, hts, hK, hzs, hbs, -⟩ := ok
  unfold os_A at hE
  cases r with
  | none => exact hE.elim
  | some a =>
    dsimp only at hE
    cases ha : h a with
    | none => rw [ha] at hE; exact hE.elim
    | some x9 =>
      rw [ha] at hE
      rcases x9 with ⟨t, n, f | f | f | f | f⟩ | x9
      · exact hE.elim
      · exact hE.elim
      · exact hE.elim
      · exact hE.elim
      · obtain ⟨ht, hin, hv, hF⟩ := hE
        subst ht
        intro H locs ls hR hz hc hl
        have hg := g _ hF
        obtain ⟨q0, hq0⟩ := zr_at hR ha rfl
        have hS := zr_S hR hbs hz hc
        cases v with
        | none =>
          refine va_astqN (C := "java/lang/Object") hx hb hK.1 (zr_en_P hR _) zr_en_D hS q0 5 hq0 rfl hin d (fun H1 locs1 hP1 hD1 hS1 => ?_)
          obtain ⟨b1, b2⟩ := zr_base hS1 hzs hbs
          exact hg H1 locs1 ls (zr_set hR (x1 := .inl (5, n, .inr (.inr (.inr (.inr (va_up f i.toNatClampNeg none)))))) ha hq0 rfl b1 b2 hP1) hS1.1 hS1.2.2 hl
        | some b =>
          unfold os_ok at hv
          dsimp only at hv
          cases hb9 : h b with
          | none => rw [hb9] at hv; exact hv.elim
          | some y =>
            rw [hb9] at hv
            rcases y with y | o
            · exact absurd hv List.not_mem_nil
            · refine va_astqM (E := "java/lang/Object") hx hb hK.1 (zr_en_P hR _) zr_en_D hS q0 5 hq0 rfl (zw_any hK hR hb9 hv hf) hin d (fun H1 locs1 hP1 hD1 hS1 => ?_)
              obtain ⟨b1, b2⟩ := zr_base hS1 hzs hbs
              exact hg H1 locs1 ls (zr_set hR (x1 := .inl (5, n, .inr (.inr (.inr (.inr (va_up f i.toNatClampNeg (some b))))))) ha hq0 rfl b1 b2 hP1) hS1.1 hS1.2.2 hl
      · exact hE.elim
theorem zg_aastB {r v : Option Nat} {i : Int32} {cs : List Nat} {F : zw_H → Prop} (ok : zw_ok X cc own nm nL) (hf : zw_fits cs "MultipoleLine$Box") (d : decode cc pc = .ok (.aastore, 1)) (hE : os_A h r 6 cs [] i v F) (g : ∀ h', F h' → zw_G X kc ks nL h' (pc + 1) L S) : zw_G X kc ks nL h pc L (va_rf v :: .int i :: va_rf r :: S) := by
  obtain ⟨p, l, e, R, s, m, args, below, meth, c, Z, Q⟩ := X
  obtain ⟨hx, hb, hml, hown, hts, hK, hzs, hbs, -⟩ := ok
  unfold os_A at hE
  cases r with
  | none => exact hE.elim
  | some a =>
    dsimp only at hE
    cases ha : h a with
    | none => rw [ha] at hE; exact hE.elim
    | some x9 =>
      rw [ha] at hE
      rcases x9 with ⟨t, n, f | f | f | f | f⟩ | x9
      · exact hE.elim
      · exact hE.elim
      · exact hE.elim
      · exact hE.elim
      · obtain ⟨ht, hin, hv, hF⟩ := hE
        subst ht
        intro H locs ls hR hz hc hl
        have hg := g _ hF
        obtain ⟨q0, hq0⟩ := zr_at hR ha rfl
        have hS := zr_S hR hbs hz hc
        cases v with
        | none =>
          refine va_astqN (C := "MultipoleLine$Box") hx hb hK.1 (zr_en_P hR _) zr_en_D hS q0 6 hq0 rfl hin d (fun H1 locs1 hP1 hD1 hS1 => ?_)
          obtain ⟨b1, b2⟩ := zr_base hS1 hzs hbs
          exact hg H1 locs1 ls (zr_set hR (x1 := .inl (6, n, .inr (.inr (.inr (.inr (va_up f i.toNatClampNeg none)))))) ha hq0 rfl b1 b2 hP1) hS1.1 hS1.2.2 hl
        | some b =>
          unfold os_ok at hv
          dsimp only at hv
          cases hb9 : h b with
          | none => rw [hb9] at hv; exact hv.elim
          | some y =>
            rw [hb9] at hv
            rcases y with y | o
            · exact absurd hv List.not_mem_nil
            · refine va_astqM (E := "MultipoleLine$Box") hx hb hK.1 (zr_en_P hR _) zr_en_D hS q0 6 hq0 rfl (zw_any hK hR hb9 hv hf) hin d (fun H1 locs1 hP1 hD1 hS1 => ?_)
              obtain ⟨b1, b2⟩ := zr_base hS1 hzs hbs
              exact hg H1 locs1 ls (zr_set hR (x1 := .inl (6, n, .inr (.inr (.inr (.inr (va_up f i.toNatClampNeg (some b))))))) ha hq0 rfl b1 b2 hP1) hS1.1 hS1.2.2 hl
      · exact hE.elim
theorem zg_aastL {r v : Option Nat} {i : Int32} {cs : List Nat} {F : zw_H → Prop} (ok : zw_ok X cc own nm nL) (hf : zw_fits cs "MultipoleLine$Line") (d : decode cc pc = .ok (.aastore, 1)) (hE : os_A h r 8 cs [] i v F) (g : ∀ h', F h' → zw_G X kc ks nL h' (pc + 1) L S) : zw_G X kc ks nL h pc L (va_rf v :: .int i :: va_rf r :: S) := by
  obtain ⟨p, l, e, R, s, m, args, below, meth, c, Z, Q⟩ := X
  obtain ⟨hx, hb, hml, hown, hts, hK, hzs, hbs, -⟩ := ok
  unfold os_A at hE
  cases r with
  | none => exact hE.elim
  | some a =>
    dsimp only at hE
    cases ha : h a with
    | none => rw [ha] at hE; exact hE.elim
    | some x9 =>
      rw [ha] at hE
      rcases x9 with ⟨t, n, f | f | f | f | f⟩ | x9
      · exact hE.elim
      · exact hE.elim
      · exact hE.elim
      · exact hE.elim
      · obtain ⟨ht, hin, hv, hF⟩ := hE
        subst ht
        intro H locs ls hR hz hc hl
        have hg := g _ hF
        obtain ⟨q0, hq0⟩ := zr_at hR ha rfl
        have hS := zr_S hR hbs hz hc
        cases v with
        | none =>
          refine va_astqN (C := "MultipoleLine$Line") hx hb hK.1 (zr_en_P hR _) zr_en_D hS q0 8 hq0 rfl hin d (fun H1 locs1 hP1 hD1 hS1 => ?_)
          obtain ⟨b1, b2⟩ := zr_base hS1 hzs hbs
          exact hg H1 locs1 ls (zr_set hR (x1 := .inl (8, n, .inr (.inr (.inr (.inr (va_up f i.toNatClampNeg none)))))) ha hq0 rfl b1 b2 hP1) hS1.1 hS1.2.2 hl
        | some b =>
          unfold os_ok at hv
          dsimp only at hv
          cases hb9 : h b with
          | none => rw [hb9] at hv; exact hv.elim
          | some y =>
            rw [hb9] at hv
            rcases y with y | o
            · exact absurd hv List.not_mem_nil
            · refine va_astqM (E := "MultipoleLine$Line") hx hb hK.1 (zr_en_P hR _) zr_en_D hS q0 8 hq0 rfl (zw_any hK hR hb9 hv hf) hin d (fun H1 locs1 hP1 hD1 hS1 => ?_)
              obtain ⟨b1, b2⟩ := zr_base hS1 hzs hbs
              exact hg H1 locs1 ls (zr_set hR (x1 := .inl (8, n, .inr (.inr (.inr (.inr (va_up f i.toNatClampNeg (some b))))))) ha hq0 rfl b1 b2 hP1) hS1.1 hS1.2.2 hl
      · exact hE.elim
theorem zg_aastF {r v : Option Nat} {i : Int32} {cs : List Nat} {F : zw_H → Prop} (ok : zw_ok X cc own nm nL) (hf : zw_fits cs "MultipoleLine$Free") (d : decode cc pc = .ok (.aastore, 1)) (hE : os_A h r 9 cs [] i v F) (g : ∀ h', F h' → zw_G X kc ks nL h' (pc + 1) L S) : zw_G X kc ks nL h pc L (va_rf v :: .int i :: va_rf r :: S) := by
  obtain ⟨p, l, e, R, s, m, args, below, meth, c, Z, Q⟩ := X
  obtain ⟨hx, hb, hml, hown, hts, hK, hzs, hbs, -⟩ := ok
  unfold os_A at hE
  cases r with
  | none => exact hE.elim
  | some a =>
    dsimp only at hE
    cases ha : h a with
    | none => rw [ha] at hE; exact hE.elim
    | some x9 =>
      rw [ha] at hE
      rcases x9 with ⟨t, n, f | f | f | f | f⟩ | x9
      · exact hE.elim
      · exact hE.elim
      · exact hE.elim
      · exact hE.elim
      · obtain ⟨ht, hin, hv, hF⟩ := hE
        subst ht
        intro H locs ls hR hz hc hl
        have hg := g _ hF
        obtain ⟨q0, hq0⟩ := zr_at hR ha rfl
        have hS := zr_S hR hbs hz hc
        cases v with
        | none =>
          refine va_astqN (C := "MultipoleLine$Free") hx hb hK.1 (zr_en_P hR _) zr_en_D hS q0 9 hq0 rfl hin d (fun H1 locs1 hP1 hD1 hS1 => ?_)
          obtain ⟨b1, b2⟩ := zr_base hS1 hzs hbs
          exact hg H1 locs1 ls (zr_set hR (x1 := .inl (9, n, .inr (.inr (.inr (.inr (va_up f i.toNatClampNeg none)))))) ha hq0 rfl b1 b2 hP1) hS1.1 hS1.2.2 hl
        | some b =>
          unfold os_ok at hv
          dsimp only at hv
          cases hb9 : h b with
          | none => rw [hb9] at hv; exact hv.elim
          | some y =>
            rw [hb9] at hv
            rcases y with y | o
            · exact absurd hv List.not_mem_nil
            · refine va_astqM (E := "MultipoleLine$Free") hx hb hK.1 (zr_en_P hR _) zr_en_D hS q0 9 hq0 rfl (zw_any hK hR hb9 hv hf) hin d (fun H1 locs1 hP1 hD1 hS1 => ?_)
              obtain ⟨b1, b2⟩ := zr_base hS1 hzs hbs
              exact hg H1 locs1 ls (zr_set hR (x1 := .inl (9, n, .inr (.inr (.inr (.inr (va_up f i.toNatClampNeg (some b))))))) ha hq0 rfl b1 b2 hP1) hS1.1 hS1.2.2 hl
      · exact hE.elim
theorem zg_alen {r : Option Nat} {F : Int32 → Prop} (ok : zw_ok X cc own nm nL) (d : decode cc pc = .ok (.arraylength, 1)) (hE : ol_ h r F) (g : ∀ x, F x → zw_G X kc ks nL h (pc + 1) L (.int x :: S)) : zw_G X kc ks nL h pc L (va_rf r :: S) := by
  obtain ⟨p, l, e, R, s, m, args, below, meth, c, Z, Q⟩ := X
  obtain ⟨hx, hb, hml, hown, hts, hK, hzs, hbs, -⟩ := ok
  unfold ol_ at hE
  cases r with
  | none => exact hE.elim
  | some a =>
    dsimp only at hE
    cases ha : h a with
    | none => rw [ha] at hE; exact hE.elim
    | some x9 =>
      rw [ha] at hE
      rcases x9 with ⟨t, y⟩ | x9
      · obtain ⟨ht, hF⟩ := hE
        intro H locs ls hR hz hc hl
        have ht9 : (zw_tys Z)[t]? = some (Z.2.1 t, zwTy.getD t .int) := by
          unfold zw_tys
          rw [List.getElem?_map, List.getElem?_range ht]
          rfl
        exact va_alen hx hb hK.1 (zr_one hR ha) 0 t rfl ht9 rfl d (g _ hF H locs ls hR hz hc hl)
      · exact hE.elim
/-- a class that is made: its entry in own, its number, its words -/
def zw_N (own : String) (idx : Nat) (C : String) (ci N : Nat) (fs : List Value) : Prop :=
  ci < 17 ∧ (∃ T, zwCl[ci]? = some (C, T, N)) ∧ Cond.classLink own idx C ∈ lw_all ∧ Cond.instantiable C N ∈ lw_all ∧ Cond.initialized C ∈ lw_all ∧ ∀ j, j < N → defaultValue (zwTyF ci j) = vp_V fs j
theorem zg_new {C : String} {ci N idx : Nat} {fs : List Value} {F : Nat → zw_H → Prop} (ok : zw_ok X cc own nm nL) (lk : zw_N own idx C ci N fs) (hR9 : kc + 1 ≤ (zw_rm X).cells ∧ ks + N ≤ (zw_rm X).slots) (d : decode cc pc = .ok (.new idx, 3)) (hE : on_C h (.inr (ci, fs)) F) (g : ∀ a h', F a h' → zw_G X (kc + 1) (ks + N) nL h' (pc + 3) L (va_rf (some a) :: S)) : zw_G X kc ks nL h pc L S := by
  obtain ⟨p, l, e, R, s, m, args, below, meth, c, Z, Q⟩ := X
  obtain ⟨hx, hb, hml, hown, hts, hK, hzs, hbs, -⟩ := ok
  obtain ⟨h17, ⟨T, hcl⟩, h1, h2, h3, hdf⟩ := lk
  intro H locs ls hR hz hc hl
  refine va_new (ci := ci) (fs := fs) (C := C) (T := T) (N := N) hx hb hts (zw_in ci _ hcl) (zwTyF ci) (zw_ty ci _ hcl) hown (hts _ h1) (hts _ h2) (hts _ h3) hK.1 (zr_en_P hR H.size) zr_en_D (zr_S hR hbs hz hc) (zr_AA hzs) hcl hdf hR9.1 hR9.2 d (fun q H1 hP1 hD1 hS1 => ?_)
  obtain ⟨b1, b2⟩ := zr_base hS1 hzs hbs
  obtain ⟨c1, c2⟩ := zr_push hR (a := q) (x := .inr (ci, fs)) (decide_eq_false (by show ¬ 17 ≤ ci; omega)) b1 b2 hP1 hD1
  exact g q _ (hE q c1) H1 locs ls c2 hS1.1 hS1.2.2 hl
theorem zg_newI {n : Int32} {b : Nat} {F : Nat → zw_H → Prop} (ok : zw_ok X cc own nm nL) (hR9 : kc + 1 ≤ (zw_rm X).cells ∧ ks + b ≤ (zw_rm X).slots) (hb9 : b ≤ 65536) (d : decode cc pc = .ok (.newarray .int, 2)) (hE : on_I h 0 n b F) (g : ∀ a h', F a h' → zw_G X (kc + 1) (ks + b) nL h' (pc + 2) L (va_rf (some a) :: S)) : zw_G X kc ks nL h pc L (.int n :: S) := by
  obtain ⟨p, l, e, R, s, m, args, below, meth, c, Z, Q⟩ := X
  obtain ⟨hx, hb, hml, hown, hts, hK, hzs, hbs, -⟩ := ok
  obtain ⟨hn, hn2, hE⟩ := hE
  intro H locs ls hR hz hc hl
  have hR2 : ks + n.toNatClampNeg ≤ R.slots := Nat.le_trans (Nat.add_le_add_left hn2 ks) hR9.2
  refine va_newa (atype := .int) (ty := .int) (a0 := (n.toNatClampNeg, .inl (fun _ => 0))) hx hb (hts _ q247) rfl hK.1 (zr_en_P hR H.size) zr_en_D (zr_S hR hbs hz hc) (zr_AA hzs) (fun cA => by rfl) hn rfl (by show n.toNatClampNeg * 4 ≤ 536870912; omega) hR9.1 hR2 d (fun q cA H1 hK1 hP1 hD1 hS1 => ?_)
  have hcA : cA = Z.2.1 0 := by
    have e1 := (hK1.2 (zw_tys Z).length (cA, .int) (by simp)).2
    have e2 := (hK.1.2 0 _ rfl).2
    exact Option.some.inj (e1.symm.trans e2)
  subst hcA
  obtain ⟨b1, b2⟩ := zr_base hS1 hzs hbs
  obtain ⟨c1, c2⟩ := zr_push hR (a := q) (x := .inl (0, n.toNatClampNeg, .inl (fun _ => 0))) rfl b1 b2 hP1 hD1
  exact W.widen (Nat.le_refl _) (Nat.add_le_add_left hn2 ks) (g q _ (hE q c1) H1 locs ls c2 hS1.1 hS1.2.2 hl)
theorem zg_newB {n : Int32} {b : Nat} {F : Nat → zw_H → Prop} (ok : zw_ok X cc own nm nL) (hR9 : kc + 1 ≤ (zw_rm X).cells ∧ ks + b ≤ (zw_rm X).slots) (hb9 : b ≤ 65536) (d : decode cc pc = .ok (.newarray .byte, 2)) (hE : on_I h 1 n b F) (g : ∀ a h', F a h' → zw_G X (kc + 1) (ks + b) nL h' (pc + 2) L (va_rf (some a) :: S)) : zw_G X kc ks nL h pc L (.int n :: S) := by
  obtain ⟨p, l, e, R, s, m, args, below, meth, c, Z, Q⟩ := X
  obtain ⟨hx, hb, hml, hown, hts, hK, hzs, hbs, -⟩ := ok
  obtain ⟨hn, hn2, hE⟩ := hE
  intro H locs ls hR hz hc hl
  have hR2 : ks + n.toNatClampNeg ≤ R.slots := Nat.le_trans (Nat.add_le_add_left hn2 ks) hR9.2
  refine va_newa (atype := .byte) (ty := .byte) (a0 := (n.toNatClampNeg, .inl (fun _ => 0))) hx hb (hts _ q182) rfl hK.1 (zr_en_P hR H.size) zr_en_D (zr_S hR hbs hz hc) (zr_AA hzs) (fun cA => by rfl) hn rfl (by show n.toNatClampNeg * 1 ≤ 536870912; omega) hR9.1 hR2 d (fun q cA H1 hK1 hP1 hD1 hS1 => ?_)
  have hcA : cA = Z.2.1 1 := by
    have e1 := (hK1.2 (zw_tys Z).length (cA, .byte) (by simp)).2
    have e2 := (hK.1.2 1 _ rfl).2
    exact Option.some.inj (e1.symm.trans e2)
  subst hcA
  obtain ⟨b1, b2⟩ := zr_base hS1 hzs hbs
  obtain ⟨c1, c2⟩ := zr_push hR (a := q) (x := .inl (1, n.toNatClampNeg, .inl (fun _ => 0))) rfl b1 b2 hP1 hD1
  exact W.widen (Nat.le_refl _) (Nat.add_le_add_left hn2 ks) (g q _ (hE q c1) H1 locs ls c2 hS1.1 hS1.2.2 hl)
theorem zg_newZ {n : Int32} {b : Nat} {F : Nat → zw_H → Prop} (ok : zw_ok X cc own nm nL) (hR9 : kc + 1 ≤ (zw_rm X).cells ∧ ks + b ≤ (zw_rm X).slots) (hb9 : b ≤ 65536) (d : decode cc pc = .ok (.newarray .boolean, 2)) (hE : on_I h 2 n b F) (g : ∀ a h', F a h' → zw_G X (kc + 1) (ks + b) nL h' (pc + 2) L (va_rf (some a) :: S)) : zw_G X kc ks nL h pc L (.int n :: S) := by
  obtain ⟨p, l, e, R, s, m, args, below, meth, c, Z, Q⟩ := X
  obtain ⟨hx, hb, hml, hown, hts, hK, hzs, hbs, -⟩ := ok
  obtain ⟨hn, hn2, hE⟩ := hE
  intro H locs ls hR hz hc hl
  have hR2 : ks + n.toNatClampNeg ≤ R.slots := Nat.le_trans (Nat.add_le_add_left hn2 ks) hR9.2
  refine va_newa (atype := .boolean) (ty := .boolean) (a0 := (n.toNatClampNeg, .inl (fun _ => 0))) hx hb (hts _ q2486) rfl hK.1 (zr_en_P hR H.size) zr_en_D (zr_S hR hbs hz hc) (zr_AA hzs) (fun cA => by rfl) hn rfl (by show n.toNatClampNeg * 1 ≤ 536870912; omega) hR9.1 hR2 d (fun q cA H1 hK1 hP1 hD1 hS1 => ?_)
  have hcA : cA = Z.2.1 2 := by
    have e1 := (hK1.2 (zw_tys Z).length (cA, .boolean) (by simp)).2
    have e2 := (hK.1.2 2 _ rfl).2
    exact Option.some.inj (e1.symm.trans e2)
  subst hcA
  obtain ⟨b1, b2⟩ := zr_base hS1 hzs hbs
  obtain ⟨c1, c2⟩ := zr_push hR (a := q) (x := .inl (2, n.toNatClampNeg, .inl (fun _ => 0))) rfl b1 b2 hP1 hD1
  exact W.widen (Nat.le_refl _) (Nat.add_le_add_left hn2 ks) (g q _ (hE q c1) H1 locs ls c2 hS1.1 hS1.2.2 hl)
theorem zg_newJ {n : Int32} {b : Nat} {F : Nat → zw_H → Prop} (ok : zw_ok X cc own nm nL) (hR9 : kc + 1 ≤ (zw_rm X).cells ∧ ks + b ≤ (zw_rm X).slots) (hb9 : b ≤ 65536) (d : decode cc pc = .ok (.newarray .long, 2)) (hE : on_J h 3 n b F) (g : ∀ a h', F a h' → zw_G X (kc + 1) (ks + b) nL h' (pc + 2) L (va_rf (some a) :: S)) : zw_G X kc ks nL h pc L (.int n :: S) := by
  obtain ⟨p, l, e, R, s, m, args, below, meth, c, Z, Q⟩ := X
  obtain ⟨hx, hb, hml, hown, hts, hK, hzs, hbs, -⟩ := ok
  obtain ⟨hn, hn2, hE⟩ := hE
  intro H locs ls hR hz hc hl
  have hR2 : ks + n.toNatClampNeg ≤ R.slots := Nat.le_trans (Nat.add_le_add_left hn2 ks) hR9.2
  refine va_newa (atype := .long) (ty := .long) (a0 := (n.toNatClampNeg, .inr (.inl (fun _ => 0)))) hx hb (hts _ q1188) rfl hK.1 (zr_en_P hR H.size) zr_en_D (zr_S hR hbs hz hc) (zr_AA hzs) (fun cA => by rfl) hn rfl (by show n.toNatClampNeg * 8 ≤ 536870912; omega) hR9.1 hR2 d (fun q cA H1 hK1 hP1 hD1 hS1 => ?_)
  have hcA : cA = Z.2.1 3 := by
    have e1 := (hK1.2 (zw_tys Z).length (cA, .long) (by simp)).2
    have e2 := (hK.1.2 3 _ rfl).2
    exact Option.some.inj (e1.symm.trans e2)
  subst hcA
  obtain ⟨b1, b2⟩ := zr_base hS1 hzs hbs
  obtain ⟨c1, c2⟩ := zr_push hR (a := q) (x := .inl (3, n.toNatClampNeg, .inr (.inl (fun _ => 0)))) rfl b1 b2 hP1 hD1
  exact W.widen (Nat.le_refl _) (Nat.add_le_add_left hn2 ks) (g q _ (hE q c1) H1 locs ls c2 hS1.1 hS1.2.2 hl)
theorem zg_newD {n : Int32} {b : Nat} {F : Nat → zw_H → Prop} (ok : zw_ok X cc own nm nL) (hR9 : kc + 1 ≤ (zw_rm X).cells ∧ ks + b ≤ (zw_rm X).slots) (hb9 : b ≤ 65536) (d : decode cc pc = .ok (.newarray .double, 2)) (hE : on_D h 4 n b F) (g : ∀ a h', F a h' → zw_G X (kc + 1) (ks + b) nL h' (pc + 2) L (va_rf (some a) :: S)) : zw_G X kc ks nL h pc L (.int n :: S) := by
  obtain ⟨p, l, e, R, s, m, args, below, meth, c, Z, Q⟩ := X
  obtain ⟨hx, hb, hml, hown, hts, hK, hzs, hbs, -⟩ := ok
  obtain ⟨hn, hn2, hE⟩ := hE
  intro H locs ls hR hz hc hl
  have hR2 : ks + n.toNatClampNeg ≤ R.slots := Nat.le_trans (Nat.add_le_add_left hn2 ks) hR9.2
  refine va_newa (atype := .double) (ty := .double) (a0 := (n.toNatClampNeg, .inr (.inr (.inr (.inl (fun _ => 0)))))) hx hb (hts _ q1902) rfl hK.1 (zr_en_P hR H.size) zr_en_D (zr_S hR hbs hz hc) (zr_AA hzs) (fun cA => by rfl) hn rfl (by show n.toNatClampNeg * 8 ≤ 536870912; omega) hR9.1 hR2 d (fun q cA H1 hK1 hP1 hD1 hS1 => ?_)
  have hcA : cA = Z.2.1 4 := by
    have e1 := (hK1.2 (zw_tys Z).length (cA, .double) (by simp)).2
    have e2 := (hK.1.2 4 _ rfl).2
    exact Option.some.inj (e1.symm.trans e2)
  subst hcA
  obtain ⟨b1, b2⟩ := zr_base hS1 hzs hbs
  obtain ⟨c1, c2⟩ := zr_push hR (a := q) (x := .inl (4, n.toNatClampNeg, .inr (.inr (.inr (.inl (fun _ => 0)))))) rfl b1 b2 hP1 hD1
  exact W.widen (Nat.le_refl _) (Nat.add_le_add_left hn2 ks) (g q _ (hE q c1) H1 locs ls c2 hS1.1 hS1.2.2 hl)
theorem zg_newO {n : Int32} {b idx : Nat} {F : Nat → zw_H → Prop} (ok : zw_ok X cc own nm nL) (lk : Cond.classLink own idx "java/lang/Object" ∈ lw_all) (hR9 : kc + 1 ≤ (zw_rm X).cells ∧ ks + b ≤ (zw_rm X).slots) (hb9 : b ≤ 65536) (d : decode cc pc = .ok (.anewarray idx, 3)) (hE : on_A h 5 n b F) (g : ∀ a h', F a h' → zw_G X (kc + 1) (ks + b) nL h' (pc + 3) L (va_rf (some a) :: S)) : zw_G X kc ks nL h pc L (.int n :: S) := by
  obtain ⟨p, l, e, R, s, m, args, below, meth, c, Z, Q⟩ := X
  obtain ⟨hx, hb, hml, hown, hts, hK, hzs, hbs, -⟩ := ok
  obtain ⟨hn, hn2, hE⟩ := hE
  intro H locs ls hR hz hc hl
  have hR2 : ks + n.toNatClampNeg ≤ R.slots := Nat.le_trans (Nat.add_le_add_left hn2 ks) hR9.2
  refine va_newq (C := "java/lang/Object") hx hb hown (hts _ lk) (hK.2.2.2.1 _ (by decide)) hK.1 (zr_en_P hR H.size) zr_en_D (zr_S hR hbs hz hc) (zr_AA hzs) hn rfl (by show n.toNatClampNeg * 4 ≤ 536870912; omega) hR9.1 hR2 d (fun q cA H1 hK1 hP1 hD1 hS1 => ?_)
  have hcA : cA = Z.2.1 5 := by
    obtain ⟨_, _, _, _, _, e1⟩ := (hK1.2 (zw_tys Z).length (cA, .object "java/lang/Object") (by simp)).2
    obtain ⟨_, _, _, _, _, e2⟩ := (hK.1.2 5 _ rfl).2
    exact Option.some.inj (e1.symm.trans e2)
  subst hcA
  obtain ⟨b1, b2⟩ := zr_base hS1 hzs hbs
  obtain ⟨c1, c2⟩ := zr_push hR (a := q) (x := .inl (5, n.toNatClampNeg, .inr (.inr (.inr (.inr (fun _ => none)))))) rfl b1 b2 hP1 hD1
  exact W.widen (Nat.le_refl _) (Nat.add_le_add_left hn2 ks) (g q _ (hE q c1) H1 locs ls c2 hS1.1 hS1.2.2 hl)
theorem zg_newBx {n : Int32} {b idx : Nat} {F : Nat → zw_H → Prop} (ok : zw_ok X cc own nm nL) (lk : Cond.classLink own idx "MultipoleLine$Box" ∈ lw_all) (hR9 : kc + 1 ≤ (zw_rm X).cells ∧ ks + b ≤ (zw_rm X).slots) (hb9 : b ≤ 65536) (d : decode cc pc = .ok (.anewarray idx, 3)) (hE : on_A h 6 n b F) (g : ∀ a h', F a h' → zw_G X (kc + 1) (ks + b) nL h' (pc + 3) L (va_rf (some a) :: S)) : zw_G X kc ks nL h pc L (.int n :: S) := by
  obtain ⟨p, l, e, R, s, m, args, below, meth, c, Z, Q⟩ := X
  obtain ⟨hx, hb, hml, hown, hts, hK, hzs, hbs, -⟩ := ok
  obtain ⟨hn, hn2, hE⟩ := hE
  intro H locs ls hR hz hc hl
  have hR2 : ks + n.toNatClampNeg ≤ R.slots := Nat.le_trans (Nat.add_le_add_left hn2 ks) hR9.2
  refine va_newq (C := "MultipoleLine$Box") hx hb hown (hts _ lk) (hK.2.2.2.1 _ (by decide)) hK.1 (zr_en_P hR H.size) zr_en_D (zr_S hR hbs hz hc) (zr_AA hzs) hn rfl (by show n.toNatClampNeg * 4 ≤ 536870912; omega) hR9.1 hR2 d (fun q cA H1 hK1 hP1 hD1 hS1 => ?_)
  have hcA : cA = Z.2.1 6 := by
    obtain ⟨_, _, _, _, _, e1⟩ := (hK1.2 (zw_tys Z).length (cA, .object "MultipoleLine$Box") (by simp)).2
    obtain ⟨_, _, _, _, _, e2⟩ := (hK.1.2 6 _ rfl).2
    exact Option.some.inj (e1.symm.trans e2)
  subst hcA
  obtain ⟨b1, b2⟩ := zr_base hS1 hzs hbs
  obtain ⟨c1, c2⟩ := zr_push hR (a := q) (x := .inl (6, n.toNatClampNeg, .inr (.inr (.inr (.inr (fun _ => none)))))) rfl b1 b2 hP1 hD1
  exact W.widen (Nat.le_refl _) (Nat.add_le_add_left hn2 ks) (g q _ (hE q c1) H1 locs ls c2 hS1.1 hS1.2.2 hl)
theorem zg_newL {n : Int32} {b idx : Nat} {F : Nat → zw_H → Prop} (ok : zw_ok X cc own nm nL) (lk : Cond.classLink own idx "MultipoleLine$Line" ∈ lw_all) (hR9 : kc + 1 ≤ (zw_rm X).cells ∧ ks + b ≤ (zw_rm X).slots) (hb9 : b ≤ 65536) (d : decode cc pc = .ok (.anewarray idx, 3)) (hE : on_A h 8 n b F) (g : ∀ a h', F a h' → zw_G X (kc + 1) (ks + b) nL h' (pc + 3) L (va_rf (some a) :: S)) : zw_G X kc ks nL h pc L (.int n :: S) := by
  obtain ⟨p, l, e, R, s, m, args, below, meth, c, Z, Q⟩ := X
  obtain ⟨hx, hb, hml, hown, hts, hK, hzs, hbs, -⟩ := ok
  obtain ⟨hn, hn2, hE⟩ := hE
  intro H locs ls hR hz hc hl
  have hR2 : ks + n.toNatClampNeg ≤ R.slots := Nat.le_trans (Nat.add_le_add_left hn2 ks) hR9.2
  refine va_newq (C := "MultipoleLine$Line") hx hb hown (hts _ lk) (hK.2.2.2.1 _ (by decide)) hK.1 (zr_en_P hR H.size) zr_en_D (zr_S hR hbs hz hc) (zr_AA hzs) hn rfl (by show n.toNatClampNeg * 4 ≤ 536870912; omega) hR9.1 hR2 d (fun q cA H1 hK1 hP1 hD1 hS1 => ?_)
  have hcA : cA = Z.2.1 8 := by
    obtain ⟨_, _, _, _, _, e1⟩ := (hK1.2 (zw_tys Z).length (cA, .object "MultipoleLine$Line") (by simp)).2
    obtain ⟨_, _, _, _, _, e2⟩ := (hK.1.2 8 _ rfl).2
    exact Option.some.inj (e1.symm.trans e2)
  subst hcA
  obtain ⟨b1, b2⟩ := zr_base hS1 hzs hbs
  obtain ⟨c1, c2⟩ := zr_push hR (a := q) (x := .inl (8, n.toNatClampNeg, .inr (.inr (.inr (.inr (fun _ => none)))))) rfl b1 b2 hP1 hD1
  exact W.widen (Nat.le_refl _) (Nat.add_le_add_left hn2 ks) (g q _ (hE q c1) H1 locs ls c2 hS1.1 hS1.2.2 hl)
theorem zg_newFr {n : Int32} {b idx : Nat} {F : Nat → zw_H → Prop} (ok : zw_ok X cc own nm nL) (lk : Cond.classLink own idx "MultipoleLine$Free" ∈ lw_all) (hR9 : kc + 1 ≤ (zw_rm X).cells ∧ ks + b ≤ (zw_rm X).slots) (hb9 : b ≤ 65536) (d : decode cc pc = .ok (.anewarray idx, 3)) (hE : on_A h 9 n b F) (g : ∀ a h', F a h' → zw_G X (kc + 1) (ks + b) nL h' (pc + 3) L (va_rf (some a) :: S)) : zw_G X kc ks nL h pc L (.int n :: S) := by
  obtain ⟨p, l, e, R, s, m, args, below, meth, c, Z, Q⟩ := X
  obtain ⟨hx, hb, hml, hown, hts, hK, hzs, hbs, -⟩ := ok
  obtain ⟨hn, hn2, hE⟩ := hE
  intro H locs ls hR hz hc hl
  have hR2 : ks + n.toNatClampNeg ≤ R.slots := Nat.le_trans (Nat.add_le_add_left hn2 ks) hR9.2
  refine va_newq (C := "MultipoleLine$Free") hx hb hown (hts _ lk) (hK.2.2.2.1 _ (by decide)) hK.1 (zr_en_P hR H.size) zr_en_D (zr_S hR hbs hz hc) (zr_AA hzs) hn rfl (by show n.toNatClampNeg * 4 ≤ 536870912; omega) hR9.1 hR2 d (fun q cA H1 hK1 hP1 hD1 hS1 => ?_)
  have hcA : cA = Z.2.1 9 := by
    obtain ⟨_, _, _, _, _, e1⟩ := (hK1.2 (zw_tys Z).length (cA, .object "MultipoleLine$Free") (by simp)).2
    obtain ⟨_, _, _, _, _, e2⟩ := (hK.1.2 9 _ rfl).2
    exact Option.some.inj (e1.symm.trans e2)
  subst hcA
  obtain ⟨b1, b2⟩ := zr_base hS1 hzs hbs
  obtain ⟨c1, c2⟩ := zr_push hR (a := q) (x := .inl (9, n.toNatClampNeg, .inr (.inr (.inr (.inr (fun _ => none)))))) rfl b1 b2 hP1 hD1
  exact W.widen (Nat.le_refl _) (Nat.add_le_add_left hn2 ks) (g q _ (hE q c1) H1 locs ls c2 hS1.1 hS1.2.2 hl)
theorem zg_getsI {C n d' : String} {v : Int32} {idx : Nat} (ok : zw_ok X cc own nm nL) (hq : (C, n, d', v) ∈ zwSI) (lk : Cond.fieldLink own idx C n d' ∈ lw_all) (d : decode cc pc = .ok (.getstatic idx, 3)) (g : zw_G X kc ks nL h (pc + 3) L (.int v :: S)) : zw_G X kc ks nL h pc L S := by
  obtain ⟨p, l, e, R, s, m, args, below, meth, c, Z, Q⟩ := X
  obtain ⟨hx, hb, hml, hown, hts, hK, hzs, hbs, -⟩ := ok
  intro H locs ls hR hz hc hl
  exact va_gets hx hb (va_Z.kept (hK.2.2.2.2.2.1 _ hq) (fun a _ ha => hbs a (Nat.lt_of_not_le ha))) (zr_S hR hbs hz hc) hown (hts _ lk) (fun x hx => hx) d (g H locs ls hR hz hc hl)
theorem zg_getsA {C n d' : String} {k idx : Nat} (ok : zw_ok X cc own nm nL) (hq : (C, n, d', k) ∈ zwSR) (lk : Cond.fieldLink own idx C n d' ∈ lw_all) (d : decode cc pc = .ok (.getstatic idx, 3)) (g : zw_G X kc ks nL h (pc + 3) L (va_rf ((zw_Zf X).2.2.2 k) :: S)) : zw_G X kc ks nL h pc L S := by
  obtain ⟨p, l, e, R, s, m, args, below, meth, c, Z, Q⟩ := X
  obtain ⟨hx, hb, hml, hown, hts, hK, hzs, hbs, -⟩ := ok
  intro H locs ls hR hz hc hl
  exact va_gets hx hb (va_Z.kept (hK.2.2.2.2.2.2.1 _ hq) (fun a _ ha => hbs a (Nat.lt_of_not_le ha))) (zr_S hR hbs hz hc) hown (hts _ lk) (fun x hx => hx) d (g H locs ls hR hz hc hl)
theorem zg_ldcS {tx : String} {k idx : Nat} (ok : zw_ok X cc own nm nL) (hq : (own, idx, tx, k) ∈ zwSS) (d : decode cc pc = .ok (.ldc idx, 2)) (g : zw_G X kc ks nL h (pc + 2) L (va_rf ((zw_Zf X).2.2.2 k) :: S)) : zw_G X kc ks nL h pc L S := by
  obtain ⟨p, l, e, R, s, m, args, below, meth, c, Z, Q⟩ := X
  obtain ⟨hx, hb, hml, hown, hts, hK, hzs, hbs, -⟩ := ok
  intro H locs ls hR hz hc hl
  obtain ⟨a, e1, e2⟩ := hK.2.2.2.2.2.2.2.1 _ hq
  have hg := g H locs ls hR hz hc hl
  have e3 : Z.2.2.2 k = some a := e1
  rw [show (zw_Zf (p, l, e, R, s, m, args, below, meth, c, Z, Q)).2.2.2 k = some a from e3] at hg
  exact va_ldcS hx hb hown e2 d hg
theorem zg_ldcSw {tx : String} {k idx : Nat} (ok : zw_ok X cc own nm nL) (hq : (own, idx, tx, k) ∈ zwSS) (d : decode cc pc = .ok (.ldc_w idx, 3)) (g : zw_G X kc ks nL h (pc + 3) L (va_rf ((zw_Zf X).2.2.2 k) :: S)) : zw_G X kc ks nL h pc L S := by
  obtain ⟨p, l, e, R, s, m, args, below, meth, c, Z, Q⟩ := X
  obtain ⟨hx, hb, hml, hown, hts, hK, hzs, hbs, -⟩ := ok
  intro H locs ls hR hz hc hl
  obtain ⟨a, e1, e2⟩ := hK.2.2.2.2.2.2.2.1 _ hq
  have hg := g H locs ls hR hz hc hl
  have e3 : Z.2.2.2 k = some a := e1
  rw [show (zw_Zf (p, l, e, R, s, m, args, below, meth, c, Z, Q)).2.2.2 k = some a from e3] at hg
  intro T hT X
  obtain ⟨t, a1, b1⟩ := hg T hT X
  exact ⟨t, X.ldcStringW hx hown (text := tx) (a := a) e2.1 e2.2 (g := F0 m pc ls S) rfl (by rw [hb]; exact d) t a1, b1⟩
theorem zg_ldc {v : Int32} {idx : Nat} (ok : zw_ok X cc own nm nL) (lk : Cond.constant own idx v ∈ lw_all) (d : decode cc pc = .ok (.ldc idx, 2)) (g : zw_G X kc ks nL h (pc + 2) L (.int v :: S)) : zw_G X kc ks nL h pc L S := by
  obtain ⟨p, l, e, R, s, m, args, below, meth, c, Z, Q⟩ := X
  obtain ⟨hx, hb, hml, hown, hts, hK, hzs, hbs, -⟩ := ok
  intro H locs ls hR hz hc hl
  exact lv_ldc hx hb hown (hts _ lk) d (g H locs ls hR hz hc hl)
theorem zg_ldcw {v : Int32} {idx : Nat} (ok : zw_ok X cc own nm nL) (lk : Cond.constant own idx v ∈ lw_all) (d : decode cc pc = .ok (.ldc_w idx, 3)) (g : zw_G X kc ks nL h (pc + 3) L (.int v :: S)) : zw_G X kc ks nL h pc L S := by
  obtain ⟨p, l, e, R, s, m, args, below, meth, c, Z, Q⟩ := X
  obtain ⟨hx, hb, hml, hown, hts, hK, hzs, hbs, -⟩ := ok
  intro H locs ls hR hz hc hl
  exact lv_ldcw hx hb hown (hts _ lk) d (g H locs ls hR hz hc hl)
theorem zg_ldc2 {v : Int64} {idx : Nat} (ok : zw_ok X cc own nm nL) (lk : Cond.constantLong own idx v ∈ lw_all) (d : decode cc pc = .ok (.ldc2_w idx, 3)) (g : zw_G X kc ks nL h (pc + 3) L (.long v :: S)) : zw_G X kc ks nL h pc L S := by
  obtain ⟨p, l, e, R, s, m, args, below, meth, c, Z, Q⟩ := X
  obtain ⟨hx, hb, hml, hown, hts, hK, hzs, hbs, -⟩ := ok
  intro H locs ls hR hz hc hl
  exact lv_ldc2 hx hb hown (hts _ lk) d (g H locs ls hR hz hc hl)
theorem zg_ldc2d {v : UInt64} {idx : Nat} (ok : zw_ok X cc own nm nL) (lk : Cond.constantDouble own idx v ∈ lw_all) (d : decode cc pc = .ok (.ldc2_w idx, 3)) (g : zw_G X kc ks nL h (pc + 3) L (.double v :: S)) : zw_G X kc ks nL h pc L S := by
  obtain ⟨p, l, e, R, s, m, args, below, meth, c, Z, Q⟩ := X
  obtain ⟨hx, hb, hml, hown, hts, hK, hzs, hbs, -⟩ := ok
  intro H locs ls hR hz hc hl
  exact lv_ldc2d hx hb hown (hts _ lk) d (g H locs ls hR hz hc hl)
theorem zg_ldcf {v : UInt32} {idx : Nat} (ok : zw_ok X cc own nm nL) (lk : Cond.constantFloat own idx v ∈ lw_all) (d : decode cc pc = .ok (.ldc idx, 2)) (g : zw_G X kc ks nL h (pc + 2) L (.float v :: S)) : zw_G X kc ks nL h pc L S := by
  obtain ⟨p, l, e, R, s, m, args, below, meth, c, Z, Q⟩ := X
  obtain ⟨hx, hb, hml, hown, hts, hK, hzs, hbs, -⟩ := ok
  intro H locs ls hR hz hc hl
  exact lv_ldcf hx hb hown (hts _ lk) d (g H locs ls hR hz hc hl)
end ZWA
