set_option maxRecDepth 100000
/-- System.arraycopy of bytes, of references -/
def ocp_B (h : zw_H) (r0 : Option Nat) (sp : Int32) (r1 : Option Nat) (dp n : Int32) (F : zw_H → Prop) : Prop := match r0, r1 with
  | some a0, some a1 => match h a0, h a1 with
    | some (.inl (t0, n0, .inl f)), some (.inl (t1, n1, .inl g)) => (t0 = 1 ∨ t0 = 10) ∧ t1 = 1 ∧ ¬ sp < 0 ∧ ¬ dp < 0 ∧ ¬ n < 0 ∧ sp.toNatClampNeg + n.toNatClampNeg ≤ n0 ∧ dp.toNatClampNeg + n.toNatClampNeg ≤ n1 ∧ n0 < 2 ^ 31 ∧ (∀ i, i < n.toNatClampNeg → fits .byte (.int (f (sp.toNatClampNeg + i))) = true) ∧ F (zw_up h a1 (.inl (1, n1, .inl (va_cpy f g sp.toNatClampNeg dp.toNatClampNeg n.toNatClampNeg))))
    | _, _ => False
  | _, _ => False
def ocp_O (h : zw_H) (cs : List Nat) (r0 : Option Nat) (sp : Int32) (r1 : Option Nat) (dp n : Int32) (F : zw_H → Prop) : Prop := match r0, r1 with
  | some a0, some a1 => match h a0, h a1 with
    | some (.inl (t0, n0, .inr (.inr (.inr (.inr f))))), some (.inl (t1, n1, .inr (.inr (.inr (.inr g))))) => t0 = 5 ∧ t1 = 5 ∧ ¬ sp < 0 ∧ ¬ dp < 0 ∧ ¬ n < 0 ∧ sp.toNatClampNeg + n.toNatClampNeg ≤ n0 ∧ dp.toNatClampNeg + n.toNatClampNeg ≤ n1 ∧ (∀ i, i < n.toNatClampNeg → os_ok h (f (sp.toNatClampNeg + i)) cs []) ∧ F (zw_up h a1 (.inl (5, n1, .inr (.inr (.inr (.inr (va_cpy f g sp.toNatClampNeg dp.toNatClampNeg n.toNatClampNeg)))))))
    | _, _ => False
  | _, _ => False
/-- the clone of a double[] -/
def ocl_D (h : zw_H) (r : Option Nat) (b : Nat) (F : Nat → zw_H → Prop) : Prop := match r with
  | some a => match h a with
    | some (.inl (t, n, .inr (.inr (.inr (.inl f))))) => t = 4 ∧ n ≤ b ∧ on_C h (.inl (4, n, .inr (.inr (.inr (.inl f))))) F
    | _ => False
  | none => False
/-- getClass() of an Object[] -/
def ogc_ (h : zw_H) (r : Option Nat) (P : Prop) : Prop := match r with
  | some a => match h a with
    | some (.inl x) => x.1 = 5 ∧ P
    | _ => False
  | none => False
section ZWM
variable {X : zw_X} {cc : ByteArray} {own nm : String} {nL kc ks pc idx : Nat} {h : zw_H} {L : List (Nat × Value)} {S : List Value} {R0 : Room}
theorem zg_d2l {b : UInt64} (ok : zw_ok X cc own nm nL) (hRm : zw_rm X = R0) (lk : Cond.methodLink own idx ⟨"java/lang/Double", "doubleToRawLongBits", "(D)J"⟩ ∈ lw_all) (hf : 1 ≤ R0.frames ∧ 23 ≤ R0.locals) (hw : S.length ≤ 4) (d : decode cc pc = .ok (.invokestatic idx, 3)) (g : zw_G X kc ks nL h (pc + 3) L (.long b.toInt64 :: S)) : zw_G X kc ks nL h pc L (.double b :: S) := by
  subst hRm
  obtain ⟨p, l, e, R, s, m, args, below, meth, c, Z, Q⟩ := X
  obtain ⟨hx, hb, hml, hown, hts, hK, hzs, hbs, -⟩ := ok
  intro H locs ls hR hz hc hl
  have h8 := zw_w8 hw
  have h9 : 23 ≤ R.locals := hf.2
  exact vn_d2l hx hb (by rw [hml]; exact hl.1.symm) hown (hts _ lk) (hts _ q1821) (hts _ q1820) (hts _ q150) hf.1 (by omega) d (g H locs ls hR hz hc hl)
theorem zg_f2i {b : UInt32} (ok : zw_ok X cc own nm nL) (hRm : zw_rm X = R0) (lk : Cond.methodLink own idx ⟨"java/lang/Float", "floatToRawIntBits", "(F)I"⟩ ∈ lw_all) (hf : 1 ≤ R0.frames ∧ 23 ≤ R0.locals) (hw : S.length ≤ 4) (d : decode cc pc = .ok (.invokestatic idx, 3)) (g : zw_G X kc ks nL h (pc + 3) L (.int b.toInt32 :: S)) : zw_G X kc ks nL h pc L (.float b :: S) := by
  subst hRm
  obtain ⟨p, l, e, R, s, m, args, below, meth, c, Z, Q⟩ := X
  obtain ⟨hx, hb, hml, hown, hts, hK, hzs, hbs, -⟩ := ok
  intro H locs ls hR hz hc hl
  have h8 := zw_w8 hw
  have h9 : 23 ≤ R.locals := hf.2
  exact vn_f2i hx hb (by rw [hml]; exact hl.1.symm) hown (hts _ lk) (hts _ q2118) (hts _ q2117) (hts _ q151) hf.1 (by omega) d (g H locs ls hR hz hc hl)
theorem zg_cpB {r0 r1 : Option Nat} {sp dp n : Int32} {F : zw_H → Prop} (ok : zw_ok X cc own nm nL) (hRm : zw_rm X = R0) (lk : Cond.methodLink own idx arraycopyName ∈ lw_all) (hf : 1 ≤ R0.frames ∧ 8 + (nativeFrameWords "java/lang/System" "arraycopy" 5 + 11) ≤ R0.locals) (hw : S.length ≤ 4) (d : decode cc pc = .ok (.invokestatic idx, 3)) (hE : ocp_B h r0 sp r1 dp n F) (g : ∀ h', F h' → zw_G X kc ks nL h' (pc + 3) L S) : zw_G X kc ks nL h pc L (.int n :: .int dp :: va_rf r1 :: .int sp :: va_rf r0 :: S) := by
  subst hRm
  obtain ⟨p, l, e, R, s, m, args, below, meth, c, Z, Q⟩ := X
  obtain ⟨hx, hb, hml, hown, hts, hK, hzs, hbs, -⟩ := ok
  unfold ocp_B at hE
  cases r0 with
  | none => exact hE.elim
  | some a0 =>
    cases r1 with
    | none => exact hE.elim
    | some a1 =>
      dsimp only at hE
      cases ha0 : h a0 with
      | none => rw [ha0] at hE; exact hE.elim
      | some x0 =>
        cases ha1 : h a1 with
        | none => rw [ha0, ha1] at hE; rcases x0 with ⟨t0, n0, f | f | f | f | f⟩ | x0 <;> exact hE.elim
        | some x1 =>
          rw [ha0, ha1] at hE
          rcases x0 with ⟨t0, n0, f | f | f | f | f⟩ | x0 <;> first | exact hE.elim | skip
          rcases x1 with ⟨t1, n1, f1 | f1 | f1 | f1 | f1⟩ | x1 <;> first | exact hE.elim | skip
          obtain ⟨e0, e1, c1, c2, c3, c4, c5, c6, c7, hF⟩ := hE
          subst e1
          intro H locs ls hR hz hc hl
          have hg := g _ hF
          have h8 := zw_w8 hw
          have h9 : 8 + (nativeFrameWords "java/lang/System" "arraycopy" 5 + 11) ≤ R.locals := hf.2
          obtain ⟨q1, hq1⟩ := zr_at hR ha1 rfl
          have hS := zr_S hR hbs hz hc
          have kk : ∀ (H1 : Heap) (locs1 : List Loc), va_P Z.1 zwCl ((zr_en Z h H.size).set q1 (a1, .inl (Z.2.1 1, n1, .inl (va_cpy f f1 sp.toNatClampNeg dp.toNatClampNeg n.toNatClampNeg)))) H1 → va_D (zw_A Z) ((zr_en Z h H.size).set q1 (a1, .inl (Z.2.1 1, n1, .inl (va_cpy f f1 sp.toNatClampNeg dp.toNatClampNeg n.toNatClampNeg)))) → va_S (zw_A Z) s.heap H1 locs1 → W p l e R s m args below meth c H1 locs1 kc ks Q (F0 m (pc + 3) ls S) := by
            intro H1 locs1 hP1 hD1 hS1
            obtain ⟨b1, b2⟩ := zr_base hS1 hzs hbs
            exact hg H1 locs1 ls (zr_set hR (x1 := .inl (1, n1, .inl (va_cpy f f1 sp.toNatClampNeg dp.toNatClampNeg n.toNatClampNeg))) ha1 hq1 rfl b1 b2 hP1) hS1.1 hS1.2.2 hl
          rcases e0 with rfl | rfl
          · obtain ⟨q0, hq0⟩ := zr_at hR ha0 rfl
            exact va_copyi hx hb (by rw [hml]; exact hl.1.symm) hown (hts _ lk) (hts _ q561) (hts _ q560) (hts _ q125) hK.1 (zr_en_P hR H.size) (zr_en_D (N := H.size)) hS q0 q1 1 1 hq0 hq1 rfl rfl rfl c1 c2 c3 c4 c5 c7 hf.1 (by omega) d kk
          · have hlt : a0 < Z.2.2.1.size := by
              have := (hR.2.2 a0 _ ha0).2
              have h7 : ¬ Z.2.2.1.size ≤ a0 := fun z => by have h6 := this.mpr z; simp [zw_ro] at h6
              omega
            have hat := (hR.2.2 a0 _ ha0).1
            have hat : H[a0]? = some (vp_cell (Z.2.1 10) (n0, .inl f)) := hat
            have hcell : s.heap[a0]? = some (vp_cell (Z.2.1 10) (n0, .inl f)) := by rw [hbs a0 hlt, ← hR.2.1 a0 hlt]; exact hat
            have hX : va_T .byte a0 n0 (fun j => .int (f j)) (zw_A Z) s s.heap := by
              refine ⟨_, hcell, (hK.1.2 10 _ rfl).1 n0 (fun j => .int (f j)), (fun q => by cases q), ?_, ?_, ?_, fun z => absurd (show Z.2.2.1.size ≤ a0 from z) (by omega)⟩
              · show n0 ≤ (arrV _ _ _).slots.size
                rw [arrV_size]; exact Nat.le_refl _
              · show (arrV _ _ _).slots.size.toInt32 = _
                rw [arrV_size]
              · intro j hj
                show (arrV _ _ _).slots[j]? = _
                rw [arrV_read _ _ hj]
            exact vk_copyt hx hb (by rw [hml]; exact hl.1.symm) hown (hts _ lk) (hts _ q561) (hts _ q560) (hts _ q125) hK.1 (zr_en_P hR H.size) (zr_en_D (N := H.size)) hS hX q1 1 hq1 rfl c1 c2 c3 c4 c5 c7 hf.1 (by omega) d kk
theorem zg_cpO {r0 r1 : Option Nat} {sp dp n : Int32} {cs : List Nat} {F : zw_H → Prop} (ok : zw_ok X cc own nm nL) (hRm : zw_rm X = R0) (lk : Cond.methodLink own idx arraycopyName ∈ lw_all) (hfi : zw_fits cs "java/lang/Object") (hf : 1 ≤ R0.frames ∧ 8 + (nativeFrameWords "java/lang/System" "arraycopy" 5 + 11) ≤ R0.locals) (hw : S.length ≤ 4) (d : decode cc pc = .ok (.invokestatic idx, 3)) (hE : ocp_O h cs r0 sp r1 dp n F) (g : ∀ h', F h' → zw_G X kc ks nL h' (pc + 3) L S) : zw_G X kc ks nL h pc L (.int n :: .int dp :: va_rf r1 :: .int sp :: va_rf r0 :: S) := by
  subst hRm
  obtain ⟨p, l, e, R, s, m, args, below, meth, c, Z, Q⟩ := X
  obtain ⟨hx, hb, hml, hown, hts, hK, hzs, hbs, -⟩ := ok
  unfold ocp_O at hE
  cases r0 with
  | none => exact hE.elim
  | some a0 =>
    cases r1 with
    | none => exact hE.elim
    | some a1 =>
      dsimp only at hE
      cases ha0 : h a0 with
      | none => rw [ha0] at hE; exact hE.elim
      | some x0 =>
        cases ha1 : h a1 with
        | none => rw [ha0, ha1] at hE; rcases x0 with ⟨t0, n0, f | f | f | f | f⟩ | x0 <;> exact hE.elim
        | some x1 =>
          rw [ha0, ha1] at hE
          rcases x0 with ⟨t0, n0, f | f | f | f | f⟩ | x0 <;> first | exact hE.elim | skip
          rcases x1 with ⟨t1, n1, f1 | f1 | f1 | f1 | f1⟩ | x1 <;> first | exact hE.elim | skip
          obtain ⟨e0, e1, c1, c2, c3, c4, c5, c7, hF⟩ := hE
          subst e0
          subst e1
          intro H locs ls hR hz hc hl
          have hg := g _ hF
          have h8 := zw_w8 hw
          have h9 : 8 + (nativeFrameWords "java/lang/System" "arraycopy" 5 + 11) ≤ R.locals := hf.2
          obtain ⟨q1, hq1⟩ := zr_at hR ha1 rfl
          obtain ⟨q0, hq0⟩ := zr_at hR ha0 rfl
          have hS := zr_S hR hbs hz hc
          refine va_copyM (E0 := "java/lang/Object") (E1 := "java/lang/Object") hx hb (by rw [hml]; exact hl.1.symm) hown (hts _ lk) (hts _ q561) (hts _ q560) (hts _ q125) hK.1 (zr_en_P hR H.size) (zr_en_D (N := H.size)) hS q0 q1 5 5 hq0 hq1 rfl rfl c1 c2 c3 c4 c5 (fun i hi y hy => ?_) hf.1 (by omega) d (fun H1 locs1 hP1 hD1 hS1 => ?_)
          · have h7 := c7 i hi
            rw [hy] at h7
            unfold os_ok at h7
            dsimp only at h7
            cases hb9 : h y with
            | none => rw [hb9] at h7; exact h7.elim
            | some z =>
              rw [hb9] at h7
              rcases z with z | o
              · exact absurd h7 List.not_mem_nil
              · exact zw_any hK hR hb9 h7 hfi
          · obtain ⟨b1, b2⟩ := zr_base hS1 hzs hbs
            exact hg H1 locs1 ls (zr_set hR (x1 := .inl (5, n1, .inr (.inr (.inr (.inr (va_cpy f f1 sp.toNatClampNeg dp.toNatClampNeg n.toNatClampNeg)))))) ha1 hq1 rfl b1 b2 hP1) hS1.1 hS1.2.2 hl
theorem zg_cloneD {r : Option Nat} {b : Nat} {F : Nat → zw_H → Prop} (ok : zw_ok X cc own nm nL) (hRm : zw_rm X = R0) (lk : Cond.methodLink own idx ⟨"[D", "clone", "()Ljava/lang/Object;"⟩ ∈ lw_all) (hf : (1 ≤ R0.frames ∧ 22 ≤ R0.locals) ∧ kc + 1 ≤ R0.cells ∧ ks + b ≤ R0.slots) (hw : S.length ≤ 4) (d : decode cc pc = .ok (.invokevirtual idx, 3)) (hE : ocl_D h r b F) (g : ∀ a h', F a h' → zw_G X (kc + 1) (ks + b) nL h' (pc + 3) L (va_rf (some a) :: S)) : zw_G X kc ks nL h pc L (va_rf r :: S) := by
  subst hRm
  obtain ⟨p, l, e, R, s, m, args, below, meth, c, Z, Q⟩ := X
  obtain ⟨hx, hb, hml, hown, hts, hK, hzs, hbs, -⟩ := ok
  unfold ocl_D at hE
  cases r with
  | none => exact hE.elim
  | some a =>
    dsimp only at hE
    cases ha : h a with
    | none => rw [ha] at hE; exact hE.elim
    | some x =>
      rw [ha] at hE
      rcases x with ⟨t, n, f | f | f | f | f⟩ | x <;> first | exact hE.elim | skip
      obtain ⟨e1, hnb, hE⟩ := hE
      subst e1
      intro H locs ls hR hz hc hl
      obtain ⟨q0, hq0⟩ := zr_at hR ha rfl
      have h8 := zw_w8 hw
      have h9 : 22 ≤ R.locals := hf.1.2
      have hR2 : ks + n ≤ R.slots := Nat.le_trans (Nat.add_le_add_left hnb ks) hf.2.2
      refine va_clone (ad := "[D") (ty := .double) hx hb (by rw [hml]; exact hl.1.symm) hown (hts _ lk) (hts _ q1894) (hts _ q551) (hts _ q552) (hts _ q1895) (hK.2.1 _ q1896 rfl) hK.1 (zr_en_P hR H.size) (zr_en_D (N := H.size)) (zr_S hR hbs hz hc) (zr_AA hzs) q0 4 hq0 rfl (hK.1.2 4 _ rfl).2 (fun i v hv => ?_) hf.1.1 (by omega) hf.2.1 hR2 d (fun q H1 hK1 hP1 hD1 hS1 => ?_)
      · have hlt := (Array.getElem?_eq_some_iff.mp hv).1
        have hv9 : (arrV (Z.2.1 4) n (fun j => Value.double (f j))).slots[i]? = some v := hv
        have hlt9 : i < n := by
          have h1 : i < (arrV (Z.2.1 4) n (fun j => Value.double (f j))).slots.size := hlt
          rw [arrV_size] at h1; exact h1
        rw [arrV_read _ _ hlt9] at hv9
        cases hv9
        rfl
      · obtain ⟨b1, b2⟩ := zr_base hS1 hzs hbs
        obtain ⟨c1, c2⟩ := zr_push hR (a := q) (x := .inl (4, n, .inr (.inr (.inr (.inl f))))) rfl b1 b2 hP1 hD1
        exact W.widen (Nat.le_refl _) (Nat.add_le_add_left hnb ks) (g q _ (hE q c1) H1 locs ls c2 hS1.1 hS1.2.2 hl)
theorem zg_newBB {n : Int32} {b : Nat} {F : Nat → zw_H → Prop} (ok : zw_ok X cc own nm nL) (lk : Cond.classLink own idx "[LMultipoleLine$Box;" ∈ lw_all) (hR9 : kc + 1 ≤ (zw_rm X).cells ∧ ks + b ≤ (zw_rm X).slots) (hb9 : b ≤ 65536) (d : decode cc pc = .ok (.anewarray idx, 3)) (hE : on_A h 7 n b F) (g : ∀ a h', F a h' → zw_G X (kc + 1) (ks + b) nL h' (pc + 3) L (va_rf (some a) :: S)) : zw_G X kc ks nL h pc L (.int n :: S) := by
  obtain ⟨p, l, e, R, s, m, args, below, meth, c, Z, Q⟩ := X
  obtain ⟨hx, hb, hml, hown, hts, hK, hzs, hbs, -⟩ := ok
  obtain ⟨hn, hn2, hE⟩ := hE
  intro H locs ls hR hz hc hl
  have hR2 : ks + n.toNatClampNeg ≤ R.slots := Nat.le_trans (Nat.add_le_add_left hn2 ks) hR9.2
  refine W.anewA (t := .object "MultipoleLine$Box") hx hb hown (hts _ lk) hK.2.2.2.2.1 rfl d rfl hn (by show n.toNatClampNeg * 4 ≤ 536870912; omega) hR9.1 hR2 fun cA kA comp f1 f2 f3 f4 => ?_
  generalize hH1 : H.push ({ cls := cA, slots := Array.replicate n.toNatClampNeg .null, vm := .none } : Cell) = H1
  have z1 : H1.size = H.size + 1 := by rw [← hH1, Array.size_push]
  have e1 : H1[H.size]? = some (arrV cA n.toNatClampNeg (fun _ => .null)) := by rw [← hH1, Array.getElem?_push_size, ← arrV_new]
  have o1 : ∀ q : Nat, q < H.size → H1[q]? = H[q]? := fun q hq => by rw [← hH1, Array.getElem?_push, if_neg (Nat.ne_of_lt hq)]
  have hcA : cA = Z.2.1 7 := Option.some.inj (f1.symm.trans (hK.1.2 7 _ rfl).2)
  subst hcA
  have hP1 : va_P Z.1 zwCl (zr_en Z h H.size ++ [(H.size, zw_va Z (.inl (7, n.toNatClampNeg, .inr (.inr (.inr (.inr (fun _ => none)))))))]) H1 := by
    refine ((zr_en_P hR H.size).kept (fun k x hx => o1 x.1 ((zr_en_P hR H.size k x hx).lt))).app (fun k x hx => ?_)
    have hz9 : k < 1 := (List.getElem?_eq_some_iff.mp hx).1
    rw [show k = 0 by omega] at hx
    cases hx
    show H1[H.size]? = some (vp_cell _ _)
    rw [vp_cell_q]
    exact e1
  have hD1 : va_D (zw_A Z) (zr_en Z h H.size ++ [(H.size, zw_va Z (.inl (7, n.toNatClampNeg, .inr (.inr (.inr (.inr (fun _ => none)))))))]) := (zr_en_D (N := H.size)).push (zr_en_P hR H.size) rfl (zr_AA hzs _ hz)
  obtain ⟨c1, c2⟩ := zr_push hR (a := H.size) (x := .inl (7, n.toNatClampNeg, .inr (.inr (.inr (.inr (fun _ => none)))))) rfl (by rw [z1]; exact Nat.le_trans hR.1 (Nat.le_succ _)) (fun q hq => (o1 q (Nat.lt_of_lt_of_le hq hR.1)).trans (hR.2.1 q hq)) hP1 hD1
  exact W.widen (Nat.le_refl _) (Nat.add_le_add_left hn2 ks) (g H.size _ (hE H.size c1) H1 locs ls c2 (by rw [z1]; exact Nat.le_trans hz (Nat.le_succ _)) hc hl)
def os_ABB (h : zw_H) (r : Option Nat) (i : Int32) (v : Option Nat) (F : zw_H → Prop) : Prop := v ≠ none ∧ os_A h r 7 [] [6] i v F
theorem zg_aastBB {r v : Option Nat} {i : Int32} {F : zw_H → Prop} (ok : zw_ok X cc own nm nL) (d : decode cc pc = .ok (.aastore, 1)) (hE : os_ABB h r i v F) (g : ∀ h', F h' → zw_G X kc ks nL h' (pc + 1) L S) : zw_G X kc ks nL h pc L (va_rf v :: .int i :: va_rf r :: S) := by
  obtain ⟨p, l, e, R, s, m, args, below, meth, c, Z, Q⟩ := X
  obtain ⟨hx, hb, hml, hown, hts, hK, hzs, hbs, -⟩ := ok
  obtain ⟨hv0, hE⟩ := hE
  unfold os_A at hE
  cases r with
  | none => exact hE.elim
  | some a =>
    dsimp only at hE
    cases ha : h a with
    | none => rw [ha] at hE; exact hE.elim
    | some x9 =>
      rw [ha] at hE
      rcases x9 with ⟨t, n, f | f | f | f | f⟩ | x9 <;> first | exact hE.elim | skip
      obtain ⟨ht, hin, hv, hF⟩ := hE
      subst ht
      cases v with
      | none => exact absurd rfl hv0
      | some b =>
        unfold os_ok at hv
        dsimp only at hv
        cases hb9 : h b with
        | none => rw [hb9] at hv; exact hv.elim
        | some y =>
          rw [hb9] at hv
          rcases y with ⟨ty9, y⟩ | o
          · have e6 : ty9 = 6 := by simpa using hv
            subst e6
            intro H locs ls hR hz hc hl
            have hg := g _ hF
            have hlt : i.toNatClampNeg < n := Nat.not_le.mp fun q => hin (Or.inr q)
            have h0 : ¬ i < 0 := fun q => hin (Or.inl q)
            obtain ⟨q0, hq0⟩ := zr_at hR ha rfl
            have hS := zr_S hR hbs hz hc
            obtain ⟨hA1, kA, hkA, comp, hkd⟩ := (hK.1.2 7 _ rfl).1 n (fun j => va_rf (f j))
            obtain ⟨hB1, kB, hkB, compB, hkdB⟩ := (hK.1.2 6 _ rfl).1 0 (fun _ => .null)
            obtain ⟨kB6, compB6, g1, g2, g3, g4⟩ := (hK.1.2 6 _ rfl).2
            obtain ⟨compO, cO, kO, o1, o2, o3, o4, o5⟩ := arrayOverA_spec hK.2.2.2.2.1
            have hkA : s.vm.classes[Z.2.1 7]? = some kA := hkA
            have hkB : s.vm.classes[Z.2.1 6]? = some kB := hkB
            have e7 : cO = Z.2.1 7 := Option.some.inj (o5.symm.trans (hK.1.2 7 _ rfl).2)
            subst e7
            have e8 : kO = kA := Option.some.inj (o3.symm.trans hkA)
            subst e8
            have e9 : comp = compO := by
              rw [hkd] at o4
              injection o4
            subst e9
            have e10 : comp = Z.2.1 6 := Option.some.inj (o1.symm.trans g4)
            subst e10
            have hat := zr_one hR hb9 0 _ rfl
            have hatA := zr_one hR ha 0 _ rfl
            have hasg : s.vm.assignable (Z.2.1 6) (Z.2.1 6) = true := by
              show ((Z.2.1 6 == Z.2.1 6) || _) = true
              rw [beq_self_eq_true]
              rfl
            have hvc : H[b]? = some (vp_cell (Z.2.1 6) y) := hat
            have hac : H[a]? = some (vp_cell (Z.2.1 7) (n, .inr (.inr (.inr (.inr f))))) := hatA
            have hcls : (vp_cell (Z.2.1 6) y).cls = Z.2.1 6 := by obtain ⟨n9, f9 | f9 | f9 | f9 | f9⟩ := y <;> rfl
            have hvm9 : (vp_cell (Z.2.1 6) y).vm = .none := by obtain ⟨n9, f9 | f9 | f9 | f9 | f9⟩ := y <;> rfl
            refine W.aast (t := .array (.object "MultipoleLine$Box")) (comp := Z.2.1 6) hx hb hac (fun q => by intro z; cases z) (fun z => by cases z) hkA hkd rfl hkB ⟨h0, by show _ < (arrV _ _ _).slots.size; rw [arrV_size]; exact hlt⟩ hvc (fun q => by rw [hvm9]; intro z; cases z) (by rw [hcls]; exact hkB) (by rw [hcls]; exact hasg) rfl rfl d fun H1 e z oq => ?_
            have hD := zr_en_D (Z := Z) (h := h) (N := H.size)
            have hP1 : va_P Z.1 zwCl ((zr_en Z h H.size).set q0 (a, zw_va Z (.inl (7, n, .inr (.inr (.inr (.inr (va_up f i.toNatClampNeg (some b))))))))) H1 := by
              refine (zr_en_P hR H.size).set hD hq0 ?_ oq
              show H1[a]? = some (vp_cell _ _)
              rw [e]
              rw [vp_cell_q, vp_cell_q, arrV_store]
              congr 2
              funext q
              by_cases hq : q = i.toNatClampNeg
              · subst hq
                simp [updV, va_up, va_rf]
              · simp [updV, va_up, hq]
            refine hg H1 _ ls (zr_set hR (x1 := .inl (7, n, .inr (.inr (.inr (.inr (va_up f i.toNatClampNeg (some b))))))) ha hq0 rfl (by rw [z]; exact hR.1) (fun q hq => ?_) hP1) (by rw [z]; exact hz) (fun w hw => ?_) hl
            · have hab : zw_A Z a := (hR.2.2 a _ ha).2.mp rfl
              have hne : q ≠ a := by
                intro w
                subst w
                exact absurd (show Z.2.2.1.size ≤ q from hab) (by omega)
              rw [oq q hne]; exact hR.2.1 q hq
            · rcases List.mem_append.mp hw with h1 | h1
              · exact hc w h1
              · rw [List.mem_singleton.mp h1]
                exact (hR.2.2 a _ ha).2.mp rfl
          · exact absurd hv List.not_mem_nil
theorem zg_ldcM (ok : zw_ok X cc own nm nL) (lk : Cond.classLink own idx "[Ljava/lang/Object;" ∈ lw_all) (d : decode cc pc = .ok (.ldc idx, 2)) (g : zw_G X kc ks nL h (pc + 2) L (va_rf ((zw_Zf X).2.2.2 7) :: S)) : zw_G X kc ks nL h pc L S := by
  obtain ⟨p, l, e, R, s, m, args, below, meth, c, Z, Q⟩ := X
  obtain ⟨hx, hb, hml, hown, hts, hK, hzs, hbs, -⟩ := ok
  intro H locs ls hR hz hc hl
  obtain ⟨mi, e1, e2⟩ := hK.2.2.2.2.2.2.2.2.2.2.2.2
  have hg := g H locs ls hR hz hc hl
  rw [show (zw_Zf (p, l, e, R, s, m, args, below, meth, c, Z, Q)).2.2.2 7 = some mi from e1] at hg
  exact va_ldcM hx hb hown (hts _ lk) e2 d hg
theorem zg_getC {r : Option Nat} {P : Prop} (ok : zw_ok X cc own nm nL) (hRm : zw_rm X = R0) (lk : Cond.methodLink own idx ⟨"java/lang/Object", "getClass", "()Ljava/lang/Class;"⟩ ∈ lw_all) (hf : 1 ≤ R0.frames ∧ 23 ≤ R0.locals) (hw : S.length ≤ 4) (d : decode cc pc = .ok (.invokevirtual idx, 3)) (hE : ogc_ h r P) (g : P → zw_G X kc ks nL h (pc + 3) L (va_rf ((zw_Zf X).2.2.2 7) :: S)) : zw_G X kc ks nL h pc L (va_rf r :: S) := by
  subst hRm
  obtain ⟨p, l, e, R, s, m, args, below, meth, c, Z, Q⟩ := X
  obtain ⟨hx, hb, hml, hown, hts, hK, hzs, hbs, -⟩ := ok
  unfold ogc_ at hE
  cases r with
  | none => exact hE.elim
  | some a =>
    dsimp only at hE
    cases ha : h a with
    | none => rw [ha] at hE; exact hE.elim
    | some x =>
      rw [ha] at hE
      rcases x with ⟨t, x⟩ | x
      · obtain ⟨e5, hP⟩ := hE
        have e5 : t = 5 := e5
        subst e5
        intro H locs ls hR hz hc hl
        obtain ⟨mi, e1, e2⟩ := hK.2.2.2.2.2.2.2.2.2.2.2.2
        have hg := g hP H locs ls hR hz hc hl
        rw [show (zw_Zf (p, l, e, R, s, m, args, below, meth, c, Z, Q)).2.2.2 7 = some mi from e1] at hg
        obtain ⟨_, _, _, _, _, e9⟩ := (hK.1.2 5 _ rfl).2
        have h8 := zw_w8 hw
        have h9 : 23 ≤ R.locals := hf.2
        have hat := zr_one hR ha 0 _ rfl
        have hat : H[a]? = some (vp_cell (Z.2.1 5) x) := hat
        have hvm9 : (vp_cell (Z.2.1 5) x).vm = .none := by obtain ⟨n9, f9 | f9 | f9 | f9 | f9⟩ := x <;> rfl
        have hcl9 : (vp_cell (Z.2.1 5) x).cls = Z.2.1 5 := by obtain ⟨n9, f9 | f9 | f9 | f9 | f9⟩ := x <;> rfl
        exact va_getC (C := "[Ljava/lang/Object;") hx hb (by rw [hml]; exact hl.1.symm) hown (hts _ lk) (va_Nw.use rfl (hK.2.1 _ q3140 rfl)) (hts _ q3139) (hts _ q1030) (hts _ q1058) e2 ⟨_, hat, by rw [hvm9]; rfl, by rw [hcl9]; exact e9⟩ hf.1 (by omega) d hg
      · exact hE.elim
end ZWM
