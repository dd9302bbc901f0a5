set_option maxRecDepth 100000
section ZWL
variable {X : zw_X} {cc : ByteArray} {own nm : String} {nL kc ks pc : Nat} {h : zw_H} {L : List (Nat × Value)} {S : List Value}
theorem zg_letI {x : Int32} {F : Int32 → Prop} (hE : olet x F) (g : ∀ v, F v → zw_G X kc ks nL h pc L (.int v :: S)) : zw_G X kc ks nL h pc L (.int x :: S) := g x (hE x rfl)
theorem zg_letJ {x : Int64} {F : Int64 → Prop} (hE : olet x F) (g : ∀ v, F v → zw_G X kc ks nL h pc L (.long v :: S)) : zw_G X kc ks nL h pc L (.long x :: S) := g x (hE x rfl)
theorem zg_letF {x : UInt32} {F : UInt32 → Prop} (hE : olet x F) (g : ∀ v, F v → zw_G X kc ks nL h pc L (.float v :: S)) : zw_G X kc ks nL h pc L (.float x :: S) := g x (hE x rfl)
theorem zg_letD {x : UInt64} {F : UInt64 → Prop} (hE : olet x F) (g : ∀ v, F v → zw_G X kc ks nL h pc L (.double v :: S)) : zw_G X kc ks nL h pc L (.double x :: S) := g x (hE x rfl)
theorem zg_letA {x : Option Nat} {F : Option Nat → Prop} (hE : olet x F) (g : ∀ v, F v → zw_G X kc ks nL h pc L (va_rf v :: S)) : zw_G X kc ks nL h pc L (va_rf x :: S) := g x (hE x rfl)
theorem zg_iincL {i k : Nat} {n : Int} {x c : Int32} {F : Int32 → Prop} {L' : Int32 → List (Nat × Value)} (ok : zw_ok X cc own nm nL) (d : decode cc pc = .ok (.iinc i n, 3)) (hc : Int32.ofInt n = c) (hE : olet (x + c) F) (hk : L[k]? = some (i, .int x)) (hn : i < nL) (hL : ∀ v, L' v = (i, .int v) :: L.filter (fun q => !(q.1 == i) && !(q.1 + 1 == i && q.2.category == 2))) (g : ∀ v, F v → zw_G X kc ks nL h (pc + 3) (L' v) S) : zw_G X kc ks nL h pc L S :=
  zg_iinc ok d hk (by rw [hc]) hn (hL (x + c)) (g _ (hE _ rfl))
theorem zg_iincLR {i r9 k k9 : Nat} {n : Int} {r : Option Nat} {x c : Int32} {F : Int32 → Prop} {L' : Int32 → List (Nat × Value)} (ok : zw_ok X cc own nm nL) (d : decode cc pc = .ok (.iinc i n, 3)) (hc : Int32.ofInt n = c) (hE : olet (x + c) F) (hk : L[k]? = some (i, .int x)) (hn : i < nL) (hi9 : r9 + 1 = i) (hk9 : L[k9]? = some (r9, va_rf r)) (hL : ∀ v, L' v = (i, .int v) :: L.filter (fun q => !(q.1 == i))) (g : ∀ v, F v → zw_G X kc ks nL h (pc + 3) (L' v) S) : zw_G X kc ks nL h pc L S :=
  zg_iincR ok d hk (by rw [hc]) hn hi9 hk9 (hL (x + c)) (g _ (hE _ rfl))
/-- a division by what isn't zero -/
theorem zg_idivE {x y : Int32} {P : Prop} (ok : zw_ok X cc own nm nL) (d : decode cc pc = .ok (.idiv, 1)) (hE : y ≠ 0 ∧ P) (g : P → zw_G X kc ks nL h (pc + 1) L (.int (x / y) :: S)) : zw_G X kc ks nL h pc L (.int y :: .int x :: S) := zg_idiv ok d hE.1 (g hE.2)
theorem zg_iremE {x y : Int32} {P : Prop} (ok : zw_ok X cc own nm nL) (d : decode cc pc = .ok (.irem, 1)) (hE : y ≠ 0 ∧ P) (g : P → zw_G X kc ks nL h (pc + 1) L (.int (x - x / y * y) :: S)) : zw_G X kc ks nL h pc L (.int y :: .int x :: S) := zg_irem ok d hE.1 (g hE.2)
theorem zg_ldivE {x y : Int64} {P : Prop} (ok : zw_ok X cc own nm nL) (d : decode cc pc = .ok (.ldiv, 1)) (hE : y ≠ 0 ∧ P) (g : P → zw_G X kc ks nL h (pc + 1) L (.long (x / y) :: S)) : zw_G X kc ks nL h pc L (.long y :: .long x :: S) := zg_ldiv ok d hE.1 (g hE.2)
theorem zg_daddE {x y : UInt64} {P : Prop} (ok : zw_ok X cc own nm nL) (d : decode cc pc = .ok (.dadd, 1)) (hE : vf_n64 (FP.dadd x y) ∧ P) (g : P → zw_G X kc ks nL h (pc + 1) L (.double (FP.dadd x y) :: S)) : zw_G X kc ks nL h pc L (.double y :: .double x :: S) := zg_dadd ok d hE.1 (g hE.2)
theorem zg_dsubE {x y : UInt64} {P : Prop} (ok : zw_ok X cc own nm nL) (d : decode cc pc = .ok (.dsub, 1)) (hE : vf_n64 (FP.dsub x y) ∧ P) (g : P → zw_G X kc ks nL h (pc + 1) L (.double (FP.dsub x y) :: S)) : zw_G X kc ks nL h pc L (.double y :: .double x :: S) := zg_dsub ok d hE.1 (g hE.2)
theorem zg_dmulE {x y : UInt64} {P : Prop} (ok : zw_ok X cc own nm nL) (d : decode cc pc = .ok (.dmul, 1)) (hE : vf_n64 (FP.dmul x y) ∧ P) (g : P → zw_G X kc ks nL h (pc + 1) L (.double (FP.dmul x y) :: S)) : zw_G X kc ks nL h pc L (.double y :: .double x :: S) := zg_dmul ok d hE.1 (g hE.2)
theorem zg_ddivE {x y : UInt64} {P : Prop} (ok : zw_ok X cc own nm nL) (d : decode cc pc = .ok (.ddiv, 1)) (hE : vf_n64 (FP.ddiv x y) ∧ P) (g : P → zw_G X kc ks nL h (pc + 1) L (.double (FP.ddiv x y) :: S)) : zw_G X kc ks nL h pc L (.double y :: .double x :: S) := zg_ddiv ok d hE.1 (g hE.2)
theorem zg_fdivE {x y : UInt32} {P : Prop} (ok : zw_ok X cc own nm nL) (d : decode cc pc = .ok (.fdiv, 1)) (hE : vf_n32 (FP.fdiv x y) ∧ P) (g : P → zw_G X kc ks nL h (pc + 1) L (.float (FP.fdiv x y) :: S)) : zw_G X kc ks nL h pc L (.float y :: .float x :: S) := zg_fdiv ok d hE.1 (g hE.2)
theorem zg_f2dE {x : UInt32} {P : Prop} (ok : zw_ok X cc own nm nL) (d : decode cc pc = .ok (.f2d, 1)) (hE : vf_n64 (FP.f2d x) ∧ P) (g : P → zw_G X kc ks nL h (pc + 1) L (.double (FP.f2d x) :: S)) : zw_G X kc ks nL h pc L (.float x :: S) := zg_f2d ok d hE.1 (g hE.2)
theorem zg_dconst0 (ok : zw_ok X cc own nm nL) (d : decode cc pc = .ok (.dconst 0, 1)) (g : zw_G X kc ks nL h (pc + 1) L (.double FP.dconst0 :: S)) : zw_G X kc ks nL h pc L S := by
  obtain ⟨p, l, e, R, s, m, args, below, meth, c, Z, Q⟩ := X
  obtain ⟨hx, hb, -⟩ := ok
  intro H locs ls hR hz hc hl
  exact lv_dconst0 hx hb d (g H locs ls hR hz hc hl)
theorem zg_dconst1 (ok : zw_ok X cc own nm nL) (d : decode cc pc = .ok (.dconst 1, 1)) (g : zw_G X kc ks nL h (pc + 1) L (.double FP.dconst1 :: S)) : zw_G X kc ks nL h pc L S := by
  obtain ⟨p, l, e, R, s, m, args, below, meth, c, Z, Q⟩ := X
  obtain ⟨hx, hb, -⟩ := ok
  intro H locs ls hR hz hc hl
  exact lv_dconst1 hx hb d (g H locs ls hR hz hc hl)
theorem zg_fconst0 (ok : zw_ok X cc own nm nL) (d : decode cc pc = .ok (.fconst 0, 1)) (g : zw_G X kc ks nL h (pc + 1) L (.float FP.fconst0 :: S)) : zw_G X kc ks nL h pc L S := by
  obtain ⟨p, l, e, R, s, m, args, below, meth, c, Z, Q⟩ := X
  obtain ⟨hx, hb, -⟩ := ok
  intro H locs ls hR hz hc hl
  exact lv_fconst0 hx hb d (g H locs ls hR hz hc hl)
theorem zg_fconst1 (ok : zw_ok X cc own nm nL) (d : decode cc pc = .ok (.fconst 1, 1)) (g : zw_G X kc ks nL h (pc + 1) L (.float FP.fconst1 :: S)) : zw_G X kc ks nL h pc L S := by
  obtain ⟨p, l, e, R, s, m, args, below, meth, c, Z, Q⟩ := X
  obtain ⟨hx, hb, -⟩ := ok
  intro H locs ls hR hz hc hl
  exact lv_fconst1 hx hb d (g H locs ls hR hz hc hl)
/-- a boolean's answer -/
theorem zw_nb (x : Int32) : narrow .boolean (.int (x &&& 1)) = .int (x &&& 1) := by
  have h : (x &&& 1) &&& 1 = x &&& 1 := by
    apply Int32.toBitVec_inj.1
    show (x.toBitVec &&& (1 : Int32).toBitVec) &&& (1 : Int32).toBitVec = x.toBitVec &&& (1 : Int32).toBitVec
    rw [BitVec.and_assoc, BitVec.and_self]
  first | exact congrArg Value.int h | (simp [narrow, h]; done)
theorem zg_zretE {ret : Option FieldType} {mc ms : Nat} {x : Int32} {Q9 : Int32 → zw_H → Prop} {Xp : String → Nat → zw_H → Prop} (ok : zw_ok X cc own nm nL) (fin : zw_fin X (some .boolean) (zq_I Q9) Xp mc ms) (d : decode cc pc = .ok (.ireturn, 1)) (hb9 : kc ≤ mc ∧ ks ≤ ms) (hE : (x = 0 ∨ x = 1) ∧ Q9 x h) : zw_G X kc ks nL h pc L [.int x] := by
  refine zg_zret ok fin d hb9 ?_ hE.2
  rcases hE.1 with rfl | rfl <;> rfl
/-- null, or of one of the classes: checkcast -/
def zw_Cs (own : String) (idx : Nat) (cs : List Nat) : Prop := ∃ C : String, Cond.classLink own idx C ∈ lw_all ∧ ∀ ci ∈ cs, ∃ q : vw_C, zwCl[ci]? = some q ∧ (q.1 = C ∨ Cond.castable q.1 C ∈ lw_tbl)
theorem zg_castE {r : Option Nat} {cs : List Nat} {idx : Nat} {P : Prop} (ok : zw_ok X cc own nm nL) (lk : zw_Cs own idx cs) (d : decode cc pc = .ok (.checkcast idx, 3)) (hE : on_ h r cs P) (g : P → zw_G X kc ks nL h (pc + 3) L (va_rf r :: S)) : zw_G X kc ks nL h pc L (va_rf r :: S) := by
  obtain ⟨p, l, e, R, s, m, args, below, meth, c, Z, Q⟩ := X
  obtain ⟨hx, hb, hml, hown, hts, hK, hzs, hbs, -⟩ := ok
  obtain ⟨C, h1, h2⟩ := lk
  intro H locs ls hR hz hc hl
  cases r with
  | none => exact lv_castN hx hb d (g hE H locs ls hR hz hc hl)
  | some a =>
    unfold on_ at hE
    dsimp only at hE
    cases ha : h a with
    | none => rw [ha] at hE; exact hE.elim
    | some x =>
      rw [ha] at hE
      rcases x with x | ⟨ci, fs⟩
      · exact hE.elim
      · obtain ⟨q, hq, hC⟩ := h2 ci hE.1
        have hg := g hE.2 H locs ls hR hz hc hl
        obtain ⟨cell, g1, g2, g3⟩ := va_recv hK.1 (zr_one hR ha) (q := q) (q0 := 0) (fs := fs) hq rfl
        rcases hC with rfl | hC
        · exact va_castS hx hb hown (hts _ h1) (hK.1.1 _ _ hq).2 ⟨cell, g1, g2, g3⟩ d hg
        · exact va_castY hx hb hown (hts _ h1) (hK.2.1 _ hC rfl) ⟨cell, g1, g2, g3⟩ d hg
end ZWL
