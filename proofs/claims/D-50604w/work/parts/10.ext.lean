set_option maxRecDepth 100000
/-- rounds enough for every loop that makes nothing -/
def zfu : Nat := 1000
def oth_ (h : zw_H) (r : Option Nat) (ci : Nat) (P : Nat → Prop) : Prop := match r with
  | none => False
  | some a => match h a with
    | some (.inr o) => o.1 = ci ∧ P a
    | _ => False
def oi_ (h : zw_H) (r : Option Nat) (cs : List Nat) (F : Int32 → Prop) : Prop := match r with
  | none => F 0
  | some a => match h a with
    | some (.inr o) => o.1 ∈ cs ∧ F 1
    | _ => False
def ocA_ (h : zw_H) (r : Option Nat) (t0 : Nat) (P : Prop) : Prop := match r with
  | none => P
  | some a => match h a with
    | some (.inl x) => x.1 = t0 ∧ P
    | _ => False
/-- by the class of the receiver: one of c1, P; one of c2, Q -/
def od_ (h : zw_H) (r : Option Nat) (c1 c2 : List Nat) (P Q : Prop) : Prop := match r with
  | none => False
  | some a => match h a with
    | some (.inr o) => if o.1 ∈ c1 then P else o.1 ∈ c2 ∧ Q
    | _ => False
theorem zw_nrO (C : String) (r : Option Nat) : narrow (.object C) (va_rf r) = va_rf r := by cases r <;> rfl
theorem zw_nrA (t : FieldType) (r : Option Nat) : narrow (.array t) (va_rf r) = va_rf r := by cases r <;> rfl
theorem zw_frO (C : String) (r : Option Nat) : fits (.object C) (va_rf r) = true := by cases r <;> rfl
theorem zw_frA (t : FieldType) (r : Option Nat) : fits (.array t) (va_rf r) = true := by cases r <;> rfl
section ZWE
variable {X : zw_X} {cc : ByteArray} {own nm : String} {nL kc ks pc : Nat} {h : zw_H} {L : List (Nat × Value)} {S : List Value}
theorem zg_cost {kc2 ks2 : Nat} (e : kc = kc2 ∧ ks = ks2) (g : zw_G X kc2 ks2 nL h pc L S) : zw_G X kc ks nL h pc L S := by
  obtain ⟨rfl, rfl⟩ := e
  exact g
theorem zg_objInitE {r : Option Nat} {rest : List Value} {idx : Nat} {R0 : Room} {P : Prop} (ok : zw_ok X cc own nm nL) (hRm : zw_rm X = R0) (lk : Cond.methodLink own idx Lib.objectInit ∈ lw_all) (hr : 1 ≤ R0.frames ∧ 20 ≤ R0.locals) (hw : rest.length ≤ 4) (d : decode cc pc = .ok (.invokespecial idx, 3)) (hE : r ≠ none ∧ P) (g : P → zw_G X kc ks nL h (pc + 3) L rest) : zw_G X kc ks nL h pc L (va_rf r :: rest) := by
  obtain ⟨a, rfl⟩ := Option.ne_none_iff_exists'.mp hE.1
  exact zg_objInit ok hRm lk hr hw d (g hE.2)
theorem zg_tabIn {dflt lo hi : Int} {offs : Array Int} {len : Nat} {x : Int32} {off : Int} {tgt : Nat} (ok : zw_ok X cc own nm nL) (d : decode cc pc = .ok (.tableswitch dflt lo hi offs, len)) (h1 : ¬ x.toInt < lo) (h2 : ¬ hi < x.toInt) (ho : offs[(x.toInt - lo).toNat]? = some off) (ht : (pc : Int) + off = (tgt : Int)) (g : zw_G X kc ks nL h tgt L S) : zw_G X kc ks nL h pc L (.int x :: S) := by
  obtain ⟨p, l, e, R, s, m, args, below, meth, c, Z, Q⟩ := X
  obtain ⟨hx, hb, -⟩ := ok
  intro H locs ls hR hz hc hl
  exact lv_tableIn hx hb d h1 h2 ho ht (g H locs ls hR hz hc hl)
theorem zg_tabOut {dflt lo hi : Int} {offs : Array Int} {len : Nat} {x : Int32} {tgt : Nat} (ok : zw_ok X cc own nm nL) (d : decode cc pc = .ok (.tableswitch dflt lo hi offs, len)) (h1 : x.toInt < lo ∨ hi < x.toInt) (ht : (pc : Int) + dflt = (tgt : Int)) (g : zw_G X kc ks nL h tgt L S) : zw_G X kc ks nL h pc L (.int x :: S) := by
  obtain ⟨p, l, e, R, s, m, args, below, meth, c, Z, Q⟩ := X
  obtain ⟨hx, hb, -⟩ := ok
  intro H locs ls hR hz hc hl
  exact lv_tableOut hx hb d h1 ht (g H locs ls hR hz hc hl)
theorem zg_lookup {dflt : Int} {ps : Array (Int × Int)} {len : Nat} {x : Int32} {off : Int} {tgt : Nat} (ok : zw_ok X cc own nm nL) (d : decode cc pc = .ok (.lookupswitch dflt ps, len)) (hp : (ps.toList.zip (ps.toList.drop 1)).all (fun (a, next) => a.1 < next.1) = true) (ho : Op.lookupswitch.offset ps.toList dflt x.toInt = off) (ht : (pc : Int) + off = (tgt : Int)) (g : zw_G X kc ks nL h tgt L S) : zw_G X kc ks nL h pc L (.int x :: S) := by
  obtain ⟨p, l, e, R, s, m, args, below, meth, c, Z, Q⟩ := X
  obtain ⟨hx, hb, -⟩ := ok
  intro H locs ls hR hz hc hl
  exact lv_lookup hx hb d hp ho ht (g H locs ls hR hz hc hl)
theorem zg_athrowE {r : Option Nat} {P : Nat → Prop} (ok : zw_ok X cc own nm nL) (d : decode cc pc = .ok (.athrow, 1)) (hE : oth_ h r 5 P) (g : ∀ a, P a → zw_GX X kc ks nL h pc L S "MultipoleLine$Flaw" a) : zw_G X kc ks nL h pc L (va_rf r :: S) := by
  unfold oth_ at hE
  cases r with
  | none => exact hE.elim
  | some a =>
    dsimp only at hE
    cases ha : h a with
    | none => rw [ha] at hE; exact hE.elim
    | some x =>
      rw [ha] at hE
      rcases x with x | ⟨ci, fs⟩
      · exact hE.elim
      · obtain ⟨e, hP⟩ := hE
        have e : ci = 5 := e
        subst e
        exact zg_athrow ok ha ⟨_, rfl, rfl⟩ d (g a hP)
theorem od_some {r : Option Nat} {c1 c2 : List Nat} {P Q : Prop} (hE : od_ h r c1 c2 P Q) : (∃ a, r = some a ∧ oc_ h r c1 P) ∨ (∃ a, r = some a ∧ oc_ h r c2 Q) := by
  unfold od_ at hE
  cases r with
  | none => exact hE.elim
  | some a =>
    dsimp only at hE
    unfold oc_
    dsimp only
    cases ha : h a with
    | none => rw [ha] at hE; exact hE.elim
    | some x =>
      rw [ha] at hE
      rcases x with x | o
      · exact hE.elim
      · dsimp only at hE ⊢
        by_cases c : o.1 ∈ c1
        · rw [if_pos c] at hE
          exact Or.inl ⟨a, rfl, c, hE⟩
        · rw [if_neg c] at hE
          exact Or.inr ⟨a, rfl, hE⟩
theorem zg_instE {r : Option Nat} {cs : List Nat} {idx : Nat} {F : Int32 → Prop} (ok : zw_ok X cc own nm nL) (lk : zw_Cs own idx cs) (d : decode cc pc = .ok (.instanceof idx, 3)) (hE : oi_ h r cs F) (g : ∀ x, F x → zw_G X kc ks nL h (pc + 3) L (.int x :: S)) : zw_G X kc ks nL h pc L (va_rf r :: S) := by
  obtain ⟨p, l, e, R, s, m, args, below, meth, c, Z, Q⟩ := X
  obtain ⟨hx, hb, hml, hown, hts, hK, hzs, hbs, -⟩ := ok
  obtain ⟨C, h1, h2⟩ := lk
  intro H locs ls hR hz hc hl
  cases r with
  | none => exact lv_instN hx hb d (g 0 hE H locs ls hR hz hc hl)
  | some a =>
    unfold oi_ at hE
    dsimp only at hE
    cases ha : h a with
    | none => rw [ha] at hE; exact hE.elim
    | some x =>
      rw [ha] at hE
      rcases x with x | ⟨ci, fs⟩
      · exact hE.elim
      · obtain ⟨q, hq, hC⟩ := h2 ci hE.1
        have hg := g 1 hE.2 H locs ls hR hz hc hl
        obtain ⟨cell, g1, g2, g3⟩ := va_recv hK.1 (zr_one hR ha) (q := q) (q0 := 0) (fs := fs) hq rfl
        rcases hC with rfl | hC
        · exact va_instS hx hb hown (hts _ h1) (hK.1.1 _ _ hq).2 ⟨cell, g1, g2, g3⟩ d hg
        · exact va_instY hx hb hown (hts _ h1) (hK.2.1 _ hC rfl) ⟨cell, g1, g2, g3⟩ d hg
theorem zg_castA4 {r : Option Nat} {idx : Nat} {P : Prop} (ok : zw_ok X cc own nm nL) (lk : Cond.classLink own idx "[D" ∈ lw_all) (d : decode cc pc = .ok (.checkcast idx, 3)) (hE : ocA_ h r 4 P) (g : P → zw_G X kc ks nL h (pc + 3) L (va_rf r :: S)) : zw_G X kc ks nL h pc L (va_rf r :: S) := by
  obtain ⟨p, l, e, R, s, m, args, below, meth, c, Z, Q⟩ := X
  obtain ⟨hx, hb, hml, hown, hts, hK, hzs, hbs, -⟩ := ok
  intro H locs ls hR hz hc hl
  cases r with
  | none => exact lv_castN hx hb d (g hE H locs ls hR hz hc hl)
  | some a =>
    unfold ocA_ at hE
    dsimp only at hE
    cases ha : h a with
    | none => rw [ha] at hE; exact hE.elim
    | some x =>
      rw [ha] at hE
      rcases x with ⟨t, x⟩ | x
      · obtain ⟨e1, hP⟩ := hE
        have e1 : t = 4 := e1
        subst e1
        exact va_castA hx hb hown (hts _ lk) (zr_one hR ha) 0 rfl (hK.1.2 4 _ rfl).2 d (g hP H locs ls hR hz hc hl)
      · exact hE.elim
theorem zg_castA5 {r : Option Nat} {idx : Nat} {P : Prop} (ok : zw_ok X cc own nm nL) (lk : Cond.classLink own idx "[Ljava/lang/Object;" ∈ lw_all) (d : decode cc pc = .ok (.checkcast idx, 3)) (hE : ocA_ h r 5 P) (g : P → zw_G X kc ks nL h (pc + 3) L (va_rf r :: S)) : zw_G X kc ks nL h pc L (va_rf r :: S) := by
  obtain ⟨p, l, e, R, s, m, args, below, meth, c, Z, Q⟩ := X
  obtain ⟨hx, hb, hml, hown, hts, hK, hzs, hbs, -⟩ := ok
  intro H locs ls hR hz hc hl
  cases r with
  | none => exact lv_castN hx hb d (g hE H locs ls hR hz hc hl)
  | some a =>
    unfold ocA_ at hE
    dsimp only at hE
    cases ha : h a with
    | none => rw [ha] at hE; exact hE.elim
    | some x =>
      rw [ha] at hE
      rcases x with ⟨t, x⟩ | x
      · obtain ⟨e1, hP⟩ := hE
        have e1 : t = 5 := e1
        subst e1
        obtain ⟨_, _, _, _, _, e9⟩ := (hK.1.2 5 _ rfl).2
        exact va_castA hx hb hown (hts _ lk) (zr_one hR ha) 0 rfl e9 d (g hP H locs ls hR hz hc hl)
      · exact hE.elim
end ZWE
