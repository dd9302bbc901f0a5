set_option maxRecDepth 100000
section ZWC
variable {X : zw_X} {cc b : ByteArray} {own nm C : String} {nL kc ks pc mL idx : Nat} {h : zw_H} {L L' : List (Nat × Value)} {S rest : List Value} {y x : MethodName} {ret : Option FieldType} {rm R0 : Room} {vs : List zw_V} {r : Option Nat} {cs : List Nat} {P : Prop} {Qv : Option Value → zw_H → Prop} {Xp : String → Nat → zw_H → Prop}
theorem zg_run {mc ms : Nat} {a : Array Value} (hr : ∀ (H : Heap) (locs : List Loc) (ls : Array Slot), match X with
    | (p, l, e, R, s, m, args, below, meth, c, Z, _) => zw_R Z h H → s.heap.size ≤ H.size → (∀ z ∈ locs, zw_A Z z.base) → lv_has ls nL L → vx_Run p l e R s m args below meth c H locs kc ks mc ms (F0 m pc ls S) rest (zw_Q Z Qv a) (zw_XC Z Xp) (zw_A Z))
    (kret : ∀ v h', Qv v h' → zw_G X (kc + mc) (ks + ms) nL h' (pc + 3) L (v.toList ++ rest)) (kexc : ∀ E q h', Xp E q h' → zw_GX X (kc + mc) (ks + ms) nL h' pc L rest E q) : zw_G X kc ks nL h pc L S := by
  obtain ⟨p, l, e, R, s, m, args, below, meth, c, Z, Q⟩ := X
  intro H locs ls hR hz hc hl T hT X9
  rcases hr H locs ls hR hz hc hl T hT X9 with ⟨v, st₀, t, T', L9, h0, X', hL9, e1, e2, ⟨v', h', ho, hQ, hR', hsz⟩, st⟩ | ⟨q, st₀, t, T', L9, E, ce, h0, X', hL9, e1, e2, ⟨h', hQ, hR', hsz⟩, hce, hcv, hcl, st⟩
  · cases ho
    rw [h0] at hsz
    obtain ⟨t2, a1, b1⟩ := kret v h' hQ T'.heap (locs ++ L9) ls (by rw [e1]; exact hR') (by rw [e1]; exact Nat.le_trans hz hsz) (fun z hz9 => (List.mem_append.mp hz9).elim (hc z) (hL9 z)) hl T' rfl X'
    exact ⟨t2, st t2 a1, b1⟩
  · rw [h0] at hsz
    obtain ⟨t2, a1, b1⟩ := kexc E q h' hQ T'.heap (locs ++ L9) ls ce (by rw [e1]; exact hR') (by rw [e1]; exact Nat.le_trans hz hsz) (fun z hz9 => (List.mem_append.mp hz9).elim (hc z) (hL9 z)) hl (by rw [e1]; exact hce) hcv hcl T' rfl X'
    exact ⟨t2, st.trans a1, b1⟩
theorem zg_run5 {mc ms : Nat} {a : Array Value} (hr : ∀ (H : Heap) (locs : List Loc) (ls : Array Slot), match X with
    | (p, l, e, R, s, m, args, below, meth, c, Z, _) => zw_R Z h H → s.heap.size ≤ H.size → (∀ z ∈ locs, zw_A Z z.base) → lv_has ls nL L → vx_Run5 p l e R s m args below meth c H locs kc ks mc ms (F0 m pc ls S) rest (zw_Q Z Qv a) (zw_XC Z Xp) (zw_A Z))
    (kret : ∀ v h', Qv v h' → zw_G X (kc + mc) (ks + ms) nL h' (pc + 5) L (v.toList ++ rest)) (kexc : ∀ E q h', Xp E q h' → zw_GX X (kc + mc) (ks + ms) nL h' pc L rest E q) : zw_G X kc ks nL h pc L S := by
  obtain ⟨p, l, e, R, s, m, args, below, meth, c, Z, Q⟩ := X
  intro H locs ls hR hz hc hl T hT X9
  rcases hr H locs ls hR hz hc hl T hT X9 with ⟨v, st₀, t, T', L9, h0, X', hL9, e1, e2, ⟨v', h', ho, hQ, hR', hsz⟩, st⟩ | ⟨q, st₀, t, T', L9, E, ce, h0, X', hL9, e1, e2, ⟨h', hQ, hR', hsz⟩, hce, hcv, hcl, st⟩
  · cases ho
    rw [h0] at hsz
    obtain ⟨t2, a1, b1⟩ := kret v h' hQ T'.heap (locs ++ L9) ls (by rw [e1]; exact hR') (by rw [e1]; exact Nat.le_trans hz hsz) (fun z hz9 => (List.mem_append.mp hz9).elim (hc z) (hL9 z)) hl T' rfl X'
    exact ⟨t2, st t2 a1, b1⟩
  · rw [h0] at hsz
    obtain ⟨t2, a1, b1⟩ := kexc E q h' hQ T'.heap (locs ++ L9) ls ce (by rw [e1]; exact hR') (by rw [e1]; exact Nat.le_trans hz hsz) (fun z hz9 => (List.mem_append.mp hz9).elim (hc z) (hL9 z)) hl (by rw [e1]; exact hce) hcv hcl T' rfl X'
    exact ⟨t2, st.trans a1, b1⟩
theorem zw_w8 (hw : rest.length ≤ 4) : (rest.map fun v => v.category).sum ≤ 8 := by
  have key : ∀ l : List Value, (l.map fun v => v.category).sum ≤ 2 * l.length := by
    intro l
    induction l with
    | nil => exact Nat.le_refl 0
    | cons v l ih =>
      rw [List.map_cons, List.sum_cons, List.length_cons]
      have : v.category ≤ 2 := by rcases lv_cat v with h | h <;> omega
      omega
  have := key rest
  omega
theorem oc_some (hE : oc_ h r cs P) : ∃ a ci fs, r = some a ∧ h a = some (.inr (ci, fs)) ∧ ci ∈ cs ∧ P := by
  unfold oc_ at hE
  cases r with
  | none => exact hE.elim
  | some a =>
    dsimp only at hE
    cases ha : h a with
    | none => rw [ha] at hE; exact hE.elim
    | some x =>
      rw [ha] at hE
      rcases x with x | ⟨ci, fs⟩
      · exact hE.elim
      · exact ⟨a, ci, fs, rfl, ha, hE.1, hE.2⟩
/-- the classes cs are C -/
def zw_is (cs : List Nat) (C : String) : Prop := ∀ ci ∈ cs, ∃ q : vw_C, zwCl[ci]? = some q ∧ q.1 = C
def zw_bd (rm R : Room) (mL : Nat) : Prop := rm.frames + 1 ≤ R.frames ∧ 8 + (mL + 11) + rm.locals ≤ R.locals
abbrev zw_fit (kc ks : Nat) (rm R : Room) (mL : Nat) : Prop := (rm.frames + 1 ≤ R.frames ∧ 8 + (mL + 11) + rm.locals ≤ R.locals) ∧ kc + rm.cells ≤ R.cells ∧ ks + rm.slots ≤ R.slots
def zw_LV (cs : List Nat) (C : String) (own : String) (idx : Nat)  (y : MethodName) (b : ByteArray) (mL : Nat) (ret : Option FieldType) (n : Nat) : Prop := zw_is cs C ∧ ∀ (R : Room) (s : State) (args : Array Value) (Z : zw_Z) (rm : Room), (∀ w ∈ lw_all, w.before args s = true) → zw_K Z s → zw_bd rm R mL → CallW R s args own C idx y b mL ret (ws_ y b mL ret) rm rm.cells rm.slots n
theorem zg_callV  (ok : zw_ok X cc own nm nL) (hRm : zw_rm X = R0) (lk : zw_LV cs C own idx  y b mL ret vs.length) (d : decode cc pc = .ok (.invokevirtual idx, 3)) (hE : oc_ h r cs P) (hM : P → zw_Met (zw_l X) (zw_Zf X) y (ws_ y b mL ret) rm (zA r :: vs) h Qv Xp) (hst : S = (vs.map zw_tv).reverse ++ va_rf r :: rest) (hw : rest.length ≤ 4) (hf : zw_fit kc ks rm R0 mL) (kret : ∀ v h', Qv v h' → zw_G X (kc + rm.cells) (ks + rm.slots) nL h' (pc + 3) L (v.toList ++ rest)) (kexc : ∀ E q h', Xp E q h' → zw_GX X (kc + rm.cells) (ks + rm.slots) nL h' pc L rest E q) : zw_G X kc ks nL h pc L S := by
  subst hst
  subst hRm
  obtain ⟨a, ci, fs, rfl, ha, hci, hE⟩ := oc_some hE
  obtain ⟨hcs, lk⟩ := lk
  obtain ⟨⟨C9, T9, N9⟩, hcl, hC9⟩ := hcs ci hci
  cases hC9
  refine zg_run (a := (Value.ref a :: vs.map zw_tv).toArray) (fun H locs ls => ?_) kret kexc
  obtain ⟨p, l, e, R, s, m, args, below, meth, c, Z, Q⟩ := X
  obtain ⟨hx, hb, hml, hown, hts, hK, hzs, hbs, -⟩ := ok
  intro hR hz hc hl
  have cw := lk R s args Z rm hts hK hf.1
  have hM9 := hM hE
  unfold zw_Met at hM9
  exact vx_runV (As := vs.map zw_tv) (rest := rest) ⟨hx, hb, hml, hown, hts⟩ hM9 cw ⟨zw_blind Z h _, va_recv hK.1 (zr_one hR ha) (q := (C9, T9, N9)) (q0 := 0) (fs := fs) hcl rfl, fun U hU hW => ⟨rfl, by rw [hU]; exact hR, zw_K.warm hW hK⟩⟩ rfl (by simp) hl.1 rfl (lv_room (zw_w8 hw)) d hf.2
def zw_LU (cs : List Nat) (C : String) (own : String) (idx : Nat) (owner : String) (x : MethodName) (y : MethodName) (b : ByteArray) (mL : Nat) (ret : Option FieldType) (n : Nat) : Prop := zw_is cs C ∧ ∀ (R : Room) (s : State) (args : Array Value) (Z : zw_Z) (rm : Room), (∀ w ∈ lw_all, w.before args s = true) → zw_K Z s → zw_bd rm R mL → va_CU R s args own C owner idx x y b mL ret (ws_ y b mL ret) rm rm.cells rm.slots n
theorem zg_callU {owner : String} (ok : zw_ok X cc own nm nL) (hRm : zw_rm X = R0) (lk : zw_LU cs C own idx owner x y b mL ret vs.length) (d : decode cc pc = .ok (.invokevirtual idx, 3)) (hE : oc_ h r cs P) (hM : P → zw_Met (zw_l X) (zw_Zf X) y (ws_ y b mL ret) rm (zA r :: vs) h Qv Xp) (hst : S = (vs.map zw_tv).reverse ++ va_rf r :: rest) (hw : rest.length ≤ 4) (hf : zw_fit kc ks rm R0 mL) (kret : ∀ v h', Qv v h' → zw_G X (kc + rm.cells) (ks + rm.slots) nL h' (pc + 3) L (v.toList ++ rest)) (kexc : ∀ E q h', Xp E q h' → zw_GX X (kc + rm.cells) (ks + rm.slots) nL h' pc L rest E q) : zw_G X kc ks nL h pc L S := by
  subst hst
  subst hRm
  obtain ⟨a, ci, fs, rfl, ha, hci, hE⟩ := oc_some hE
  obtain ⟨hcs, lk⟩ := lk
  obtain ⟨⟨C9, T9, N9⟩, hcl, hC9⟩ := hcs ci hci
  cases hC9
  refine zg_run (a := (Value.ref a :: vs.map zw_tv).toArray) (fun H locs ls => ?_) kret kexc
  obtain ⟨p, l, e, R, s, m, args, below, meth, c, Z, Q⟩ := X
  obtain ⟨hx, hb, hml, hown, hts, hK, hzs, hbs, -⟩ := ok
  intro hR hz hc hl
  have cw := lk R s args Z rm hts hK hf.1
  have hM9 := hM hE
  unfold zw_Met at hM9
  exact vx_runU (As := vs.map zw_tv) (rest := rest) ⟨hx, hb, hml, hown, hts⟩ hM9 cw ⟨zw_blind Z h _, va_recv hK.1 (zr_one hR ha) (q := (C9, T9, N9)) (q0 := 0) (fs := fs) hcl rfl, fun U hU hW => ⟨rfl, by rw [hU]; exact hR, zw_K.warm hW hK⟩⟩ rfl (by simp) hl.1 rfl (lv_room (zw_w8 hw)) d hf.2
def zw_LS (own : String) (idx : Nat)  (y : MethodName) (b : ByteArray) (mL : Nat) (ret : Option FieldType) (n : Nat) : Prop := ∀ (R : Room) (s : State) (args : Array Value) (Z : zw_Z) (rm : Room), (∀ w ∈ lw_all, w.before args s = true) → zw_K Z s → zw_bd rm R mL → CallB R s args own idx y b mL ret (ws_ y b mL ret) rm rm.cells rm.slots n ∧ (Cond.static y).before args s = true
theorem zg_callS  (ok : zw_ok X cc own nm nL) (hRm : zw_rm X = R0) (lk : zw_LS own idx  y b mL ret vs.length) (d : decode cc pc = .ok (.invokestatic idx, 3)) (hE : P) (hM : P → zw_Met (zw_l X) (zw_Zf X) y (ws_ y b mL ret) rm (vs) h Qv Xp) (hst : S = (vs.map zw_tv).reverse ++ rest) (hw : rest.length ≤ 4) (hf : zw_fit kc ks rm R0 mL) (kret : ∀ v h', Qv v h' → zw_G X (kc + rm.cells) (ks + rm.slots) nL h' (pc + 3) L (v.toList ++ rest)) (kexc : ∀ E q h', Xp E q h' → zw_GX X (kc + rm.cells) (ks + rm.slots) nL h' pc L rest E q) : zw_G X kc ks nL h pc L S := by
  subst hst
  subst hRm
  refine zg_run (a := (vs.map zw_tv).toArray) (fun H locs ls => ?_) kret kexc
  obtain ⟨p, l, e, R, s, m, args, below, meth, c, Z, Q⟩ := X
  obtain ⟨hx, hb, hml, hown, hts, hK, hzs, hbs, -⟩ := ok
  intro hR hz hc hl
  have cw := lk R s args Z rm hts hK hf.1
  have hM9 := hM hE
  unfold zw_Met at hM9
  exact vx_runS (As := vs.map zw_tv) (rest := rest) ⟨hx, hb, hml, hown, hts⟩ hM9 cw ⟨zw_blind Z h _, fun U hU hW => ⟨rfl, by rw [hU]; exact hR, zw_K.warm hW hK⟩⟩ rfl (by simp) hl.1 rfl (lv_room (zw_w8 hw)) d hf.2
def zw_LSN (own : String) (idx : Nat) (host : String) (y : MethodName) (b : ByteArray) (mL : Nat) (ret : Option FieldType) (n : Nat) : Prop := ∀ (R : Room) (s : State) (args : Array Value) (Z : zw_Z) (rm : Room), (∀ w ∈ lw_all, w.before args s = true) → zw_K Z s → zw_bd rm R mL → va_CN R s args own idx y host b mL ret (ws_ y b mL ret) rm rm.cells rm.slots n ∧ (Cond.static y).before args s = true ∧ True
theorem zg_callSN {host : String} (ok : zw_ok X cc own nm nL) (hRm : zw_rm X = R0) (lk : zw_LSN own idx host y b mL ret vs.length) (d : decode cc pc = .ok (.invokestatic idx, 3)) (hE : P) (hM : P → zw_Met (zw_l X) (zw_Zf X) y (ws_ y b mL ret) rm (vs) h Qv Xp) (hst : S = (vs.map zw_tv).reverse ++ rest) (hw : rest.length ≤ 4) (hf : zw_fit kc ks rm R0 mL) (kret : ∀ v h', Qv v h' → zw_G X (kc + rm.cells) (ks + rm.slots) nL h' (pc + 3) L (v.toList ++ rest)) (kexc : ∀ E q h', Xp E q h' → zw_GX X (kc + rm.cells) (ks + rm.slots) nL h' pc L rest E q) : zw_G X kc ks nL h pc L S := by
  subst hst
  subst hRm
  refine zg_run (a := (vs.map zw_tv).toArray) (fun H locs ls => ?_) kret kexc
  obtain ⟨p, l, e, R, s, m, args, below, meth, c, Z, Q⟩ := X
  obtain ⟨hx, hb, hml, hown, hts, hK, hzs, hbs, -⟩ := ok
  intro hR hz hc hl
  have cw := lk R s args Z rm hts hK hf.1
  have hM9 := hM hE
  unfold zw_Met at hM9
  exact vx_runSN (As := vs.map zw_tv) (rest := rest) ⟨hx, hb, hml, hown, hts⟩ hM9 cw ⟨zw_blind Z h _, fun U hU hW => ⟨rfl, by rw [hU]; exact hR, zw_K.warm hW hK⟩⟩ rfl (by simp) hl.1 rfl (lv_room (zw_w8 hw)) d hf.2
def zw_LVN (cs : List Nat) (C : String) (own : String) (idx : Nat) (host : String) (y : MethodName) (b : ByteArray) (mL : Nat) (ret : Option FieldType) (n : Nat) : Prop := zw_is cs C ∧ ∀ (R : Room) (s : State) (args : Array Value) (Z : zw_Z) (rm : Room), (∀ w ∈ lw_all, w.before args s = true) → zw_K Z s → zw_bd rm R mL → va_CN R s args own idx y host b mL ret (ws_ y b mL ret) rm rm.cells rm.slots n ∧ (Cond.instanceMethod y).before args s = true ∧ (Cond.selects C y y).before args s = true
theorem zg_callVN {host : String} (ok : zw_ok X cc own nm nL) (hRm : zw_rm X = R0) (lk : zw_LVN cs C own idx host y b mL ret vs.length) (d : decode cc pc = .ok (.invokevirtual idx, 3)) (hE : oc_ h r cs P) (hM : P → zw_Met (zw_l X) (zw_Zf X) y (ws_ y b mL ret) rm (zA r :: vs) h Qv Xp) (hst : S = (vs.map zw_tv).reverse ++ va_rf r :: rest) (hw : rest.length ≤ 4) (hf : zw_fit kc ks rm R0 mL) (kret : ∀ v h', Qv v h' → zw_G X (kc + rm.cells) (ks + rm.slots) nL h' (pc + 3) L (v.toList ++ rest)) (kexc : ∀ E q h', Xp E q h' → zw_GX X (kc + rm.cells) (ks + rm.slots) nL h' pc L rest E q) : zw_G X kc ks nL h pc L S := by
  subst hst
  subst hRm
  obtain ⟨a, ci, fs, rfl, ha, hci, hE⟩ := oc_some hE
  obtain ⟨hcs, lk⟩ := lk
  obtain ⟨⟨C9, T9, N9⟩, hcl, hC9⟩ := hcs ci hci
  cases hC9
  refine zg_run (a := (Value.ref a :: vs.map zw_tv).toArray) (fun H locs ls => ?_) kret kexc
  obtain ⟨p, l, e, R, s, m, args, below, meth, c, Z, Q⟩ := X
  obtain ⟨hx, hb, hml, hown, hts, hK, hzs, hbs, -⟩ := ok
  intro hR hz hc hl
  have cw := lk R s args Z rm hts hK hf.1
  have hM9 := hM hE
  unfold zw_Met at hM9
  exact vx_runVN (As := vs.map zw_tv) (rest := rest) ⟨hx, hb, hml, hown, hts⟩ hM9 cw ⟨zw_blind Z h _, va_recv hK.1 (zr_one hR ha) (q := (C9, T9, N9)) (q0 := 0) (fs := fs) hcl rfl, fun U hU hW => ⟨rfl, by rw [hU]; exact hR, zw_K.warm hW hK⟩⟩ rfl (by simp) hl.1 rfl (lv_room (zw_w8 hw)) d hf.2
def zw_LF (cs : List Nat) (C : String) (own : String) (idx : Nat) (x : MethodName) (y : MethodName) (b : ByteArray) (mL : Nat) (ret : Option FieldType) (n : Nat) : Prop := zw_is cs C ∧ ∀ (R : Room) (s : State) (args : Array Value) (Z : zw_Z) (rm : Room), (∀ w ∈ lw_all, w.before args s = true) → zw_K Z s → zw_bd rm R mL → va_CI R s args own C idx x y b mL ret (ws_ y b mL ret) rm rm.cells rm.slots n
theorem zg_callF {count : Nat} (ok : zw_ok X cc own nm nL) (hRm : zw_rm X = R0) (lk : zw_LF cs C own idx x y b mL ret vs.length) (d : decode cc pc = .ok (.invokeinterface idx count, 5)) (hE : oc_ h r cs P) (hM : P → zw_Met (zw_l X) (zw_Zf X) y (ws_ y b mL ret) rm (zA r :: vs) h Qv Xp) (hst : S = (vs.map zw_tv).reverse ++ va_rf r :: rest) (hw : rest.length ≤ 4) (hf : zw_fit kc ks rm R0 mL) (kret : ∀ v h', Qv v h' → zw_G X (kc + rm.cells) (ks + rm.slots) nL h' (pc + 5) L (v.toList ++ rest)) (kexc : ∀ E q h', Xp E q h' → zw_GX X (kc + rm.cells) (ks + rm.slots) nL h' pc L rest E q) : zw_G X kc ks nL h pc L S := by
  subst hst
  subst hRm
  obtain ⟨a, ci, fs, rfl, ha, hci, hE⟩ := oc_some hE
  obtain ⟨hcs, lk⟩ := lk
  obtain ⟨⟨C9, T9, N9⟩, hcl, hC9⟩ := hcs ci hci
  cases hC9
  refine zg_run5 (a := (Value.ref a :: vs.map zw_tv).toArray) (fun H locs ls => ?_) kret kexc
  obtain ⟨p, l, e, R, s, m, args, below, meth, c, Z, Q⟩ := X
  obtain ⟨hx, hb, hml, hown, hts, hK, hzs, hbs, -⟩ := ok
  intro hR hz hc hl
  have cw := lk R s args Z rm hts hK hf.1
  have hM9 := hM hE
  unfold zw_Met at hM9
  exact vx_runF (hK.1.1 _ _ hcl).2 (As := vs.map zw_tv) (rest := rest) ⟨hx, hb, hml, hown, hts⟩ hM9 cw ⟨zw_blind Z h _, va_recv hK.1 (zr_one hR ha) (q := (C9, T9, N9)) (q0 := 0) (fs := fs) hcl rfl, fun U hU hW => ⟨rfl, by rw [hU]; exact hR, zw_K.warm hW hK⟩⟩ rfl (by simp) hl.1 rfl (lv_room (zw_w8 hw)) d hf.2
def zw_LSX (own : String) (idx : Nat) (hh : List (Nat × Nat × Nat × Nat)) (y : MethodName) (b : ByteArray) (mL : Nat) (ret : Option FieldType) (n : Nat) : Prop := ∀ (R : Room) (s : State) (args : Array Value) (Z : zw_Z) (rm : Room), (∀ w ∈ lw_all, w.before args s = true) → zw_K Z s → zw_bd rm R mL → vx_CSW R s args own idx y b mL ret hh (wsW_ y b mL ret hh) rm rm.cells rm.slots n
theorem zg_callSX {hh : List (Nat × Nat × Nat × Nat)} (ok : zw_ok X cc own nm nL) (hRm : zw_rm X = R0) (lk : zw_LSX own idx hh y b mL ret vs.length) (d : decode cc pc = .ok (.invokestatic idx, 3)) (hE : P) (hM : P → zw_Met (zw_l X) (zw_Zf X) y (wsW_ y b mL ret hh) rm (vs) h Qv Xp) (hst : S = (vs.map zw_tv).reverse ++ rest) (hw : rest.length ≤ 4) (hf : zw_fit kc ks rm R0 mL) (kret : ∀ v h', Qv v h' → zw_G X (kc + rm.cells) (ks + rm.slots) nL h' (pc + 3) L (v.toList ++ rest)) (kexc : ∀ E q h', Xp E q h' → zw_GX X (kc + rm.cells) (ks + rm.slots) nL h' pc L rest E q) : zw_G X kc ks nL h pc L S := by
  subst hst
  subst hRm
  refine zg_run (a := (vs.map zw_tv).toArray) (fun H locs ls => ?_) kret kexc
  obtain ⟨p, l, e, R, s, m, args, below, meth, c, Z, Q⟩ := X
  obtain ⟨hx, hb, hml, hown, hts, hK, hzs, hbs, -⟩ := ok
  intro hR hz hc hl
  have cw := lk R s args Z rm hts hK hf.1
  have hM9 := hM hE
  unfold zw_Met at hM9
  exact vx_runSX (As := vs.map zw_tv) (rest := rest) ⟨hx, hb, hml, hown, hts⟩ hM9 cw ⟨zw_blind Z h _, fun U hU hW => ⟨rfl, by rw [hU]; exact hR, zw_K.warm hW hK⟩⟩ rfl (by simp) hl.1 rfl (lv_room (zw_w8 hw)) d hf.2
def zw_LVX (cs : List Nat) (C : String) (own : String) (idx : Nat) (hh : List (Nat × Nat × Nat × Nat)) (y : MethodName) (b : ByteArray) (mL : Nat) (ret : Option FieldType) (n : Nat) : Prop := zw_is cs C ∧ ∀ (R : Room) (s : State) (args : Array Value) (Z : zw_Z) (rm : Room), (∀ w ∈ lw_all, w.before args s = true) → zw_K Z s → zw_bd rm R mL → vx_CVW R s args own C idx y b mL ret hh (wsW_ y b mL ret hh) rm rm.cells rm.slots n
theorem zg_callVX {hh : List (Nat × Nat × Nat × Nat)} (ok : zw_ok X cc own nm nL) (hRm : zw_rm X = R0) (lk : zw_LVX cs C own idx hh y b mL ret vs.length) (d : decode cc pc = .ok (.invokevirtual idx, 3)) (hE : oc_ h r cs P) (hM : P → zw_Met (zw_l X) (zw_Zf X) y (wsW_ y b mL ret hh) rm (zA r :: vs) h Qv Xp) (hst : S = (vs.map zw_tv).reverse ++ va_rf r :: rest) (hw : rest.length ≤ 4) (hf : zw_fit kc ks rm R0 mL) (kret : ∀ v h', Qv v h' → zw_G X (kc + rm.cells) (ks + rm.slots) nL h' (pc + 3) L (v.toList ++ rest)) (kexc : ∀ E q h', Xp E q h' → zw_GX X (kc + rm.cells) (ks + rm.slots) nL h' pc L rest E q) : zw_G X kc ks nL h pc L S := by
  subst hst
  subst hRm
  obtain ⟨a, ci, fs, rfl, ha, hci, hE⟩ := oc_some hE
  obtain ⟨hcs, lk⟩ := lk
  obtain ⟨⟨C9, T9, N9⟩, hcl, hC9⟩ := hcs ci hci
  cases hC9
  refine zg_run (a := (Value.ref a :: vs.map zw_tv).toArray) (fun H locs ls => ?_) kret kexc
  obtain ⟨p, l, e, R, s, m, args, below, meth, c, Z, Q⟩ := X
  obtain ⟨hx, hb, hml, hown, hts, hK, hzs, hbs, -⟩ := ok
  intro hR hz hc hl
  have cw := lk R s args Z rm hts hK hf.1
  have hM9 := hM hE
  unfold zw_Met at hM9
  exact vx_runVX (As := vs.map zw_tv) (rest := rest) ⟨hx, hb, hml, hown, hts⟩ hM9 cw ⟨zw_blind Z h _, va_recv hK.1 (zr_one hR ha) (q := (C9, T9, N9)) (q0 := 0) (fs := fs) hcl rfl, fun U hU hW => ⟨rfl, by rw [hU]; exact hR, zw_K.warm hW hK⟩⟩ rfl (by simp) hl.1 rfl (lv_room (zw_w8 hw)) d hf.2
def zw_LSU (cs : List Nat) (C : String) (own : String) (idx : Nat)  (y : MethodName) (b : ByteArray) (mL : Nat) (ret : Option FieldType) (n : Nat) : Prop := zw_is cs C ∧ ∀ (R : Room) (s : State) (args : Array Value) (Z : zw_Z) (rm : Room), (∀ w ∈ lw_all, w.before args s = true) → zw_K Z s → zw_bd rm R mL → va_CS R s args own idx y b mL ret (ws_ y b mL ret) rm rm.cells rm.slots n
theorem zg_callSU  (ok : zw_ok X cc own nm nL) (hRm : zw_rm X = R0) (lk : zw_LSU cs C own idx  y b mL ret vs.length) (d : decode cc pc = .ok (.invokespecial idx, 3)) (hE : oc_ h r cs P) (hM : P → zw_Met (zw_l X) (zw_Zf X) y (ws_ y b mL ret) rm (zA r :: vs) h Qv Xp) (hst : S = (vs.map zw_tv).reverse ++ va_rf r :: rest) (hw : rest.length ≤ 4) (hf : zw_fit kc ks rm R0 mL) (kret : ∀ v h', Qv v h' → zw_G X (kc + rm.cells) (ks + rm.slots) nL h' (pc + 3) L (v.toList ++ rest)) (kexc : ∀ E q h', Xp E q h' → zw_GX X (kc + rm.cells) (ks + rm.slots) nL h' pc L rest E q) : zw_G X kc ks nL h pc L S := by
  subst hst
  subst hRm
  obtain ⟨a, ci, fs, rfl, ha, hci, hE⟩ := oc_some hE
  obtain ⟨hcs, lk⟩ := lk
  obtain ⟨⟨C9, T9, N9⟩, hcl, hC9⟩ := hcs ci hci
  cases hC9
  refine zg_run (a := (Value.ref a :: vs.map zw_tv).toArray) (fun H locs ls => ?_) kret kexc
  obtain ⟨p, l, e, R, s, m, args, below, meth, c, Z, Q⟩ := X
  obtain ⟨hx, hb, hml, hown, hts, hK, hzs, hbs, -⟩ := ok
  intro hR hz hc hl
  have cw := lk R s args Z rm hts hK hf.1
  have hM9 := hM hE
  unfold zw_Met at hM9
  exact vx_runSU (hK.1.1 _ _ hcl).2 (As := vs.map zw_tv) (rest := rest) ⟨hx, hb, hml, hown, hts⟩ hM9 cw ⟨zw_blind Z h _, va_recv hK.1 (zr_one hR ha) (q := (C9, T9, N9)) (q0 := 0) (fs := fs) hcl rfl, fun U hU hW => ⟨rfl, by rw [hU]; exact hR, zw_K.warm hW hK⟩⟩ rfl (by simp) hl.1 rfl (lv_room (zw_w8 hw)) d hf.2
def zw_LI (own : String) (idx : Nat)  (y : MethodName) (b : ByteArray) (mL : Nat) (ret : Option FieldType) (n : Nat) : Prop := ∀ (R : Room) (s : State) (args : Array Value) (Z : zw_Z) (rm : Room), (∀ w ∈ lw_all, w.before args s = true) → zw_K Z s → zw_bd rm R mL → CallB R s args own idx y b mL none (ws_ y b mL none) rm rm.cells rm.slots n ∧ y.name = "<init>" ∧ (Cond.instanceMethod y).before args s = true
theorem zg_callI  (ok : zw_ok X cc own nm nL) (hRm : zw_rm X = R0) (lk : zw_LI own idx  y b mL ret vs.length) (d : decode cc pc = .ok (.invokespecial idx, 3)) (hr0 : r ≠ none) (hE : P) (hM : P → zw_Met (zw_l X) (zw_Zf X) y (ws_ y b mL none) rm (zA r :: vs) h Qv Xp) (hst : S = (vs.map zw_tv).reverse ++ va_rf r :: rest) (hw : rest.length ≤ 4) (hf : zw_fit kc ks rm R0 mL) (kret : ∀ v h', Qv v h' → zw_G X (kc + rm.cells) (ks + rm.slots) nL h' (pc + 3) L (v.toList ++ rest)) (kexc : ∀ E q h', Xp E q h' → zw_GX X (kc + rm.cells) (ks + rm.slots) nL h' pc L rest E q) : zw_G X kc ks nL h pc L S := by
  subst hst
  subst hRm
  obtain ⟨a, rfl⟩ := Option.ne_none_iff_exists'.mp hr0
  refine zg_run (a := (Value.ref a :: vs.map zw_tv).toArray) (fun H locs ls => ?_) kret kexc
  obtain ⟨p, l, e, R, s, m, args, below, meth, c, Z, Q⟩ := X
  obtain ⟨hx, hb, hml, hown, hts, hK, hzs, hbs, -⟩ := ok
  intro hR hz hc hl
  have cw := lk R s args Z rm hts hK hf.1
  have hM9 := hM hE
  unfold zw_Met at hM9
  exact vx_runI (As := vs.map zw_tv) (rest := rest) ⟨hx, hb, hml, hown, hts⟩ hM9 cw ⟨zw_blind Z h _, fun U hU hW => ⟨rfl, by rw [hU]; exact hR, zw_K.warm hW hK⟩⟩ rfl (by simp) hl.1 rfl (lv_room (zw_w8 hw)) d hf.2
def zw_LIN (own : String) (idx : Nat) (host : String) (y : MethodName) (b : ByteArray) (mL : Nat) (ret : Option FieldType) (n : Nat) : Prop := ∀ (R : Room) (s : State) (args : Array Value) (Z : zw_Z) (rm : Room), (∀ w ∈ lw_all, w.before args s = true) → zw_K Z s → zw_bd rm R mL → va_CN R s args own idx y host b mL none (ws_ y b mL none) rm rm.cells rm.slots n ∧ y.name = "<init>" ∧ (Cond.instanceMethod y).before args s = true
theorem zg_callIN {host : String} (ok : zw_ok X cc own nm nL) (hRm : zw_rm X = R0) (lk : zw_LIN own idx host y b mL ret vs.length) (d : decode cc pc = .ok (.invokespecial idx, 3)) (hr0 : r ≠ none) (hE : P) (hM : P → zw_Met (zw_l X) (zw_Zf X) y (ws_ y b mL none) rm (zA r :: vs) h Qv Xp) (hst : S = (vs.map zw_tv).reverse ++ va_rf r :: rest) (hw : rest.length ≤ 4) (hf : zw_fit kc ks rm R0 mL) (kret : ∀ v h', Qv v h' → zw_G X (kc + rm.cells) (ks + rm.slots) nL h' (pc + 3) L (v.toList ++ rest)) (kexc : ∀ E q h', Xp E q h' → zw_GX X (kc + rm.cells) (ks + rm.slots) nL h' pc L rest E q) : zw_G X kc ks nL h pc L S := by
  subst hst
  subst hRm
  obtain ⟨a, rfl⟩ := Option.ne_none_iff_exists'.mp hr0
  refine zg_run (a := (Value.ref a :: vs.map zw_tv).toArray) (fun H locs ls => ?_) kret kexc
  obtain ⟨p, l, e, R, s, m, args, below, meth, c, Z, Q⟩ := X
  obtain ⟨hx, hb, hml, hown, hts, hK, hzs, hbs, -⟩ := ok
  intro hR hz hc hl
  have cw := lk R s args Z rm hts hK hf.1
  have hM9 := hM hE
  unfold zw_Met at hM9
  exact vx_runIN (As := vs.map zw_tv) (rest := rest) ⟨hx, hb, hml, hown, hts⟩ hM9 cw ⟨zw_blind Z h _, fun U hU hW => ⟨rfl, by rw [hU]; exact hR, zw_K.warm hW hK⟩⟩ rfl (by simp) hl.1 rfl (lv_room (zw_w8 hw)) d hf.2
theorem zg_objInit {a : Nat} (ok : zw_ok X cc own nm nL) (hRm : zw_rm X = R0) (lk : Cond.methodLink own idx Lib.objectInit ∈ lw_all) (hr : 1 ≤ R0.frames ∧ 20 ≤ R0.locals) (hw : rest.length ≤ 4) (d : decode cc pc = .ok (.invokespecial idx, 3)) (g : zw_G X kc ks nL h (pc + 3) L rest) : zw_G X kc ks nL h pc L (va_rf (some a) :: rest) := by
  subst hRm
  obtain ⟨p, l, e, R, s, m, args, below, meth, c, Z, Q⟩ := X
  obtain ⟨hx, hb, hml, hown, hts, hK, hzs, hbs, -⟩ := ok
  intro H locs ls hR hz hc hl
  refine W.objInit hx hb hown (hts _ lk) (hts _ q159) (hts _ q160) rfl (by rw [hml]; exact hl.1) rfl d hr.1 (by have := zw_w8 hw; show 2 * 0 + (rest.map fun v => v.category).sum + 12 ≤ R.locals; have h9 : 20 ≤ R.locals := hr.2; omega) ?_
  exact g H locs ls hR hz hc hl
theorem zg_retI {Q9 : Int32 → zw_H → Prop} (g : ∀ x h', Q9 x h' → zw_G X kc ks nL h' pc L (.int x :: rest)) : ∀ v h', zq_I Q9 v h' → zw_G X kc ks nL h' pc L (v.toList ++ rest) := by
  rintro v h' ⟨x, rfl, hq⟩
  exact g x h' hq
theorem zg_retJ {Q9 : Int64 → zw_H → Prop} (g : ∀ x h', Q9 x h' → zw_G X kc ks nL h' pc L (.long x :: rest)) : ∀ v h', zq_J Q9 v h' → zw_G X kc ks nL h' pc L (v.toList ++ rest) := by
  rintro v h' ⟨x, rfl, hq⟩
  exact g x h' hq
theorem zg_retF {Q9 : UInt32 → zw_H → Prop} (g : ∀ x h', Q9 x h' → zw_G X kc ks nL h' pc L (.float x :: rest)) : ∀ v h', zq_F Q9 v h' → zw_G X kc ks nL h' pc L (v.toList ++ rest) := by
  rintro v h' ⟨x, rfl, hq⟩
  exact g x h' hq
theorem zg_retD {Q9 : UInt64 → zw_H → Prop} (g : ∀ x h', Q9 x h' → zw_G X kc ks nL h' pc L (.double x :: rest)) : ∀ v h', zq_D Q9 v h' → zw_G X kc ks nL h' pc L (v.toList ++ rest) := by
  rintro v h' ⟨x, rfl, hq⟩
  exact g x h' hq
theorem zg_retA {Q9 : Option Nat → zw_H → Prop} (g : ∀ x h', Q9 x h' → zw_G X kc ks nL h' pc L (va_rf x :: rest)) : ∀ v h', zq_A Q9 v h' → zw_G X kc ks nL h' pc L (v.toList ++ rest) := by
  rintro v h' ⟨x, rfl, hq⟩
  exact g x h' hq
theorem zg_retV {Q9 : zw_H → Prop} (g : ∀ h', Q9 h' → zw_G X kc ks nL h' pc L rest) : ∀ v h', zq_V Q9 v h' → zw_G X kc ks nL h' pc L (v.toList ++ rest) := by
  rintro v h' ⟨rfl, hq⟩
  exact g h' hq
theorem zg_iret {mc ms : Nat} {x : Int32} {Q9 : Int32 → zw_H → Prop} (ok : zw_ok X cc own nm nL) (fin : zw_fin X (some .int) (zq_I Q9) Xp mc ms) (d : decode cc pc = .ok (.ireturn, 1)) (hb9 : kc ≤ mc ∧ ks ≤ ms) (hE : Q9 x h) : zw_G X kc ks nL h pc L [.int x] := by
  obtain ⟨p, l, e, R, s, m, args, below, meth, c, Z, Q⟩ := X
  obtain ⟨hx, hb, hml, hown, hts, hK, hzs, hbs, -, -, hlocks⟩ := ok
  obtain ⟨hr, rfl⟩ := fin
  intro H locs ls hR hz hc hl
  refine W.widen hb9.1 hb9.2 (vx_ret ?_)
  exact W.iret hx hb hr (fun t ht hW => ⟨_, h, rfl, ⟨x, rfl, hE⟩, by rw [ht]; exact hR, by rw [ht]; exact hz⟩) hc d hlocks
theorem zg_zret {mc ms : Nat} {x : Int32} {Q9 : Int32 → zw_H → Prop} (ok : zw_ok X cc own nm nL) (fin : zw_fin X (some .boolean) (zq_I Q9) Xp mc ms) (d : decode cc pc = .ok (.ireturn, 1)) (hb9 : kc ≤ mc ∧ ks ≤ ms) (hn : narrow .boolean (.int x) = .int x) (hE : Q9 x h) : zw_G X kc ks nL h pc L [.int x] := by
  obtain ⟨p, l, e, R, s, m, args, below, meth, c, Z, Q⟩ := X
  obtain ⟨hx, hb, hml, hown, hts, hK, hzs, hbs, -, -, hlocks⟩ := ok
  obtain ⟨hr, rfl⟩ := fin
  intro H locs ls hR hz hc hl
  refine W.widen hb9.1 hb9.2 (vx_ret ?_)
  exact W.zret hx hb hr hn (fun t ht hW => ⟨_, h, rfl, ⟨x, rfl, hE⟩, by rw [ht]; exact hR, by rw [ht]; exact hz⟩) hc d hlocks
theorem zg_bret {mc ms : Nat} {x : Int32} {Q9 : Int32 → zw_H → Prop} (ok : zw_ok X cc own nm nL) (fin : zw_fin X (some .byte) (zq_I Q9) Xp mc ms) (d : decode cc pc = .ok (.ireturn, 1)) (hb9 : kc ≤ mc ∧ ks ≤ ms) (hn : narrow .byte (.int x) = .int x) (hE : Q9 x h) : zw_G X kc ks nL h pc L [.int x] := by
  obtain ⟨p, l, e, R, s, m, args, below, meth, c, Z, Q⟩ := X
  obtain ⟨hx, hb, hml, hown, hts, hK, hzs, hbs, -, -, hlocks⟩ := ok
  obtain ⟨hr, rfl⟩ := fin
  intro H locs ls hR hz hc hl
  refine W.widen hb9.1 hb9.2 (vx_ret ?_)
  exact W.zret hx hb hr hn (fun t ht hW => ⟨_, h, rfl, ⟨x, rfl, hE⟩, by rw [ht]; exact hR, by rw [ht]; exact hz⟩) hc d hlocks
theorem zg_cret {mc ms : Nat} {x : Int32} {Q9 : Int32 → zw_H → Prop} (ok : zw_ok X cc own nm nL) (fin : zw_fin X (some .char) (zq_I Q9) Xp mc ms) (d : decode cc pc = .ok (.ireturn, 1)) (hb9 : kc ≤ mc ∧ ks ≤ ms) (hn : narrow .char (.int x) = .int x) (hE : Q9 x h) : zw_G X kc ks nL h pc L [.int x] := by
  obtain ⟨p, l, e, R, s, m, args, below, meth, c, Z, Q⟩ := X
  obtain ⟨hx, hb, hml, hown, hts, hK, hzs, hbs, -, -, hlocks⟩ := ok
  obtain ⟨hr, rfl⟩ := fin
  intro H locs ls hR hz hc hl
  refine W.widen hb9.1 hb9.2 (vx_ret ?_)
  exact W.zret hx hb hr hn (fun t ht hW => ⟨_, h, rfl, ⟨x, rfl, hE⟩, by rw [ht]; exact hR, by rw [ht]; exact hz⟩) hc d hlocks
theorem zg_lret {mc ms : Nat} {x : Int64} {Q9 : Int64 → zw_H → Prop} (ok : zw_ok X cc own nm nL) (fin : zw_fin X (some .long) (zq_J Q9) Xp mc ms) (d : decode cc pc = .ok (.lreturn, 1)) (hb9 : kc ≤ mc ∧ ks ≤ ms) (hE : Q9 x h) : zw_G X kc ks nL h pc L [.long x] := by
  obtain ⟨p, l, e, R, s, m, args, below, meth, c, Z, Q⟩ := X
  obtain ⟨hx, hb, hml, hown, hts, hK, hzs, hbs, -, -, hlocks⟩ := ok
  obtain ⟨hr, rfl⟩ := fin
  intro H locs ls hR hz hc hl
  refine W.widen hb9.1 hb9.2 (vx_ret ?_)
  exact W.lret hx hb hr (fun t ht hW => ⟨_, h, rfl, ⟨x, rfl, hE⟩, by rw [ht]; exact hR, by rw [ht]; exact hz⟩) hc d hlocks
theorem zg_fret {mc ms : Nat} {x : UInt32} {Q9 : UInt32 → zw_H → Prop} (ok : zw_ok X cc own nm nL) (fin : zw_fin X (some .float) (zq_F Q9) Xp mc ms) (d : decode cc pc = .ok (.freturn, 1)) (hb9 : kc ≤ mc ∧ ks ≤ ms) (hE : Q9 x h) : zw_G X kc ks nL h pc L [.float x] := by
  obtain ⟨p, l, e, R, s, m, args, below, meth, c, Z, Q⟩ := X
  obtain ⟨hx, hb, hml, hown, hts, hK, hzs, hbs, -, -, hlocks⟩ := ok
  obtain ⟨hr, rfl⟩ := fin
  intro H locs ls hR hz hc hl
  refine W.widen hb9.1 hb9.2 (vx_ret ?_)
  exact W.fret hx hb hr (fun t ht hW => ⟨_, h, rfl, ⟨x, rfl, hE⟩, by rw [ht]; exact hR, by rw [ht]; exact hz⟩) hc d hlocks
theorem zg_dret {mc ms : Nat} {x : UInt64} {Q9 : UInt64 → zw_H → Prop} (ok : zw_ok X cc own nm nL) (fin : zw_fin X (some .double) (zq_D Q9) Xp mc ms) (d : decode cc pc = .ok (.dreturn, 1)) (hb9 : kc ≤ mc ∧ ks ≤ ms) (hE : Q9 x h) : zw_G X kc ks nL h pc L [.double x] := by
  obtain ⟨p, l, e, R, s, m, args, below, meth, c, Z, Q⟩ := X
  obtain ⟨hx, hb, hml, hown, hts, hK, hzs, hbs, -, -, hlocks⟩ := ok
  obtain ⟨hr, rfl⟩ := fin
  intro H locs ls hR hz hc hl
  refine W.widen hb9.1 hb9.2 (vx_ret ?_)
  exact W.dret hx hb hr (fun t ht hW => ⟨_, h, rfl, ⟨x, rfl, hE⟩, by rw [ht]; exact hR, by rw [ht]; exact hz⟩) hc d hlocks
theorem zg_aret {mc ms : Nat} {x : Option Nat} {rt : FieldType} {Q9 : Option Nat → zw_H → Prop} (ok : zw_ok X cc own nm nL) (fin : zw_fin X (some rt) (zq_A Q9) Xp mc ms) (hrt : (∃ n, rt = .object n) ∨ ∃ t, rt = .array t) (d : decode cc pc = .ok (.areturn, 1)) (hb9 : kc ≤ mc ∧ ks ≤ ms) (hE : Q9 x h) : zw_G X kc ks nL h pc L [va_rf x] := by
  obtain ⟨p, l, e, R, s, m, args, below, meth, c, Z, Q⟩ := X
  obtain ⟨hx, hb, hml, hown, hts, hK, hzs, hbs, -, -, hlocks⟩ := ok
  obtain ⟨hr, rfl⟩ := fin
  intro H locs ls hR hz hc hl
  refine W.widen hb9.1 hb9.2 (vx_ret ?_)
  exact W.aret hx hb hr hrt (by cases x; exact Or.inl rfl; exact Or.inr ⟨_, rfl⟩) (fun t ht hW => ⟨_, h, rfl, ⟨x, rfl, hE⟩, by rw [ht]; exact hR, by rw [ht]; exact hz⟩) hc d hlocks
theorem zg_vret {mc ms : Nat} {Q9 : zw_H → Prop} (ok : zw_ok X cc own nm nL) (fin : zw_fin X none (zq_V Q9) Xp mc ms) (d : decode cc pc = .ok (.return_, 1)) (hb9 : kc ≤ mc ∧ ks ≤ ms) (hE : Q9 h) : zw_G X kc ks nL h pc L [] := by
  obtain ⟨p, l, e, R, s, m, args, below, meth, c, Z, Q⟩ := X
  obtain ⟨hx, hb, hml, hown, hts, hK, hzs, hbs, -, -, hlocks⟩ := ok
  obtain ⟨hr, rfl⟩ := fin
  intro H locs ls hR hz hc hl
  refine W.widen hb9.1 hb9.2 (vx_ret ?_)
  exact W.vret hx hb hr (fun t ht hW => ⟨_, h, rfl, ⟨rfl, hE⟩, by rw [ht]; exact hR, by rw [ht]; exact hz⟩) hc d hlocks
theorem zg_xout {mc ms : Nat} {E : String} {q : Nat} {T : List ExceptionTableEntry} (ok : zw_ok X cc own nm nL) (tab : zw_tab X T) (fin : zw_fin X ret Qv Xp mc ms) (hT : ∀ z ∈ T, covers z pc = false) (hb9 : kc ≤ mc ∧ ks ≤ ms) (hE : Xp E q h) : zw_GX X kc ks nL h pc L rest E q := by
  obtain ⟨p, l, e, R, s, m, args, below, meth, c, Z, Q⟩ := X
  obtain ⟨hx, hb, hml, hown, hts, hK, hzs, hbs, -, -, hlocks⟩ := ok
  obtain ⟨hr, rfl⟩ := fin
  have tab : c.exceptionTable.toList = T := tab
  intro H locs ls ce hR hz hc hl hce hcv hcl
  exact vx_out (by rw [tab]; exact hT) hlocks hce hcv hcl (fun t ht hW => ⟨h, hE, by rw [ht]; exact hR, by rw [ht]; exact hz⟩) hc hb9.1 hb9.2
theorem zg_xok {mc ms : Nat} (ok : zw_ok X cc own nm nL) (tab : zw_tab X []) (fin : zw_fin X ret Qv Xp mc ms) (hb9 : kc ≤ mc ∧ ks ≤ ms) : ∀ E q h', Xp E q h' → zw_GX X kc ks nL h' pc L rest E q := fun _ _ _ hE => zg_xout ok tab fin (fun z hz => by cases hz) hb9 hE
/-- caught by the handler x of this method; those ahead don't take it -/
theorem zg_catch {name : String} {E : String} {q : Nat} {T : List ExceptionTableEntry} (ok : zw_ok X cc own nm nL) (tab : zw_tab X T) (pre : List ExceptionTableEntry) (x9 : ExceptionTableEntry) (suf : List ExceptionTableEntry) (hT : T = pre ++ x9 :: suf) (hpass : ∀ z ∈ pre, covers z pc = false ∨ (z.catchType ≠ 0 ∧ ∃ n9 : String, Cond.classLink own z.catchType n9 ∈ lw_all ∧ (E, n9) ∈ zwNc)) (hx9 : covers x9 pc = true) (h0 : x9.catchType ≠ 0)
    (hlink : Cond.classLink own x9.catchType name ∈ lw_all) (hcast : Cond.castable E name ∈ lw_tbl) (g : zw_G X kc ks nL h x9.handlerPc L [va_rf (some q)]) : zw_GX X kc ks nL h pc L rest E q := by
  obtain ⟨p, l, e, R, s, m, args, below, meth, c, Z, Q⟩ := X
  obtain ⟨hx, hb, hml, hown, hts, hK, hzs, hbs, -, -, hlocks⟩ := ok
  have tab : c.exceptionTable.toList = T := tab
  intro H locs ls ce hR hz hc hl hce hcv hcl
  refine vx_catch hown pre x9 suf (tab.trans hT) (fun z hz9 => ?_) hx9 h0 (hts _ hlink) (va_Nw.use rfl (hK.2.1 _ hcast rfl)) hce hcv hcl (g H locs ls hR hz hc hl)
  rcases hpass z hz9 with h1 | ⟨h1, n9, h2, h3⟩
  · exact Or.inl h1
  · exact Or.inr ⟨h1, n9, hts _ h2, hK.2.2.2.2.2.2.2.2.2.2.1 _ h3⟩
/-- 'throw x', of an object that the pure heap knows -/
theorem zg_athrow {ci : Nat} {fs : List Value} {q : Nat} {E : String} (ok : zw_ok X cc own nm nL) (hq : h q = some (.inr (ci, fs))) (hci : ∃ w : vw_C, zwCl[ci]? = some w ∧ w.1 = E) (d : decode cc pc = .ok (.athrow, 1)) (g : zw_GX X kc ks nL h pc L rest E q) : zw_G X kc ks nL h pc L (va_rf (some q) :: rest) := by
  obtain ⟨p, l, e, R, s, m, args, below, meth, c, Z, Q⟩ := X
  obtain ⟨hx, hb, hml, hown, hts, hK, hzs, hbs, -, -, hlocks⟩ := ok
  obtain ⟨w, hw, rfl⟩ := hci
  intro H locs ls hR hz hc hl
  obtain ⟨r9, h1, ce, q1, q2, q3, q4⟩ := zr_one hR hq 0 _ rfl
  have e9 : r9 = w := Option.some.inj (h1.symm.trans hw)
  subst e9
  exact vx_athrow hx hb d (g H locs ls ce hR hz hc hl q1 q3 (by rw [q2]; exact (hK.1.1 _ _ hw).2.1))
/-- 'throw new E()' of a JDK class of the known chain -/
def zw_Thr (own : String) (ik ic : Nat) (E : String) (names : List String) : Prop :=
  Bundle.fit E = true ∧ (∀ n ∈ names, Bundle.fit n = true) ∧ Cond.classLink own ik E ∈ lw_all ∧ Cond.initialized E ∈ lw_all ∧ ∀ w ∈ vx_at0 own ic E names, (w ∈ lw_all ∨ (w ∈ lw_tbl ∧ zw_kd w = true)) ∧ vx_ot w = true
theorem zw_kd_tab {w : Cond} (h : zw_kd w = true) : w.onTables = true := by
  cases w <;> first | rfl | (exfalso; revert h; simp [zw_kd])
theorem zg_throw0 {mc ms ik ic : Nat} {E : String} {names : List String} {T : List ExceptionTableEntry} (ok : zw_ok X cc own nm nL) (tab : zw_tab X T) (fin : zw_fin X ret Qv Xp mc ms) (hRm : zw_rm X = R0) (lk : zw_Thr own ik ic E names) (d0 : decode cc pc = .ok (.new ik, 3)) (d3 : decode cc (pc + 3) = .ok (.dup, 1)) (d4 : decode cc (pc + 4) = .ok (.invokespecial ic, 3)) (d7 : decode cc (pc + 7) = .ok (.athrow, 1)) (hT : ∀ z ∈ T, covers z (pc + 7) = false)
    (hRs : names.length + 3 < R0.frames ∧ 8 + (13 * (names.length + 1) + 42) ≤ R0.locals ∧ kc + 1 ≤ R0.cells ∧ ks + 6 ≤ R0.slots) (hw : S.length ≤ 4) (hb9 : kc + 1 ≤ mc ∧ ks + 6 ≤ ms) (hE : ∀ q : Nat, Xp E q h) : zw_G X kc ks nL h pc L S := by
  subst hRm
  obtain ⟨p, l, e, R, s, m, args, below, meth, c, Z, Q⟩ := X
  obtain ⟨hx, hb, hml, hown, hts, hK, hzs, hbs, hfl, -, hlocks⟩ := ok
  obtain ⟨hr, rfl⟩ := fin
  obtain ⟨k1, k2, k3, k4, k5⟩ := lk
  have tab : c.exceptionTable.toList = T := tab
  intro H locs ls hR hz hc hl
  have hS := zr_S hR hbs hz hc
  have hg1 : vx_ot (Cond.classLink own ik E) = true := rfl
  have hg2 : vx_ot (Cond.initialized E) = true := rfl
  refine vx_throw0 (cls := E) (names := names) (ik := ik) (ic := ic) (A := zw_A Z) hx hb hfl hown k1 k2 (hts _ k3) (hts _ k4) (fun w hw => ?_) (fun w hw => ?_) (hK.2.2.2.2.2.2.2.2.1.kept (fun a _ ha => hbs a (Nat.lt_of_not_le ha))) (hK.2.2.2.2.2.2.2.2.2.1.kept (fun a _ ha => hbs a (Nat.lt_of_not_le ha))) hS (by rw [hml]; exact hl.1) d0 d3 d4 d7 (by rw [tab]; exact hT) hRs.1 ?_ hRs.2.2.1 hRs.2.2.2 hlocks (fun t hal hsz hk q9 => ⟨h, hE q9, ?_, Nat.le_trans hz hsz⟩) hc hb9.1 hb9.2
  · rcases (k5 w hw).1 with h1 | ⟨h1, h2⟩
    · exact hts _ h1
    · exact va_Nw.use (zw_kd_tab h2) (hK.2.1 _ h1 h2)
  · rcases List.mem_cons.mp hw with rfl | hw
    · exact hg1
    · rcases List.mem_cons.mp hw with rfl | hw
      · exact hg2
      · exact (k5 w hw).2
  · have := zw_w8 hw
    have h9 := hRs.2.1
    show _ ≤ R.locals
    have h10 : 8 + (13 * (names.length + 1) + 42) ≤ R.locals := h9
    omega
  · refine ⟨Nat.le_trans hR.1 hsz, fun q hq => (hk q (Nat.lt_of_lt_of_le hq hR.1)).trans (hR.2.1 q hq), fun a x9 hx9 => ⟨?_, (hR.2.2 a x9 hx9).2⟩⟩
    have h1 := (hR.2.2 a x9 hx9).1
    exact h1.kept (hk a h1.lt)
end ZWC
