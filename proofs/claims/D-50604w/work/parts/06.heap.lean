set_option maxRecDepth 100000
/-! the heap's operations, as predicates with what follows (F) -/
/-- a field, of an object whose class is one of cs -/
def zg_f (h : zw_H) (r : Option Nat) (cs : List Nat) (k : Nat) : Option Value := match r with
  | none => none
  | some a => match h a with
    | some (.inr o) => if o.1 ∈ cs then o.2[k]? else none
    | _ => none
def og_I (h : zw_H) (r : Option Nat) (cs : List Nat) (k : Nat) (F : Int32 → Prop) : Prop := match zg_f h r cs k with
  | some (.int x) => F x
  | _ => False
def og_J (h : zw_H) (r : Option Nat) (cs : List Nat) (k : Nat) (F : Int64 → Prop) : Prop := match zg_f h r cs k with
  | some (.long x) => F x
  | _ => False
def og_D (h : zw_H) (r : Option Nat) (cs : List Nat) (k : Nat) (F : UInt64 → Prop) : Prop := match zg_f h r cs k with
  | some (.double x) => F x
  | _ => False
def og_F (h : zw_H) (r : Option Nat) (cs : List Nat) (k : Nat) (F : UInt32 → Prop) : Prop := match zg_f h r cs k with
  | some (.float x) => F x
  | _ => False
def og_A (h : zw_H) (r : Option Nat) (cs : List Nat) (k : Nat) (F : Option Nat → Prop) : Prop := match zg_f h r cs k with
  | some (.ref a) => F (some a)
  | some .null => F none
  | _ => False
def op_V (h : zw_H) (r : Option Nat) (cs : List Nat) (k : Nat) (v : Value) (F : zw_H → Prop) : Prop := match r with
  | none => False
  | some a => match h a with
    | some (.inr o) => o.1 ∈ cs ∧ k < o.2.length ∧ F (zw_up h a (.inr (o.1, o.2.set k v)))
    | _ => False
/-- the object's class is one of cs -/
def oc_ (h : zw_H) (r : Option Nat) (cs : List Nat) (P : Prop) : Prop := match r with
  | none => False
  | some a => match h a with
    | some (.inr o) => o.1 ∈ cs ∧ P
    | _ => False
/-- null, or an object of one of cs -/
def on_ (h : zw_H) (r : Option Nat) (cs : List Nat) (P : Prop) : Prop := match r with
  | none => P
  | some a => match h a with
    | some (.inr o) => o.1 ∈ cs ∧ P
    | _ => False
def oa_I (h : zw_H) (r : Option Nat) (ts : List Nat) (i : Int32) (F : Int32 → Prop) : Prop := match r with
  | none => False
  | some a => match h a with
    | some (.inl (t, n, .inl f)) => t ∈ ts ∧ vp_in i n ∧ F (f i.toNatClampNeg)
    | _ => False
def oa_J (h : zw_H) (r : Option Nat) (ts : List Nat) (i : Int32) (F : Int64 → Prop) : Prop := match r with
  | none => False
  | some a => match h a with
    | some (.inl (t, n, .inr (.inl f))) => t ∈ ts ∧ vp_in i n ∧ F (f i.toNatClampNeg)
    | _ => False
def oa_D (h : zw_H) (r : Option Nat) (ts : List Nat) (i : Int32) (F : UInt64 → Prop) : Prop := match r with
  | none => False
  | some a => match h a with
    | some (.inl (t, n, .inr (.inr (.inr (.inl f))))) => t ∈ ts ∧ vp_in i n ∧ F (f i.toNatClampNeg)
    | _ => False
def oa_A (h : zw_H) (r : Option Nat) (ts : List Nat) (i : Int32) (F : Option Nat → Prop) : Prop := match r with
  | none => False
  | some a => match h a with
    | some (.inl (t, n, .inr (.inr (.inr (.inr f))))) => t ∈ ts ∧ vp_in i n ∧ F (f i.toNatClampNeg)
    | _ => False
def os_I (h : zw_H) (r : Option Nat) (ts : List Nat) (i x : Int32) (F : zw_H → Prop) : Prop := match r with
  | none => False
  | some a => match h a with
    | some (.inl (t, n, .inl f)) => t ∈ ts ∧ vp_in i n ∧ F (zw_up h a (.inl (t, n, .inl (upd f i.toNatClampNeg x))))
    | _ => False
def os_J (h : zw_H) (r : Option Nat) (ts : List Nat) (i : Int32) (x : Int64) (F : zw_H → Prop) : Prop := match r with
  | none => False
  | some a => match h a with
    | some (.inl (t, n, .inr (.inl f))) => t ∈ ts ∧ vp_in i n ∧ F (zw_up h a (.inl (t, n, .inr (.inl (vp_updL f i.toNatClampNeg x)))))
    | _ => False
def os_D (h : zw_H) (r : Option Nat) (ts : List Nat) (i : Int32) (x : UInt64) (F : zw_H → Prop) : Prop := match r with
  | none => False
  | some a => match h a with
    | some (.inl (t, n, .inr (.inr (.inr (.inl f))))) => t ∈ ts ∧ vp_in i n ∧ F (zw_up h a (.inl (t, n, .inr (.inr (.inr (.inl (vf_upd f i.toNatClampNeg x)))))))
    | _ => False
/-- a reference into an array: null, an object whose class cs says, an array whose kind us says -/
def os_ok (h : zw_H) (v : Option Nat) (cs us : List Nat) : Prop := match v with
  | none => True
  | some b => match h b with
    | some (.inr o) => o.1 ∈ cs
    | some (.inl x) => x.1 ∈ us
    | none => False
def os_A (h : zw_H) (r : Option Nat) (t0 : Nat) (cs us : List Nat) (i : Int32) (v : Option Nat) (F : zw_H → Prop) : Prop := match r with
  | none => False
  | some a => match h a with
    | some (.inl (t, n, .inr (.inr (.inr (.inr f))))) => t = t0 ∧ vp_in i n ∧ os_ok h v cs us ∧ F (zw_up h a (.inl (t, n, .inr (.inr (.inr (.inr (va_up f i.toNatClampNeg v)))))))
    | _ => False
def ol_ (h : zw_H) (r : Option Nat) (F : Int32 → Prop) : Prop := match r with
  | none => False
  | some a => match h a with
    | some (.inl x) => x.1 < 14 ∧ F (Int32.ofNat x.2.1)
    | _ => False
/-- a new cell -/
def on_C (h : zw_H) (x : zw_C) (F : Nat → zw_H → Prop) : Prop := ∀ a : Nat, h a = none → F a (zw_up h a x)
def on_I (h : zw_H) (t : Nat) (n : Int32) (b : Nat) (F : Nat → zw_H → Prop) : Prop := ¬ n < 0 ∧ n.toNatClampNeg ≤ b ∧ on_C h (.inl (t, n.toNatClampNeg, .inl (fun _ => 0))) F
def on_J (h : zw_H) (t : Nat) (n : Int32) (b : Nat) (F : Nat → zw_H → Prop) : Prop := ¬ n < 0 ∧ n.toNatClampNeg ≤ b ∧ on_C h (.inl (t, n.toNatClampNeg, .inr (.inl (fun _ => 0)))) F
def on_D (h : zw_H) (t : Nat) (n : Int32) (b : Nat) (F : Nat → zw_H → Prop) : Prop := ¬ n < 0 ∧ n.toNatClampNeg ≤ b ∧ on_C h (.inl (t, n.toNatClampNeg, .inr (.inr (.inr (.inl (fun _ => 0)))))) F
def on_A (h : zw_H) (t : Nat) (n : Int32) (b : Nat) (F : Nat → zw_H → Prop) : Prop := ¬ n < 0 ∧ n.toNatClampNeg ≤ b ∧ on_C h (.inl (t, n.toNatClampNeg, .inr (.inr (.inr (.inr (fun _ => none)))))) F
/-- a value with a name -/
def olet {α : Type} (x : α) (F : α → Prop) : Prop := ∀ v, v = x → F v
theorem olet_iff {α : Type} {x : α} {F : α → Prop} : olet x F ↔ F x := ⟨fun h => h x rfl, fun h v e => e ▸ h⟩
/-! ends of methods, by the type of the answer -/
def zq_V (Q : zw_H → Prop) : Option Value → zw_H → Prop := fun v h => v = none ∧ Q h
def zq_I (Q : Int32 → zw_H → Prop) : Option Value → zw_H → Prop := fun v h => ∃ x, v = some (.int x) ∧ Q x h
def zq_J (Q : Int64 → zw_H → Prop) : Option Value → zw_H → Prop := fun v h => ∃ x, v = some (.long x) ∧ Q x h
def zq_F (Q : UInt32 → zw_H → Prop) : Option Value → zw_H → Prop := fun v h => ∃ x, v = some (.float x) ∧ Q x h
def zq_D (Q : UInt64 → zw_H → Prop) : Option Value → zw_H → Prop := fun v h => ∃ x, v = some (.double x) ∧ Q x h
def zq_A (Q : Option Nat → zw_H → Prop) : Option Value → zw_H → Prop := fun v h => ∃ r, v = some (va_rf r) ∧ Q r h
/-! loops: B the body, with what follows the next round -/
def zl1 {α : Type} (B : (α → Prop) → α → Prop) : Nat → α → Prop
  | 0 => fun _ => False
  | n + 1 => B (zl1 B n)
def zl2 {α β : Type} (B : (α → β → Prop) → α → β → Prop) : Nat → α → β → Prop
  | 0 => fun _ _ => False
  | n + 1 => B (zl2 B n)
def zl3 {α β γ : Type} (B : (α → β → γ → Prop) → α → β → γ → Prop) : Nat → α → β → γ → Prop
  | 0 => fun _ _ _ => False
  | n + 1 => B (zl3 B n)
def zl4 {α β γ δ : Type} (B : (α → β → γ → δ → Prop) → α → β → γ → δ → Prop) : Nat → α → β → γ → δ → Prop
  | 0 => fun _ _ _ _ => False
  | n + 1 => B (zl4 B n)
def zl5 {α β γ δ ε : Type} (B : (α → β → γ → δ → ε → Prop) → α → β → γ → δ → ε → Prop) : Nat → α → β → γ → δ → ε → Prop
  | 0 => fun _ _ _ _ _ => False
  | n + 1 => B (zl5 B n)
def zl6 {α β γ δ ε ζ : Type} (B : (α → β → γ → δ → ε → ζ → Prop) → α → β → γ → δ → ε → ζ → Prop) : Nat → α → β → γ → δ → ε → ζ → Prop
  | 0 => fun _ _ _ _ _ _ => False
  | n + 1 => B (zl6 B n)
def zl7 {α β γ δ ε ζ η : Type} (B : (α → β → γ → δ → ε → ζ → η → Prop) → α → β → γ → δ → ε → ζ → η → Prop) : Nat → α → β → γ → δ → ε → ζ → η → Prop
  | 0 => fun _ _ _ _ _ _ _ => False
  | n + 1 => B (zl7 B n)
def zl8 {α β γ δ ε ζ η θ : Type} (B : (α → β → γ → δ → ε → ζ → η → θ → Prop) → α → β → γ → δ → ε → ζ → η → θ → Prop) : Nat → α → β → γ → δ → ε → ζ → η → θ → Prop
  | 0 => fun _ _ _ _ _ _ _ _ => False
  | n + 1 => B (zl8 B n)
def zl9 {α β γ δ ε ζ η θ ι : Type} (B : (α → β → γ → δ → ε → ζ → η → θ → ι → Prop) → α → β → γ → δ → ε → ζ → η → θ → ι → Prop) : Nat → α → β → γ → δ → ε → ζ → η → θ → ι → Prop
  | 0 => fun _ _ _ _ _ _ _ _ _ => False
  | n + 1 => B (zl9 B n)
/-! the pure heap as a world of the kit -/
def zr_en (Z : zw_Z) (h : zw_H) (N : Nat) : va_W := (List.range N).filterMap (fun a => if Z.2.2.1.size ≤ a then (h a).map (fun x => (a, zw_va Z x)) else none)
theorem zr_en_mem {Z : zw_Z} {h : zw_H} {N : Nat} {q : Nat × va_E} : q ∈ zr_en Z h N ↔ ∃ a x, a < N ∧ Z.2.2.1.size ≤ a ∧ h a = some x ∧ q = (a, zw_va Z x) := by
  unfold zr_en
  rw [List.mem_filterMap]
  constructor
  · rintro ⟨a, ha, he⟩
    by_cases hc : Z.2.2.1.size ≤ a
    · rw [if_pos hc] at he
      cases hx : h a with
      | none => rw [hx] at he; cases he
      | some x => rw [hx] at he; exact ⟨a, x, List.mem_range.mp ha, hc, hx, (Option.some.inj he).symm⟩
    · rw [if_neg hc] at he; cases he
  · rintro ⟨a, x, h1, h2, h3, rfl⟩
    exact ⟨a, List.mem_range.mpr h1, by rw [if_pos h2, h3]; rfl⟩
theorem zr_en_pw (Z : zw_Z) (h : zw_H) (N : Nat) : (zr_en Z h N).Pairwise (fun p q => p.1 < q.1) := by
  unfold zr_en
  rw [List.pairwise_filterMap]
  refine List.Pairwise.imp ?_ List.pairwise_lt_range
  intro a b hab p hp q hq
  have key : ∀ {c : Nat} {z : Nat × va_E}, (if Z.2.2.1.size ≤ c then (h c).map (fun x => (c, zw_va Z x)) else none) = some z → z.1 = c := by
    intro c z hz
    by_cases hc : Z.2.2.1.size ≤ c
    · rw [if_pos hc] at hz
      cases hx : h c with
      | none => rw [hx] at hz; cases hz
      | some x => rw [hx] at hz; cases hz; rfl
    · rw [if_neg hc] at hz; cases hz
  rw [key hp, key hq]
  exact hab
theorem zr_en_D {Z : zw_Z} {h : zw_H} {N : Nat} : va_D (zw_A Z) (zr_en Z h N) := by
  refine ⟨fun i j p q hi hj hpq => ?_, fun k q hk => ?_⟩
  · have hp := List.pairwise_iff_getElem.mp (zr_en_pw Z h N)
    obtain ⟨li, ei⟩ := List.getElem?_eq_some_iff.mp hi
    obtain ⟨lj, ej⟩ := List.getElem?_eq_some_iff.mp hj
    rcases Nat.lt_trichotomy i j with z | z | z
    · have := hp i j li lj z
      rw [ei, ej] at this
      omega
    · exact z
    · have := hp j i lj li z
      rw [ei, ej] at this
      omega
  · obtain ⟨a, x, h1, h2, h3, rfl⟩ := zr_en_mem.mp (List.mem_of_getElem? hk)
    exact h2
theorem zr_en_P {Z : zw_Z} {h : zw_H} {H : Heap} (hR : zw_R Z h H) (N : Nat) : va_P Z.1 zwCl (zr_en Z h N) H := by
  intro k q hk
  obtain ⟨a, x, h1, h2, h3, rfl⟩ := zr_en_mem.mp (List.mem_of_getElem? hk)
  exact (hR.2.2 a x h3).1
theorem zr_lt {Z : zw_Z} {h : zw_H} {H : Heap} (hR : zw_R Z h H) {a : Nat} {x : zw_C} (ha : h a = some x) : a < H.size := ((hR.2.2 a x ha).1).lt
theorem zr_at {Z : zw_Z} {h : zw_H} {H : Heap} (hR : zw_R Z h H) {a : Nat} {x : zw_C} (ha : h a = some x) (hx : zw_ro x = false) : ∃ k : Nat, (zr_en Z h H.size)[k]? = some (a, zw_va Z x) :=
  List.getElem?_of_mem (zr_en_mem.mpr ⟨a, x, zr_lt hR ha, (hR.2.2 a x ha).2.mp hx, ha, rfl⟩)
theorem zr_one {Z : zw_Z} {h : zw_H} {H : Heap} (hR : zw_R Z h H) {a : Nat} {x : zw_C} (ha : h a = some x) : va_P Z.1 zwCl [(a, zw_va Z x)] H := by
  intro k q hk
  cases k with
  | zero => cases hk; exact (hR.2.2 a x ha).1
  | succ k => simp at hk
/-- a cell has changed -/
theorem zr_set {Z : zw_Z} {h : zw_H} {H H1 : Heap} (hR : zw_R Z h H) {a k : Nat} {x x1 : zw_C} (ha : h a = some x) (hk : (zr_en Z h H.size)[k]? = some (a, zw_va Z x)) (hro : zw_ro x1 = zw_ro x)
    (hz : Z.2.2.1.size ≤ H1.size) (hb : ∀ q : Nat, q < Z.2.2.1.size → H1[q]? = Z.2.2.1[q]?) (hP : va_P Z.1 zwCl ((zr_en Z h H.size).set k (a, zw_va Z x1)) H1) : zw_R Z (zw_up h a x1) H1 := by
  refine ⟨hz, hb, fun b y hy => ?_⟩
  unfold zw_up at hy
  by_cases e : b = a
  · rw [if_pos e] at hy
    cases hy
    subst e
    refine ⟨hP k _ (by rw [List.getElem?_set_self (List.getElem?_eq_some_iff.mp hk).1]), ?_⟩
    rw [hro]
    exact (hR.2.2 b x ha).2
  · rw [if_neg e] at hy
    obtain ⟨h1, h2⟩ := hR.2.2 b y hy
    refine ⟨?_, h2⟩
    by_cases hlt : Z.2.2.1.size ≤ b
    · obtain ⟨j, hj⟩ := zr_at hR hy (h2.mpr hlt)
      refine hP j _ ?_
      rw [List.getElem?_set_ne (fun z => ?_), hj]
      subst z
      rw [hk] at hj
      exact e (congrArg Prod.fst (Option.some.inj hj)).symm
    · exact h1.kept (by rw [hb b (by omega), hR.2.1 b (by omega)])
/-- a cell is new -/
theorem zr_push {Z : zw_Z} {h : zw_H} {H H1 : Heap} (hR : zw_R Z h H) {a : Nat} {x : zw_C} (hro : zw_ro x = false)
    (hz : Z.2.2.1.size ≤ H1.size) (hb : ∀ q : Nat, q < Z.2.2.1.size → H1[q]? = Z.2.2.1[q]?) (hP : va_P Z.1 zwCl (zr_en Z h H.size ++ [(a, zw_va Z x)]) H1) (hD : va_D (zw_A Z) (zr_en Z h H.size ++ [(a, zw_va Z x)])) : h a = none ∧ zw_R Z (zw_up h a x) H1 := by
  have hlast : (zr_en Z h H.size ++ [(a, zw_va Z x)])[(zr_en Z h H.size).length]? = some (a, zw_va Z x) := by simp
  have haA : Z.2.2.1.size ≤ a := hD.2 _ _ hlast
  have hnone : h a = none := by
    cases ha : h a with
    | none => rfl
    | some y =>
      obtain ⟨h1, h2⟩ := hR.2.2 a y ha
      obtain ⟨j, hj⟩ := zr_at hR ha (h2.mpr haA)
      have hjl := (List.getElem?_eq_some_iff.mp hj).1
      have e := hD.1 j _ (a, zw_va Z y) (a, zw_va Z x) (by rw [List.getElem?_append_left hjl]; exact hj) hlast rfl
      omega
  refine ⟨hnone, hz, hb, fun b y hy => ?_⟩
  unfold zw_up at hy
  by_cases e : b = a
  · rw [if_pos e] at hy
    cases hy
    subst e
    exact ⟨hP _ _ hlast, by simp [hro, haA]⟩
  · rw [if_neg e] at hy
    obtain ⟨h1, h2⟩ := hR.2.2 b y hy
    refine ⟨?_, h2⟩
    by_cases hlt : Z.2.2.1.size ≤ b
    · obtain ⟨j, hj⟩ := zr_at hR hy (h2.mpr hlt)
      exact hP j _ (by rw [List.getElem?_append_left (List.getElem?_eq_some_iff.mp hj).1]; exact hj)
    · exact h1.kept (by rw [hb b (by omega), hR.2.1 b (by omega)])
/-- the kit's frame, out of the pure one -/
theorem zr_S {Z : zw_Z} {h : zw_H} {s : State} {H : Heap} {locs : List Loc} (hR : zw_R Z h H) (hb : ∀ q : Nat, q < Z.2.2.1.size → s.heap[q]? = Z.2.2.1[q]?) (hz : s.heap.size ≤ H.size) (hc : ∀ z ∈ locs, zw_A Z z.base) : va_S (zw_A Z) s.heap H locs :=
  ⟨hz, fun q _ hq => by
    have hlt : q < Z.2.2.1.size := Nat.lt_of_not_le hq
    rw [hR.2.1 q hlt, hb q hlt], hc⟩
theorem zr_base {Z : zw_Z} {s : State} {H : Heap} {locs : List Loc} (hS : va_S (zw_A Z) s.heap H locs) (hs : Z.2.2.1.size ≤ s.heap.size) (hb : ∀ q : Nat, q < Z.2.2.1.size → s.heap[q]? = Z.2.2.1[q]?) : Z.2.2.1.size ≤ H.size ∧ ∀ q : Nat, q < Z.2.2.1.size → H[q]? = Z.2.2.1[q]? :=
  ⟨Nat.le_trans hs hS.1, fun q hq => by rw [hS.2.1 q (Nat.lt_of_lt_of_le hq hs) (fun z => absurd (show Z.2.2.1.size ≤ q from z) (by omega)), hb q hq]⟩
theorem zr_AA {Z : zw_Z} {s : State} (hs : Z.2.2.1.size ≤ s.heap.size) : ∀ q, s.heap.size ≤ q → zw_A Z q := fun q h => Nat.le_trans hs h
/-- a field as the code of 'own' names it: by its entry idx; in the objects of the classes cs it is field k, fd -/
def zw_F (own : String) (idx : Nat) (cs : List Nat) (k : Nat) (fd : String × String × String × Bool) : Prop :=
  ((∃ ref : String, Cond.fieldLink own idx ref fd.2.1 fd.2.2.1 ∈ lw_all ∧ (ref = fd.1 ∨ Cond.sameField ref fd.1 fd.2.1 fd.2.2.1 ∈ lw_all)) ∨ (∃ (ref host : String), Cond.fieldLinkNest own idx ref fd.2.1 fd.2.2.1 host ∈ lw_tbl ∧ (ref = fd.1 ∨ Cond.sameField ref fd.1 fd.2.1 fd.2.2.1 ∈ lw_all))) ∧ ∀ ci ∈ cs, ∃ q : vw_C, zwCl[ci]? = some q ∧ k < q.2.2 ∧ q.2.1 k = fd
theorem zw_same {s : State} {args : Array Value} {ref C n d : String} (hts : ∀ w ∈ lw_all, w.before args s = true) (h : ref = C ∨ Cond.sameField ref C n d ∈ lw_all) : ∀ x, s.fieldFound? C n d = some x → s.fieldFound? ref n d = some x := by
  intro x hx
  rcases h with rfl | h
  · exact hx
  · exact u_same (hts _ h) x hx
section ZWH
variable {X : zw_X} {cc : ByteArray} {own nm : String} {nL kc ks pc : Nat} {h : zw_H} {L L' : List (Nat × Value)} {S : List Value}
theorem zg_f_some {h : zw_H} {r : Option Nat} {cs : List Nat} {k : Nat} {v : Value} (hf : zg_f h r cs k = some v) : ∃ a ci fs, r = some a ∧ h a = some (.inr (ci, fs)) ∧ ci ∈ cs ∧ fs[k]? = some v := by
  unfold zg_f at hf
  cases r with
  | none => cases hf
  | some a =>
    dsimp only at hf
    cases ha : h a with
    | none => rw [ha] at hf; cases hf
    | some x =>
      rw [ha] at hf
      rcases x with x | ⟨ci, fs⟩
      · cases hf
      · dsimp only at hf
        by_cases hc : ci ∈ cs
        · rw [if_pos hc] at hf
          exact ⟨a, ci, fs, rfl, ha, hc, hf⟩
        · rw [if_neg hc] at hf; cases hf
theorem zg_get {r : Option Nat} {cs : List Nat} {k idx : Nat} {fd : String × String × String × Bool} {v : Value} (ok : zw_ok X cc own nm nL) (lk : zw_F own idx cs k fd) (d : decode cc pc = .ok (.getfield idx, 3)) (hf : zg_f h r cs k = some v) (g : zw_G X kc ks nL h (pc + 3) L (v :: S)) : zw_G X kc ks nL h pc L (va_rf r :: S) := by
  obtain ⟨p, l, e, R, s, m, args, below, meth, c, Z, Q⟩ := X
  obtain ⟨hx, hb, -, hown, hts, hK, hzs, hbs, -⟩ := ok
  obtain ⟨a, ci, fs, rfl, ha, hci, hv⟩ := zg_f_some hf
  obtain ⟨hlk, hq⟩ := lk
  obtain ⟨⟨C, T, N⟩, hcl, hkN, hfd⟩ := hq ci hci
  dsimp only at hkN hfd
  intro H locs ls hR hz hc hl
  have hg := g H locs ls hR hz hc hl
  have hin := zw_in ci _ hcl
  rcases hlk with ⟨ref, h1, h2⟩ | ⟨ref, host, h1, h2⟩
  · refine va_get (C := C) (T := T) (N := N) (ci := ci) (ref := ref) hx hb hts hin hown hK.1 (zr_one hR ha) 0 rfl hcl k hkN ?_ ?_ hv d hg
    · rw [hfd]; exact hts _ h1
    · rw [hfd]; exact zw_same hts h2
  · refine va_getN (C := C) (T := T) (N := N) (ci := ci) (ref := ref) (host := host) hx hb hts hin hown hK.1 (zr_one hR ha) 0 rfl hcl k hkN ?_ ?_ hv d hg
    · rw [hfd]; exact va_Nw.use rfl (hK.2.1 _ h1 rfl)
    · rw [hfd]; exact zw_same hts h2
theorem zg_getI {r : Option Nat} {cs : List Nat} {k idx : Nat} {fd : String × String × String × Bool} {F : Int32 → Prop} (ok : zw_ok X cc own nm nL) (lk : zw_F own idx cs k fd) (d : decode cc pc = .ok (.getfield idx, 3)) (hE : og_I h r cs k F) (g : ∀ x, F x → zw_G X kc ks nL h (pc + 3) L (.int x :: S)) : zw_G X kc ks nL h pc L (va_rf r :: S) := by
  unfold og_I at hE
  cases hf : zg_f h r cs k with
  | none => rw [hf] at hE; exact hE.elim
  | some v =>
    rw [hf] at hE
    cases v <;> first | exact hE.elim | exact zg_get ok lk d hf (g _ hE)
theorem zg_getJ {r : Option Nat} {cs : List Nat} {k idx : Nat} {fd : String × String × String × Bool} {F : Int64 → Prop} (ok : zw_ok X cc own nm nL) (lk : zw_F own idx cs k fd) (d : decode cc pc = .ok (.getfield idx, 3)) (hE : og_J h r cs k F) (g : ∀ x, F x → zw_G X kc ks nL h (pc + 3) L (.long x :: S)) : zw_G X kc ks nL h pc L (va_rf r :: S) := by
  unfold og_J at hE
  cases hf : zg_f h r cs k with
  | none => rw [hf] at hE; exact hE.elim
  | some v =>
    rw [hf] at hE
    cases v <;> first | exact hE.elim | exact zg_get ok lk d hf (g _ hE)
theorem zg_getD {r : Option Nat} {cs : List Nat} {k idx : Nat} {fd : String × String × String × Bool} {F : UInt64 → Prop} (ok : zw_ok X cc own nm nL) (lk : zw_F own idx cs k fd) (d : decode cc pc = .ok (.getfield idx, 3)) (hE : og_D h r cs k F) (g : ∀ x, F x → zw_G X kc ks nL h (pc + 3) L (.double x :: S)) : zw_G X kc ks nL h pc L (va_rf r :: S) := by
  unfold og_D at hE
  cases hf : zg_f h r cs k with
  | none => rw [hf] at hE; exact hE.elim
  | some v =>
    rw [hf] at hE
    cases v <;> first | exact hE.elim | exact zg_get ok lk d hf (g _ hE)
theorem zg_getA {r : Option Nat} {cs : List Nat} {k idx : Nat} {fd : String × String × String × Bool} {F : Option Nat → Prop} (ok : zw_ok X cc own nm nL) (lk : zw_F own idx cs k fd) (d : decode cc pc = .ok (.getfield idx, 3)) (hE : og_A h r cs k F) (g : ∀ x, F x → zw_G X kc ks nL h (pc + 3) L (va_rf x :: S)) : zw_G X kc ks nL h pc L (va_rf r :: S) := by
  unfold og_A at hE
  cases hf : zg_f h r cs k with
  | none => rw [hf] at hE; exact hE.elim
  | some v =>
    rw [hf] at hE
    cases v with
    | null => exact zg_get ok lk d hf (g none hE)
    | ref a => exact zg_get ok lk d hf (g (some a) hE)
    | _ => exact hE.elim
theorem op_V_some {r : Option Nat} {cs : List Nat} {k : Nat} {v : Value} {F : zw_H → Prop} (hE : op_V h r cs k v F) : ∃ a ci fs, r = some a ∧ h a = some (.inr (ci, fs)) ∧ ci ∈ cs ∧ k < fs.length ∧ F (zw_up h a (.inr (ci, fs.set k v))) := by
  unfold op_V at hE
  cases r with
  | none => exact hE.elim
  | some a =>
    dsimp only at hE
    cases ha : h a with
    | none => rw [ha] at hE; exact hE.elim
    | some x =>
      rw [ha] at hE
      rcases x with x | ⟨ci, fs⟩
      · exact hE.elim
      · exact ⟨a, ci, fs, rfl, ha, hE.1, hE.2.1, hE.2.2⟩
theorem zg_put {r : Option Nat} {cs : List Nat} {k idx : Nat} {fd : String × String × String × Bool} {v : Value} {ty : FieldType} {F : zw_H → Prop} (ok : zw_ok X cc own nm nL) (lk : zw_F own idx cs k fd) (hfin : fd.2.2.2 = false ∨ (fd.2.2.2 = true ∧ nm = "<init>" ∧ fd.1 = own ∧ (∃ ref : String, Cond.fieldLink own idx ref fd.2.1 fd.2.2.1 ∈ lw_all ∧ (ref = fd.1 ∨ Cond.sameField ref fd.1 fd.2.1 fd.2.2.1 ∈ lw_all)))) (hcs : cs.all (fun c => decide (c < 17)) = true) (hd : parseFieldDescriptor fd.2.2.1 = some ty) (hn : narrow ty v = v) (hfit : fits ty v = true) (d : decode cc pc = .ok (.putfield idx, 3)) (hE : op_V h r cs k v F) (g : ∀ h', F h' → zw_G X kc ks nL h' (pc + 3) L S) : zw_G X kc ks nL h pc L (v :: va_rf r :: S) := by
  obtain ⟨p, l, e, R, s, m, args, below, meth, c, Z, Q⟩ := X
  obtain ⟨hx, hb, -, hown, hts, hK, hzs, hbs, -, hnm, -⟩ := ok
  obtain ⟨a, ci, fs, rfl, ha, hci, hkl, hF⟩ := op_V_some hE
  obtain ⟨hlk, hq⟩ := lk
  obtain ⟨⟨C, T, N⟩, hcl, hkN, hfd⟩ := hq ci hci
  dsimp only at hkN hfd
  have hro : zw_ro (.inr (ci, fs)) = false := by
    have := List.all_eq_true.mp hcs ci hci
    simp only [decide_eq_true_eq] at this
    exact decide_eq_false (by show ¬ 17 ≤ ci; omega)
  intro H locs ls hR hz hc hl
  have hg := g _ hF
  have hin := zw_in ci _ hcl
  obtain ⟨q0, hq0⟩ := zr_at hR ha hro
  have hS := zr_S hR hbs hz hc
  have kk : ∀ (H1 : Heap) (locs1 : List Loc), va_P Z.1 zwCl ((zr_en Z h H.size).set q0 (a, .inr (ci, fs.set k v))) H1 → va_D (zw_A Z) ((zr_en Z h H.size).set q0 (a, .inr (ci, fs.set k v))) → va_S (zw_A Z) s.heap H1 locs1 → W p l e R s m args below meth c H1 locs1 kc ks Q (F0 m (pc + 3) ls S) := by
    intro H1 locs1 hP1 hD1 hS1
    obtain ⟨b1, b2⟩ := zr_base hS1 hzs hbs
    exact hg H1 locs1 ls (zr_set hR (x := .inr (ci, fs)) (x1 := .inr (ci, fs.set k v)) ha hq0 rfl b1 b2 hP1) hS1.1 hS1.2.2 hl
  have hq0' : (zr_en Z h H.size)[q0]? = some (a, .inr (ci, fs)) := hq0
  rcases hfin with hf | ⟨hf, hn1, hn2, ref, h1, h2⟩
  · rcases hlk with ⟨ref, h1, h2⟩ | ⟨ref, host, h1, h2⟩
    · exact va_put (C := C) (T := T) (N := N) (ci := ci) (ref := ref) hx hb hts hin (zwTyF ci) (zw_ty ci _ hcl) (zw_nm ci _ hcl) hown hK.1 (zr_en_P hR _) zr_en_D hS q0 hq0' hcl k hkN (by rw [hfd]; exact hts _ h1) (by rw [hfd]; exact zw_same hts h2) (by rw [hfd]; exact hf) (by rw [hfd]; exact hd) hn hfit hkl d kk
    · exact va_putN (C := C) (T := T) (N := N) (ci := ci) (ref := ref) (host := host) hx hb hts hin (zwTyF ci) (zw_ty ci _ hcl) (zw_nm ci _ hcl) hown hK.1 (zr_en_P hR _) zr_en_D hS q0 hq0' hcl k hkN (by rw [hfd]; exact va_Nw.use rfl (hK.2.1 _ h1 rfl)) (by rw [hfd]; exact zw_same hts h2) (by rw [hfd]; exact hf) (by rw [hfd]; exact hd) hn hfit hkl d kk
  · exact va_putF (C := C) (T := T) (N := N) (ci := ci) (ref := ref) hx hb hts hin (zwTyF ci) (zw_ty ci _ hcl) (zw_nm ci _ hcl) hown hK.1 (zr_en_P hR _) zr_en_D hS q0 hq0' hcl k hkN (by rw [hfd]; exact hts _ h1) (by rw [hfd]; exact zw_same hts h2) (by rw [hfd]; exact hf) (hnm.trans hn1) (by rw [hfd]; exact hn2) (by rw [hfd]; exact hd) hn hfit hkl d kk
end ZWH
