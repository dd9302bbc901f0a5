/-! zw: a method's walk over a pure heap: what is known of the cells, by address -/
set_option maxRecDepth 100000
abbrev zw_C : Type := (Nat × vp_A) ⊕ (Nat × List Value)
abbrev zw_H : Type := Nat → Option zw_C
/-- the classes' and array classes' numbers, the heap at the law's start, the addresses of constants -/
abbrev zw_Z : Type := va_G × (Nat → ClassId) × Heap × (Nat → Option Nat)
def zwTy : List FieldType := [.int, .byte, .boolean, .long, .double, .object "java/lang/Object", .object "MultipoleLine$Box", .array (.object "MultipoleLine$Box"), .object "MultipoleLine$Line", .object "MultipoleLine$Free", .byte, .int, .object "java/lang/Object", .object "java/lang/Integer"]
def zw_tys (Z : zw_Z) : List (ClassId × FieldType) := (List.range 14).map (fun k => (Z.2.1 k, zwTy.getD k .int))
def zw_va (Z : zw_Z) : zw_C → va_E
  | .inl x => .inl (Z.2.1 x.1, x.2)
  | .inr o => .inr o
/-- what is only read: it was there at the law's start -/
def zw_ro : zw_C → Bool
  | .inl x => decide (10 ≤ x.1)
  | .inr o => decide (17 ≤ o.1)
def zw_A (Z : zw_Z) : Nat → Prop := fun q => Z.2.2.1.size ≤ q
def zw_up (h : zw_H) (a : Nat) (x : zw_C) : zw_H := fun q => if q = a then some x else h q
def zw_R (Z : zw_Z) (h : zw_H) (H : Heap) : Prop :=
  Z.2.2.1.size ≤ H.size ∧ (∀ q : Nat, q < Z.2.2.1.size → H[q]? = Z.2.2.1[q]?) ∧ ∀ (a : Nat) (x : zw_C), h a = some x → va_at Z.1 zwCl (a, zw_va Z x) H ∧ (zw_ro x = false ↔ Z.2.2.1.size ≤ a)
/-- typed values -/
abbrev zw_V : Type := Int32 ⊕ Int64 ⊕ UInt32 ⊕ UInt64 ⊕ Option Nat
def zw_tv : zw_V → Value
  | .inl x => .int x
  | .inr (.inl x) => .long x
  | .inr (.inr (.inl x)) => .float x
  | .inr (.inr (.inr (.inl x))) => .double x
  | .inr (.inr (.inr (.inr r))) => va_rf r
def zw_wd : zw_V → Nat
  | .inr (.inl _) => 2
  | .inr (.inr (.inr (.inl _))) => 2
  | _ => 1
abbrev zI (x : Int32) : zw_V := .inl x
abbrev zJ (x : Int64) : zw_V := .inr (.inl x)
abbrev zF (x : UInt32) : zw_V := .inr (.inr (.inl x))
abbrev zD (x : UInt64) : zw_V := .inr (.inr (.inr (.inl x)))
abbrev zA (r : Option Nat) : zw_V := .inr (.inr (.inr (.inr r)))
theorem zw_rfc (r : Option Nat) : (va_rf r).category = 1 := by cases r <;> rfl
theorem zw_cat (v : zw_V) : (zw_tv v).category = zw_wd v := by
  rcases v with x | x | x | x | r
  · rfl
  · rfl
  · rfl
  · rfl
  · exact zw_rfc r
def zw_la : Nat → List zw_V → List (Nat × Value)
  | _, [] => []
  | k, v :: vs => (k, zw_tv v) :: zw_la (k + zw_wd v) vs
theorem zw_la_eq : ∀ (vs : List zw_V) (k : Nat), lv_args k (vs.map zw_tv) = zw_la k vs
  | [], k => rfl
  | v :: vs, k => by
    show (k, zw_tv v) :: lv_args (if (zw_tv v).category = 2 then k + 2 else k + 1) (vs.map zw_tv) = (k, zw_tv v) :: zw_la (k + zw_wd v) vs
    rw [zw_cat, zw_la_eq vs]
    rcases v with x | x | x | x | r <;> rfl
def zw_ln (vs : List zw_V) : Nat := (vs.map zw_wd).sum
theorem zw_ln_eq : ∀ (vs : List zw_V), (lg_sl (vs.map zw_tv)).length = zw_ln vs
  | [] => rfl
  | v :: vs => by
    have h := zw_ln_eq vs
    have e : lg_sl ((v :: vs).map zw_tv) = (if (zw_tv v).category = 2 then [Slot.val (zw_tv v), .second] else [Slot.val (zw_tv v)]) ++ lg_sl (vs.map zw_tv) := rfl
    rw [e, List.length_append, h, zw_cat]
    show _ = (((v :: vs).map zw_wd).sum)
    rw [List.map_cons, List.sum_cons]
    rcases v with x | x | x | x | r <;> rfl
/-- what the tables say that doesn't ride in the lists of words -/
def zw_kd : Cond → Bool
  | .fieldLinkNest _ _ _ _ _ _ => true
  | .methodLinkNest _ _ _ _ => true
  | .castable _ _ => true
  | .declares _ => true
  | _ => false
def zwSI : List (String × String × String × Int32) := [("java/lang/String", "COMPACT_STRINGS", "Z", 1), ("java/lang/StringUTF16", "$assertionsDisabled", "Z", 1), ("java/lang/StringUTF16", "HI_BYTE_SHIFT", "I", 0), ("java/lang/StringUTF16", "LO_BYTE_SHIFT", "I", 8), ("java/util/BitSet", "$assertionsDisabled", "Z", 1), ("java/lang/Integer$IntegerCache", "high", "I", 127)]
def zwSR : List (String × String × String × Nat) := [("java/lang/Throwable", "UNASSIGNED_STACK", "[Ljava/lang/StackTraceElement;", 0), ("java/lang/Throwable", "SUPPRESSED_SENTINEL", "Ljava/util/List;", 1), ("java/util/ArrayList", "DEFAULTCAPACITY_EMPTY_ELEMENTDATA", "[Ljava/lang/Object;", 2), ("jdk/internal/util/Preconditions", "SIOOBE_FORMATTER", "Ljava/util/function/BiFunction;", 3), ("java/lang/Integer", "DigitOnes", "[B", 4), ("java/lang/Integer", "DigitTens", "[B", 5), ("java/lang/Integer$IntegerCache", "cache", "[Ljava/lang/Integer;", 6)]
def zwSS : List (String × Nat × String × Nat) := [("MultipoleLine", 414, " ", 10), ("MultipoleLine", 416, "", 11), ("MultipoleLine", 428, "line", 12), ("MultipoleLine", 430, ";free ", 13), ("MultipoleLine", 432, ";fixed ", 14), ("MultipoleLine", 434, " minus ", 15), ("MultipoleLineModel", 139, "line", 16), ("MultipoleLineModel", 141, "fixed", 17), ("MultipoleLineModel", 143, "free", 18), ("MultipoleLineModel", 126, "minus", 19), ("MultipoleLineModel", 401, ";fixed", 20), ("MultipoleLineModel", 403, ";free", 21), ("MultipoleLineModel", 405, " minus", 22), ("MultipoleLine$Parser", 22, "", 23), ("MultipoleLine$Parser", 141, "line", 24), ("MultipoleLine$Parser", 99, "fixed", 25), ("MultipoleLine$Parser", 107, "free", 26), ("MultipoleLine$Parser", 117, "minus", 27), ("MultipoleLine$Fixed", 10, "*", 28), ("MultipoleLine$Free", 10, "", 29)]
def zwFw : List (String × MethodName × MethodName) := [("java/util/ArrayList", ⟨"java/util/List", "size", "()I"⟩, ⟨"java/util/ArrayList", "size", "()I"⟩), ("java/util/ArrayList", ⟨"java/util/List", "get", "(I)Ljava/lang/Object;"⟩, ⟨"java/util/ArrayList", "get", "(I)Ljava/lang/Object;"⟩), ("java/util/ArrayList", ⟨"java/util/List", "add", "(Ljava/lang/Object;)Z"⟩, ⟨"java/util/ArrayList", "add", "(Ljava/lang/Object;)Z"⟩), ("java/util/ArrayList", ⟨"java/util/List", "remove", "(I)Ljava/lang/Object;"⟩, ⟨"java/util/ArrayList", "remove", "(I)Ljava/lang/Object;"⟩), ("java/util/LinkedList$ListItr", ⟨"java/util/Iterator", "hasNext", "()Z"⟩, ⟨"java/util/LinkedList$ListItr", "hasNext", "()Z"⟩), ("java/util/LinkedList$ListItr", ⟨"java/util/Iterator", "next", "()Ljava/lang/Object;"⟩, ⟨"java/util/LinkedList$ListItr", "next", "()Ljava/lang/Object;"⟩)]
def zwAO : List String := ["java/lang/Object", "MultipoleLine$Line", "MultipoleLine$Box", "MultipoleLine$Free"]
def zwNc : List (String × String) := [("MultipoleLine$Fixed", "MultipoleLine$Free"), ("java/lang/IllegalStateException", "java/lang/IndexOutOfBoundsException"), ("java/lang/IllegalStateException", "java/lang/IllegalArgumentException"), ("java/lang/IndexOutOfBoundsException", "java/lang/IllegalStateException"), ("java/lang/IndexOutOfBoundsException", "java/lang/IllegalArgumentException"), ("java/lang/IllegalArgumentException", "java/lang/IllegalStateException"), ("java/lang/IllegalArgumentException", "java/lang/IndexOutOfBoundsException"), ("java/lang/IllegalStateException", "MultipoleLine$Flaw"), ("java/lang/IndexOutOfBoundsException", "MultipoleLine$Flaw"), ("java/lang/IllegalArgumentException", "MultipoleLine$Flaw")]
/-- what a method of a class above that is private selects, from an object of the class below -/
def zwX : List Cond := [Cond.selects "java/lang/StringBuilder" ⟨"java/lang/AbstractStringBuilder", "ensureCapacityInternal", "(I)V"⟩ ⟨"java/lang/AbstractStringBuilder", "ensureCapacityInternal", "(I)V"⟩, Cond.selects "java/lang/StringBuilder" ⟨"java/lang/AbstractStringBuilder", "newCapacity", "(I)I"⟩ ⟨"java/lang/AbstractStringBuilder", "newCapacity", "(I)I"⟩, Cond.selects "java/lang/StringBuilder" ⟨"java/lang/AbstractStringBuilder", "putStringAt", "(ILjava/lang/String;)V"⟩ ⟨"java/lang/AbstractStringBuilder", "putStringAt", "(ILjava/lang/String;)V"⟩]
theorem zwX_good : ∀ w ∈ zwX, goodWord w = true := by
  intro w hw
  simp only [zwX, List.mem_cons, List.not_mem_nil, or_false] at hw
  rcases hw with rfl | rfl | rfl <;> rfl
theorem zw_x0 : Cond.selects "java/lang/StringBuilder" ⟨"java/lang/AbstractStringBuilder", "ensureCapacityInternal", "(I)V"⟩ ⟨"java/lang/AbstractStringBuilder", "ensureCapacityInternal", "(I)V"⟩ ∈ zwX := List.mem_cons_self
theorem zw_x1 : Cond.selects "java/lang/StringBuilder" ⟨"java/lang/AbstractStringBuilder", "newCapacity", "(I)I"⟩ ⟨"java/lang/AbstractStringBuilder", "newCapacity", "(I)I"⟩ ∈ zwX := List.mem_cons_of_mem _ List.mem_cons_self
theorem zw_x2 : Cond.selects "java/lang/StringBuilder" ⟨"java/lang/AbstractStringBuilder", "putStringAt", "(ILjava/lang/String;)V"⟩ ⟨"java/lang/AbstractStringBuilder", "putStringAt", "(ILjava/lang/String;)V"⟩ ∈ zwX := List.mem_cons_of_mem _ (List.mem_cons_of_mem _ List.mem_cons_self)
theorem zw_m5 {a b c d e : Cond} (h1 : a ∈ lw_all) (h2 : b ∈ lw_all) (h3 : c ∈ lw_all) (h4 : d ∈ lw_all) (h5 : e ∈ lw_all) : ∀ w ∈ [a, b, c, d, e], w ∈ lw_all := by
  intro w hw
  simp only [List.mem_cons, List.not_mem_nil, or_false] at hw
  rcases hw with rfl | rfl | rfl | rfl | rfl <;> assumption
theorem zw_m4 {a b c d : Cond} (h1 : a ∈ lw_all) (h2 : b ∈ lw_all) (h3 : c ∈ lw_all) (h4 : d ∈ lw_all) : ∀ w ∈ [a, b, c, d], w ∈ lw_all := by
  intro w hw
  simp only [List.mem_cons, List.not_mem_nil, or_false] at hw
  rcases hw with rfl | rfl | rfl | rfl <;> assumption
theorem zw_m6 {a b c d e f : Cond} (h1 : a ∈ lw_all) (h2 : b ∈ lw_all) (h3 : c ∈ lw_all) (h4 : d ∈ lw_all) (h5 : e ∈ lw_all) (h6 : f ∈ lw_all) : ∀ w ∈ [a, b, c, d, e, f], w ∈ lw_all := by
  intro w hw
  simp only [List.mem_cons, List.not_mem_nil, or_false] at hw
  rcases hw with rfl | rfl | rfl | rfl | rfl | rfl <;> assumption
theorem zw_upX {own C owner : String} {idx : Nat} {x y : MethodName} {b : ByteArray} {mL : Nat} {r : Option FieldType} (h1 : Cond.methodLink own idx x ∈ lw_all) (h2 : Cond.sameMethod x.cls owner x.name x.desc ∈ lw_all) (h4 : Cond.instanceMethod y ∈ lw_all) (h5 : Cond.initialized y.cls ∈ lw_all) (h6 : Cond.code y b mL r ∈ lw_all) : GoodIn (Cond.selects C x y :: lw_all) (va_wsU own idx C owner x y (ws_ y b mL r)) := by
  intro w hw
  have key : ∀ v ∈ lw_all, v ∈ Cond.selects C x y :: lw_all ∧ ((v.onTables && v.keeps) = true ∨ ∃ ty, v = .arrayClass ty) := fun v hv => ⟨List.mem_cons_of_mem _ hv, (lw_self v hv).2⟩
  unfold va_wsU at hw
  rcases List.mem_append.mp hw with h | h
  · simp only [List.mem_cons, List.not_mem_nil, or_false] at h
    rcases h with rfl | rfl | rfl | rfl | rfl
    · exact key _ h1
    · exact key _ h2
    · exact ⟨List.mem_cons_self, Or.inl rfl⟩
    · exact key _ h4
    · exact key _ h5
  · rcases List.mem_cons.mp h with rfl | h
    · exact key _ h6
    · exact key _ h
def zw_K (Z : zw_Z) (U : State) : Prop :=
  va_K Z.1 zwCl (zw_tys Z) U ∧ (∀ w ∈ lw_tbl, zw_kd w = true → va_Nw w U) ∧ (∀ q ∈ zwFw, va_Fw q.1 q.2.1 q.2.2 U) ∧ (∀ C ∈ zwAO, va_AO C U) ∧ (Cond.arrayOver (.array (.object "MultipoleLine$Box"))).before #[] U = true ∧
  (∀ q ∈ zwSI, va_Z q.1 q.2.1 q.2.2.1 (.int q.2.2.2) (zw_A Z) U Z.2.2.1) ∧ (∀ q ∈ zwSR, va_Z q.1 q.2.1 q.2.2.1 (va_rf (Z.2.2.2 q.2.2.2)) (zw_A Z) U Z.2.2.1) ∧ (∀ q ∈ zwSS, ∃ a : Nat, Z.2.2.2 q.2.2.2 = some a ∧ vk_R q.1 q.2.1 q.2.2.1 a U) ∧
  vx_Zq Bundle.tN "UNASSIGNED_STACK" Bundle.steD (zw_A Z) U Z.2.2.1 ∧ vx_Zq Bundle.tN "SUPPRESSED_SENTINEL" Bundle.listD (zw_A Z) U Z.2.2.1 ∧ (∀ q ∈ zwNc, va_Nc q.1 q.2 U) ∧ (∀ w ∈ zwX, va_Nw w U) ∧ (∃ mi : Nat, Z.2.2.2 7 = some mi ∧ va_Mi "[Ljava/lang/Object;" mi U)
theorem zw_Fw_ok : ∀ q ∈ zwFw, q.2.1.cls ≠ "java/lang/invoke/MethodHandle" ∧ q.2.1.cls ≠ "java/lang/invoke/VarHandle" := by decide +kernel
theorem zw_K.warm {Z : zw_Z} {s U : State} (hW : s.WarmedH U.vm) (h : zw_K Z s) : zw_K Z U := by
  obtain ⟨h1, h2, h3, h4, h5, h6, h7, h8, h9, h10, h11, h12, mi, h13, h14⟩ := h
  have hal := hW.alike
  refine ⟨va_K.moved hal h1, fun w hw hk => ?_, fun q hq => va_Fw.moved (zw_Fw_ok q hq) hal (h3 q hq), fun C hC => va_AO.moved hal (h4 C hC), over_moved hal h5, fun q hq => va_Z.moved hal (h6 q hq), fun q hq => va_Z.moved hal (h7 q hq), fun q hq => ?_, vx_Zq.moved hal h9, vx_Zq.moved hal h10, fun q hq => va_Nc.moved hal (h11 q hq), fun w hw => word_at hW (good_of_word (zwX_good w hw)) (h12 w hw), mi, h13, va_Mi.moved hal h14⟩
  · have h := h2 w hw hk
    cases w <;> first | exact va_Nw.warmF hW h | exact va_Nw.warmM hW h | exact va_Nw.warmC hW h | exact va_Nw.warmD hW h | (exfalso; revert hk; simp [zw_kd])
  · obtain ⟨a, e1, e2⟩ := h8 q hq
    exact ⟨a, e1, vk_R.warm hW e2⟩
theorem zw_K.same {Z : zw_Z} {s U : State} (hv : U.vm = s.vm) (h : zw_K Z s) : zw_K Z U := zw_K.warm (by rw [hv]; exact State.WarmedH.refl s) h
/-- the walk's fixed things: program, launch, environment, room, start, method, arguments, frames below, method, code, numbers, aim -/
abbrev zw_X : Type := Program × Launch × Env × Room × State × MethodId × Array Value × List Frame × Method × Code × zw_Z × (State → Prop)
abbrev zw_l (X : zw_X) : Launch := X.2.1
abbrev zw_rm (X : zw_X) : Room := X.2.2.2.1
abbrev zw_Zf (X : zw_X) : zw_Z := X.2.2.2.2.2.2.2.2.2.2.1
def zw_ok (X : zw_X) (cc : ByteArray) (own nm : String) (nL : Nat) : Prop := match X with
  | (p, l, _, _, s, m, args, _, meth, c, Z, _) => p.tables.exec = Jvm.exec ∧ c.code = cc ∧ c.maxLocals = nL ∧ s.vm.findClass own = some m.cls ∧ (∀ w ∈ lw_all, w.before args s = true) ∧ zw_K Z s ∧ Z.2.2.1.size ≤ s.heap.size ∧ (∀ q : Nat, q < Z.2.2.1.size → s.heap[q]? = Z.2.2.1[q]?) ∧ l.stackTraces = false ∧ meth.name = nm ∧ meth.locks = false
def zw_tab (X : zw_X) (T : List ExceptionTableEntry) : Prop := match X with
  | (_, _, _, _, _, _, _, _, _, c, _, _) => c.exceptionTable.toList = T
def zw_G (X : zw_X) (kc ks nL : Nat) (h : zw_H) (pc : Nat) (L : List (Nat × Value)) (S : List Value) : Prop := match X with
  | (p, l, e, R, s, m, args, below, meth, c, Z, Q) => ∀ (H : Heap) (locs : List Loc) (ls : Array Slot), zw_R Z h H → s.heap.size ≤ H.size → (∀ z ∈ locs, zw_A Z z.base) → lv_has ls nL L → W p l e R s m args below meth c H locs kc ks Q (F0 m pc ls S)
/-- .. with q of class E thrown -/
def zw_GX (X : zw_X) (kc ks nL : Nat) (h : zw_H) (pc : Nat) (L : List (Nat × Value)) (S : List Value) (E : String) (q : Nat) : Prop := match X with
  | (p, l, e, R, s, m, args, below, meth, c, Z, Q) => ∀ (H : Heap) (locs : List Loc) (ls : Array Slot) (ce : Cell), zw_R Z h H → s.heap.size ≤ H.size → (∀ z ∈ locs, zw_A Z z.base) → lv_has ls nL L → H[q]? = some ce → ce.vm = .none → s.vm.findClass E = some ce.cls → vx_W p l e R s m args below meth c H locs kc ks Q (F0 m pc ls S) q
/-! contracts -/
def zw_B (Z : zw_Z) (h : zw_H) (U : State) : Prop := zw_R Z h U.heap ∧ zw_K Z U
def zw_Q (Z : zw_Z) (Qv : Option Value → zw_H → Prop) : Array Value → State → Outcome → State → Prop := fun _ st o t => ∃ (v : Option Value) (h' : zw_H), o = .returned v ∧ Qv v h' ∧ zw_R Z h' t.heap ∧ st.heap.size ≤ t.heap.size
def zw_XC (Z : zw_Z) (Xp : String → Nat → zw_H → Prop) : String → Nat → State → State → Prop := fun E q st t => ∃ h' : zw_H, Xp E q h' ∧ zw_R Z h' t.heap ∧ st.heap.size ≤ t.heap.size
def zw_Met (l : Launch) (Z : zw_Z) (y : MethodName) (ws : List Cond) (rm : Room) (vs : List zw_V) (h : zw_H) (Qv : Option Value → zw_H → Prop) (Xp : String → Nat → zw_H → Prop) : Prop :=
  vx_Met l y ws rm (va_Pc (vs.map zw_tv) (zw_B Z h)) (zw_Q Z Qv) (zw_XC Z Xp) rm.cells rm.slots (zw_A Z)
def zw_fin (X : zw_X) (ret : Option FieldType) (Qv : Option Value → zw_H → Prop) (Xp : String → Nat → zw_H → Prop) (mc ms : Nat) : Prop := match X with
  | (_, _, _, _, s, _, args, below, meth, _, Z, Q) => meth.sig.returnType = ret ∧ Q = vx_MQ below (zw_Q Z Qv) (zw_XC Z Xp) args s mc ms (zw_A Z)
theorem zw_blind (Z : zw_Z) (h : zw_H) (as : List Value) : FrameBlind (va_Pc as (zw_B Z h)) := fun a U g mk q => ⟨q.1, q.2.1, zw_K.same (by rfl) q.2.2⟩
/-- the start of a method without handlers -/
theorem zg_start {l : Launch} {Z : zw_Z} {y : MethodName} {cc : ByteArray} {maxL : Nat} {ret : Option FieldType} {rm : Room} {own : String} {vs : List zw_V} {h : zw_H} {Qv : Option Value → zw_H → Prop} {Xp : String → Nat → zw_H → Prop}
    (hy : plainName y.cls = true) (hown : y.cls = own) (hlen : zw_ln vs ≤ maxL) (hl : l.stackTraces = false)
    (body : ∀ X : zw_X, zw_ok X cc own y.name maxL → zw_tab X [] → zw_fin X ret Qv Xp rm.cells rm.slots → zw_rm X = rm → zw_l X = l → zw_Zf X = Z → zw_G X 0 0 maxL h 0 (zw_la 0 vs) []) : zw_Met l Z y (ws_ y cc maxL ret) rm vs h Qv Xp := by
  refine vx_ofW (cc := cc) (maxL := maxL) (ret := ret) hy rfl ?_
  intro p e s m args below meth c s₁ B hml htab hv
  obtain ⟨rfl, hR, hK⟩ := hv
  have hts := atoms_spec (ws := ws_ y cc maxL ret) B.pre
  have hb := body (p, l, e, rm, s, m, (vs.map zw_tv).toArray, below, meth, c, Z, vx_MQ below (zw_Q Z Qv) (zw_XC Z Xp) (vs.map zw_tv).toArray s rm.cells rm.slots (zw_A Z))
    ⟨B.exec, B.bytes, hml, by rw [← hown]; exact findClass_of_methodNamed B.named, fun w hw => hts w (List.mem_cons_of_mem _ hw), hK, hR.1, hR.2.1, hl, (name_of_methodNamed B.named B.method).1, B.notSynchronized⟩
    (List.eq_nil_iff_forall_not_mem.mpr fun x hx => htab x hx) ⟨B.returns, rfl⟩ rfl rfl rfl
  rw [lg_entry_eq]
  have hl9 := lv_entry (vs.map zw_tv) (n := maxL) (by rw [zw_ln_eq]; exact hlen)
  rw [zw_la_eq] at hl9
  exact hb _ _ _ hR (Nat.le_refl _) (fun z hz => by cases hz) hl9
theorem vx_ofWF {l : Launch} {y : MethodName} {ws ws' : List Cond} {rm : Room} {Pc : Array Value → State → Prop} {Qc : Array Value → State → Outcome → State → Prop} {XC : String → Nat → State → State → Prop} {mc ms : Nat} {free : Addr → Prop} {cc : ByteArray} {maxL : Nat} {ret : Option FieldType}
    (hy : plainFor y = true) (hw : ws = Cond.code y cc maxL ret :: ws')
    (body : ∀ p e s m args below meth c s₁, BodyLoose p l y (headSpec ws rm) cc maxL ret e s m args below meth c s₁ → c.maxLocals = maxL → (∀ x ∈ c.exceptionTable.toList, False) → Pc args s →
      W p l e (headSpec ws rm).room s m args below meth c s.heap [] 0 0 (vx_MQ below Qc XC args s mc ms free) (entryFrame m args maxL)) : vx_Met l y ws rm Pc Qc XC mc ms free := by
  refine MetFree.of_bodySF (code := cc) (maxLocals := maxL) (ret := ret) hy ?_ ?_
  · intro args s m h hn
    obtain ⟨meth, c, h1, h2, h3, h4, h5, h6, -, -⟩ := Cond.code_spec hn (atoms_spec (ws := ws) h _ (by rw [hw]; exact List.mem_cons_self))
    exact ⟨meth, c, h1, h2, h3, h4, h5, h6⟩
  · intro p e s m args below meth c s₁ B hml hP _
    have hh0 : s₁.heap = s.heap := by rw [B.state]; rfl
    have ht : ∀ x ∈ c.exceptionTable.toList, False := by
      obtain ⟨meth9, c9, h1, h2, -, -, -, -, h7, -⟩ := Cond.code_spec B.named (atoms_spec (ws := ws) B.pre _ (by rw [hw]; exact List.mem_cons_self))
      cases Option.some.inj (h1.symm.trans B.method)
      cases Option.some.inj (h2.symm.trans (Stand.of_body B).code)
      intro x hx
      rw [Array.isEmpty_iff.mp h7] at hx
      cases hx
    obtain ⟨t, a1, o, b1, b2, b3⟩ := body p e s m args below meth c s₁ B hml ht hP s₁ hh0 (Stand.of_body B)
    exact ⟨t, o, a1, b1, b2, b3⟩
/-- .. of a method of a class of which the machine knows some methods by itself -/
theorem zg_startF {l : Launch} {Z : zw_Z} {y : MethodName} {cc : ByteArray} {maxL : Nat} {ret : Option FieldType} {rm : Room} {own : String} {vs : List zw_V} {h : zw_H} {Qv : Option Value → zw_H → Prop} {Xp : String → Nat → zw_H → Prop}
    (hy : plainFor y = true) (hown : y.cls = own) (hlen : zw_ln vs ≤ maxL) (hl : l.stackTraces = false)
    (body : ∀ X : zw_X, zw_ok X cc own y.name maxL → zw_tab X [] → zw_fin X ret Qv Xp rm.cells rm.slots → zw_rm X = rm → zw_l X = l → zw_Zf X = Z → zw_G X 0 0 maxL h 0 (zw_la 0 vs) []) : zw_Met l Z y (ws_ y cc maxL ret) rm vs h Qv Xp := by
  refine vx_ofWF (cc := cc) (maxL := maxL) (ret := ret) hy rfl ?_
  intro p e s m args below meth c s₁ B hml htab hv
  obtain ⟨rfl, hR, hK⟩ := hv
  have hts := atoms_spec (ws := ws_ y cc maxL ret) B.pre
  have hb := body (p, l, e, rm, s, m, (vs.map zw_tv).toArray, below, meth, c, Z, vx_MQ below (zw_Q Z Qv) (zw_XC Z Xp) (vs.map zw_tv).toArray s rm.cells rm.slots (zw_A Z))
    ⟨B.exec, B.bytes, hml, by rw [← hown]; exact findClass_of_methodNamed B.named, fun w hw => hts w (List.mem_cons_of_mem _ hw), hK, hR.1, hR.2.1, hl, (name_of_methodNamed B.named B.method).1, B.notSynchronized⟩
    (List.eq_nil_iff_forall_not_mem.mpr fun x hx => htab x hx) ⟨B.returns, rfl⟩ rfl rfl rfl
  rw [lg_entry_eq]
  have hl9 := lv_entry (vs.map zw_tv) (n := maxL) (by rw [zw_ln_eq]; exact hlen)
  rw [zw_la_eq] at hl9
  exact hb _ _ _ hR (Nat.le_refl _) (fun z hz => by cases hz) hl9
/-- .. with handlers -/
theorem zg_startW {l : Launch} {Z : zw_Z} {y : MethodName} {cc : ByteArray} {maxL : Nat} {ret : Option FieldType} {hh : List (Nat × Nat × Nat × Nat)} {rm : Room} {own : String} {vs : List zw_V} {h : zw_H} {Qv : Option Value → zw_H → Prop} {Xp : String → Nat → zw_H → Prop}
    (hy : plainName y.cls = true) (hown : y.cls = own) (hlen : zw_ln vs ≤ maxL) (hl : l.stackTraces = false)
    (body : ∀ X : zw_X, zw_ok X cc own y.name maxL → zw_tab X (tableOf hh) → zw_fin X ret Qv Xp rm.cells rm.slots → zw_rm X = rm → zw_l X = l → zw_Zf X = Z → zw_G X 0 0 maxL h 0 (zw_la 0 vs) []) : zw_Met l Z y (wsW_ y cc maxL ret hh) rm vs h Qv Xp := by
  refine vx_ofWH (cc := cc) (maxL := maxL) (ret := ret) (hh := hh) hy rfl ?_
  intro p e s m args below meth c s₁ B hml hv
  obtain ⟨rfl, hR, hK⟩ := hv
  have hts := atoms_spec (ws := wsW_ y cc maxL ret hh) B.pre
  have hb := body (p, l, e, rm, s, m, (vs.map zw_tv).toArray, below, meth, c, Z, vx_MQ below (zw_Q Z Qv) (zw_XC Z Xp) (vs.map zw_tv).toArray s rm.cells rm.slots (zw_A Z))
    ⟨B.exec, B.bytes, hml, by rw [← hown]; exact findClass_of_methodNamed B.named, fun w hw => hts w (List.mem_cons_of_mem _ hw), hK, hR.1, hR.2.1, hl, (name_of_methodNamed B.named B.method).1, B.notSynchronized⟩
    (vx_table (x := y) B (hts _ List.mem_cons_self)) ⟨B.returns, rfl⟩ rfl rfl rfl
  rw [lg_entry_eq]
  have hl9 := lv_entry (vs.map zw_tv) (n := maxL) (by rw [zw_ln_eq]; exact hlen)
  rw [zw_la_eq] at hl9
  exact hb _ _ _ hR (Nat.le_refl _) (fun z hz => by cases hz) hl9
