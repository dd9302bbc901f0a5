/-! what the machine throws at a store of a wrong type (ArrayStoreException), and its catch -/
section
variable {p : Program} {l : Launch} {e : Env} {R : Room} {s : State} {m : MethodId} {args : Array Value} {below : List Frame} {meth : Method} {c : Code} {T : State} {locs : List Loc} {cells slots : Nat}
theorem zw_aastWrong (X : Stand p l e R s m args below meth c T locs cells slots) (hexec : p.tables.exec = Jvm.exec)
    {a v : Addr} {cell cv : Cell} {j : Int32} {k kv kcomp : Class} {comp : ClassId} {t : FieldType}
    (hcell : T.heap[a]? = some cell) (hobj : ∀ q, cell.vm ≠ .statics q) (hknown : cell.vm ≠ .unknown)
    (hk : s.vm.classes[cell.cls]? = some k) (hkind : k.kind = .array comp t) (hkcomp : s.vm.classes[comp]? = some kcomp)
    (hin : ¬ j < 0 ∧ j.toNatClampNeg < cell.slots.size)
    (hv : T.heap[v]? = some cv) (hvobj : ∀ q, cv.vm ≠ .statics q) (hkv : s.vm.classes[cv.cls]? = some kv) (hkh : kv.hidden = none) (hinst : s.vm.assignable cv.cls comp = false)
    {g : JFrame} (hg : g.method = m) {rest : List Value} (hstack : g.stack = .ref v :: .int j :: .ref a :: rest) (hdg : Jvm.ClassFile.decode c.code g.pc = .ok (.aastore, 1)) :
    ∀ target, Steps p.tables e below ((T.setTop { g with stack := rest }).pushFrame (.throwNew "java/lang/ArrayStoreException" (some (dotted kv.name)) none)) target → Steps p.tables e below (T.setTop g) target := by
  intro target hrest
  have hal : s.vm.Alike T.vm := X.warmed.alike
  obtain ⟨k₁, hk₁, hek⟩ := hal.2.2 _ _ hk
  have hkind₁ : k₁.kind = .array comp t := by rw [hek]; exact hkind
  obtain ⟨kcomp₁, hkcomp₁, -⟩ := hal.2.2 _ _ hkcomp
  obtain ⟨kv₁, hkv₁, hekv⟩ := hal.2.2 _ _ hkv
  have hsh : kv₁.shown = dotted kv.name := by rw [hekv]; unfold Class.shown; simp only [hkh]
  have hinst₁ : T.vm.assignable cv.cls comp = false := by rw [hal.assignable]; exact hinst
  have harr : T.isArray cell := ⟨hobj, k₁, hk₁, comp, t, hkind₁⟩
  have hs := X.here.top
  subst hg
  jvm_step X.here [hexec, hdg, aastore.sem, hs, hstack, hcell, hobj, hknown, hk₁, hkind₁, hin.1, hin.2, Nat.not_le.mpr hin.2, harr, hv, hvobj, hkv₁, hkcomp₁, hinst₁, hsh]
  exact hrest
end
theorem zw_findH {vm : Vm} {name : String} {c : ClassId} (h : vm.findClass name = some c) : ∃ k, vm.classes[c]? = some k ∧ k.name = name ∧ k.hidden = none := by
  obtain ⟨hlt, hp, _⟩ := Array.findIdx?_eq_some_iff_getElem.mp h
  refine ⟨vm.classes[c], by simp [hlt], ?_⟩
  simp only [Bool.and_eq_true, beq_iff_eq, Option.isNone_iff_eq_none] at hp
  exact ⟨hp.1.1.1, hp.1.1.2⟩
def zw_ThrM (E : String) (names : List String) : Prop :=
  Bundle.fit E = true ∧ (∀ n ∈ names, Bundle.fit n = true) ∧ ∀ w ∈ vx_atM E names, (w ∈ lw_all ∨ (w ∈ lw_tbl ∧ zw_kd w = true)) ∧ vx_ot w = true
theorem zw_thM : zw_ThrM "java/lang/ArrayStoreException" ["java/lang/RuntimeException", "java/lang/Exception"] := by
  refine ⟨by decide +kernel, by decide +kernel, ?_⟩
  have e9 : vx_atM "java/lang/ArrayStoreException" ["java/lang/RuntimeException", "java/lang/Exception"] = [(Jvm.Cond.initialized "java/lang/Throwable"), (Jvm.Cond.superclass "java/lang/Throwable" "java/lang/Object"), (Jvm.Cond.instanceMethod ({ cls := "java/lang/Throwable", name := "fillInStackTrace", desc := "()Ljava/lang/Throwable;" } : Jvm.MethodName)), (Jvm.Cond.codeSync ({ cls := "java/lang/Throwable", name := "fillInStackTrace", desc := "()Ljava/lang/Throwable;" } : Jvm.MethodName) prog_38_method_18_code (1 : Nat) (Option.some (Jvm.ClassFile.FieldType.object "java/lang/Throwable"))), (Jvm.Cond.instanceMethod ({ cls := "java/lang/Throwable", name := "fillInStackTrace", desc := "(I)Ljava/lang/Throwable;" } : Jvm.MethodName)), (Jvm.Cond.native ({ cls := "java/lang/Throwable", name := "fillInStackTrace", desc := "(I)Ljava/lang/Throwable;" } : Jvm.MethodName)), (Jvm.Cond.instanceMethod ({ cls := "java/lang/Throwable", name := "<init>", desc := "()V" } : Jvm.MethodName)), (Jvm.Cond.code ({ cls := "java/lang/Throwable", name := "<init>", desc := "()V" } : Jvm.MethodName) prog_38_method_1_code (1 : Nat) (Option.none : Option Jvm.ClassFile.FieldType)), (Jvm.Cond.instanceMethod ({ cls := "java/lang/Object", name := "<init>", desc := "()V" } : Jvm.MethodName)), (Jvm.Cond.code ({ cls := "java/lang/Object", name := "<init>", desc := "()V" } : Jvm.MethodName) object_method_1_code (1 : Nat) (Option.none : Option Jvm.ClassFile.FieldType)), (Jvm.Cond.methodLink "java/lang/Throwable" (1 : Nat) ({ cls := "java/lang/Object", name := "<init>", desc := "()V" } : Jvm.MethodName)), (Jvm.Cond.methodLink "java/lang/Throwable" (27 : Nat) ({ cls := "java/lang/Throwable", name := "fillInStackTrace", desc := "()Ljava/lang/Throwable;" } : Jvm.MethodName)), (Jvm.Cond.methodLink "java/lang/Throwable" (202 : Nat) ({ cls := "java/lang/Throwable", name := "fillInStackTrace", desc := "(I)Ljava/lang/Throwable;" } : Jvm.MethodName)), (Jvm.Cond.fieldLink "java/lang/Throwable" (7 : Nat) "java/lang/Throwable" "cause" "Ljava/lang/Throwable;"), (Jvm.Cond.lays "java/lang/Throwable" "java/lang/Throwable" "cause" "Ljava/lang/Throwable;"), (Jvm.Cond.fieldLink "java/lang/Throwable" (17 : Nat) "java/lang/Throwable" "stackTrace" "[Ljava/lang/StackTraceElement;"), (Jvm.Cond.lays "java/lang/Throwable" "java/lang/Throwable" "stackTrace" "[Ljava/lang/StackTraceElement;"), (Jvm.Cond.fieldLink "java/lang/Throwable" (24 : Nat) "java/lang/Throwable" "suppressedExceptions" "Ljava/util/List;"), (Jvm.Cond.lays "java/lang/Throwable" "java/lang/Throwable" "suppressedExceptions" "Ljava/util/List;"), (Jvm.Cond.fieldLink "java/lang/Throwable" (13 : Nat) "java/lang/Throwable" "UNASSIGNED_STACK" "[Ljava/lang/StackTraceElement;"), (Jvm.Cond.fieldLink "java/lang/Throwable" (20 : Nat) "java/lang/Throwable" "SUPPRESSED_SENTINEL" "Ljava/util/List;"), (Jvm.Cond.lays "java/lang/Throwable" "java/lang/Throwable" "detailMessage" "Ljava/lang/String;"), (Jvm.Cond.instanceMethod ({ cls := "java/lang/Throwable", name := "<init>", desc := "(Ljava/lang/String;)V" } : Jvm.MethodName)), (Jvm.Cond.code ({ cls := "java/lang/Throwable", name := "<init>", desc := "(Ljava/lang/String;)V" } : Jvm.MethodName) prog_38_method_2_code (2 : Nat) (Option.none : Option Jvm.ClassFile.FieldType)), (Jvm.Cond.fieldLink "java/lang/Throwable" (31 : Nat) "java/lang/Throwable" "detailMessage" "Ljava/lang/String;"), (Jvm.Cond.lays "java/lang/Throwable" "java/lang/Throwable" "detailMessage" "Ljava/lang/String;"), (Jvm.Cond.instanceMethod ({ cls := "java/lang/ArrayStoreException", name := "<init>", desc := "(Ljava/lang/String;)V" } : Jvm.MethodName)), (Jvm.Cond.code ({ cls := "java/lang/ArrayStoreException", name := "<init>", desc := "(Ljava/lang/String;)V" } : Jvm.MethodName) prog_15_method_2_code (2 : Nat) (Option.none : Option Jvm.ClassFile.FieldType)), (Jvm.Cond.methodLink "java/lang/ArrayStoreException" (7 : Nat) ({ cls := "java/lang/RuntimeException", name := "<init>", desc := "(Ljava/lang/String;)V" } : Jvm.MethodName)), (Jvm.Cond.instanceMethod ({ cls := "java/lang/RuntimeException", name := "<init>", desc := "(Ljava/lang/String;)V" } : Jvm.MethodName)), (Jvm.Cond.declares ({ cls := "java/lang/RuntimeException", name := "<init>", desc := "(Ljava/lang/String;)V" } : Jvm.MethodName)), (Jvm.Cond.instanceMethod ({ cls := "java/lang/RuntimeException", name := "<init>", desc := "(Ljava/lang/String;)V" } : Jvm.MethodName)), (Jvm.Cond.code ({ cls := "java/lang/RuntimeException", name := "<init>", desc := "(Ljava/lang/String;)V" } : Jvm.MethodName) prog_31_method_2_code (2 : Nat) (Option.none : Option Jvm.ClassFile.FieldType)), (Jvm.Cond.methodLink "java/lang/RuntimeException" (7 : Nat) ({ cls := "java/lang/Exception", name := "<init>", desc := "(Ljava/lang/String;)V" } : Jvm.MethodName)), (Jvm.Cond.instanceMethod ({ cls := "java/lang/Exception", name := "<init>", desc := "(Ljava/lang/String;)V" } : Jvm.MethodName)), (Jvm.Cond.declares ({ cls := "java/lang/Exception", name := "<init>", desc := "(Ljava/lang/String;)V" } : Jvm.MethodName)), (Jvm.Cond.instanceMethod ({ cls := "java/lang/Exception", name := "<init>", desc := "(Ljava/lang/String;)V" } : Jvm.MethodName)), (Jvm.Cond.code ({ cls := "java/lang/Exception", name := "<init>", desc := "(Ljava/lang/String;)V" } : Jvm.MethodName) prog_20_method_2_code (2 : Nat) (Option.none : Option Jvm.ClassFile.FieldType)), (Jvm.Cond.methodLink "java/lang/Exception" (7 : Nat) ({ cls := "java/lang/Throwable", name := "<init>", desc := "(Ljava/lang/String;)V" } : Jvm.MethodName)), (Jvm.Cond.instanceMethod ({ cls := "java/lang/Throwable", name := "<init>", desc := "(Ljava/lang/String;)V" } : Jvm.MethodName)), (Jvm.Cond.declares ({ cls := "java/lang/Throwable", name := "<init>", desc := "(Ljava/lang/String;)V" } : Jvm.MethodName)), (Jvm.Cond.initialized "java/lang/String"), (Jvm.Cond.instantiable "java/lang/String" (4 : Nat)), (Jvm.Cond.arrayClass Jvm.ClassFile.FieldType.byte), (Jvm.Cond.laysFinal "java/lang/String" "java/lang/String" "value" "[B"), (Jvm.Cond.laysFinal "java/lang/String" "java/lang/String" "coder" "B"), (Jvm.Cond.soleField "java/lang/String" "value"), (Jvm.Cond.soleField "java/lang/String" "coder"), (Jvm.Cond.initialized "java/lang/ArrayStoreException"), (Jvm.Cond.instantiable "java/lang/ArrayStoreException" (6 : Nat)), (Jvm.Cond.castable "java/lang/ArrayStoreException" "java/lang/ArrayStoreException"), (Jvm.Cond.selects "java/lang/ArrayStoreException" ({ cls := "java/lang/Throwable", name := "fillInStackTrace", desc := "(I)Ljava/lang/Throwable;" } : Jvm.MethodName) ({ cls := "java/lang/Throwable", name := "fillInStackTrace", desc := "(I)Ljava/lang/Throwable;" } : Jvm.MethodName)), (Jvm.Cond.selects "java/lang/ArrayStoreException" ({ cls := "java/lang/Throwable", name := "fillInStackTrace", desc := "()Ljava/lang/Throwable;" } : Jvm.MethodName) ({ cls := "java/lang/Throwable", name := "fillInStackTrace", desc := "()Ljava/lang/Throwable;" } : Jvm.MethodName)), (Jvm.Cond.lays "java/lang/ArrayStoreException" "java/lang/Throwable" "cause" "Ljava/lang/Throwable;"), (Jvm.Cond.lays "java/lang/ArrayStoreException" "java/lang/Throwable" "stackTrace" "[Ljava/lang/StackTraceElement;"), (Jvm.Cond.lays "java/lang/ArrayStoreException" "java/lang/Throwable" "suppressedExceptions" "Ljava/util/List;"), (Jvm.Cond.lays "java/lang/ArrayStoreException" "java/lang/Throwable" "detailMessage" "Ljava/lang/String;"), (Jvm.Cond.fieldLink "java/lang/Throwable" (198 : Nat) "java/lang/Throwable" "backtrace" "Ljava/lang/Object;"), (Jvm.Cond.lays "java/lang/Throwable" "java/lang/Throwable" "backtrace" "Ljava/lang/Object;"), (Jvm.Cond.lays "java/lang/ArrayStoreException" "java/lang/Throwable" "backtrace" "Ljava/lang/Object;")] := by decide +kernel
  rw [e9]
  exact List.forall_mem_cons.mpr ⟨⟨Or.inl q112, rfl⟩, List.forall_mem_cons.mpr ⟨⟨Or.inl q346, rfl⟩, List.forall_mem_cons.mpr ⟨⟨Or.inl q296, rfl⟩, List.forall_mem_cons.mpr ⟨⟨Or.inl q306, rfl⟩, List.forall_mem_cons.mpr ⟨⟨Or.inl q309, rfl⟩, List.forall_mem_cons.mpr ⟨⟨Or.inl q311, rfl⟩, List.forall_mem_cons.mpr ⟨⟨Or.inl q347, rfl⟩, List.forall_mem_cons.mpr ⟨⟨Or.inl q348, rfl⟩, List.forall_mem_cons.mpr ⟨⟨Or.inl q159, rfl⟩, List.forall_mem_cons.mpr ⟨⟨Or.inl q160, rfl⟩, List.forall_mem_cons.mpr ⟨⟨Or.inl q290, rfl⟩, List.forall_mem_cons.mpr ⟨⟨Or.inl q295, rfl⟩, List.forall_mem_cons.mpr ⟨⟨Or.inl q307, rfl⟩, List.forall_mem_cons.mpr ⟨⟨Or.inl q314, rfl⟩, List.forall_mem_cons.mpr ⟨⟨Or.inl q340, rfl⟩, List.forall_mem_cons.mpr ⟨⟨Or.inl q315, rfl⟩, List.forall_mem_cons.mpr ⟨⟨Or.inl q341, rfl⟩, List.forall_mem_cons.mpr ⟨⟨Or.inl q316, rfl⟩, List.forall_mem_cons.mpr ⟨⟨Or.inl q342, rfl⟩, List.forall_mem_cons.mpr ⟨⟨Or.inl q291, rfl⟩, List.forall_mem_cons.mpr ⟨⟨Or.inl q293, rfl⟩, List.forall_mem_cons.mpr ⟨⟨Or.inl q343, rfl⟩, List.forall_mem_cons.mpr ⟨⟨Or.inl q288, rfl⟩, List.forall_mem_cons.mpr ⟨⟨Or.inl q289, rfl⟩, List.forall_mem_cons.mpr ⟨⟨Or.inl q313, rfl⟩, List.forall_mem_cons.mpr ⟨⟨Or.inl q343, rfl⟩, List.forall_mem_cons.mpr ⟨⟨Or.inl q986, rfl⟩, List.forall_mem_cons.mpr ⟨⟨Or.inl q987, rfl⟩, List.forall_mem_cons.mpr ⟨⟨Or.inl q988, rfl⟩, List.forall_mem_cons.mpr ⟨⟨Or.inl q282, rfl⟩, List.forall_mem_cons.mpr ⟨⟨Or.inr ⟨q334, rfl⟩, rfl⟩, List.forall_mem_cons.mpr ⟨⟨Or.inl q282, rfl⟩, List.forall_mem_cons.mpr ⟨⟨Or.inl q283, rfl⟩, List.forall_mem_cons.mpr ⟨⟨Or.inl q284, rfl⟩, List.forall_mem_cons.mpr ⟨⟨Or.inl q285, rfl⟩, List.forall_mem_cons.mpr ⟨⟨Or.inr ⟨q336, rfl⟩, rfl⟩, List.forall_mem_cons.mpr ⟨⟨Or.inl q285, rfl⟩, List.forall_mem_cons.mpr ⟨⟨Or.inl q286, rfl⟩, List.forall_mem_cons.mpr ⟨⟨Or.inl q287, rfl⟩, List.forall_mem_cons.mpr ⟨⟨Or.inl q288, rfl⟩, List.forall_mem_cons.mpr ⟨⟨Or.inr ⟨q338, rfl⟩, rfl⟩, List.forall_mem_cons.mpr ⟨⟨Or.inl q109, rfl⟩, List.forall_mem_cons.mpr ⟨⟨Or.inl q349, rfl⟩, List.forall_mem_cons.mpr ⟨⟨Or.inl q182, rfl⟩, List.forall_mem_cons.mpr ⟨⟨Or.inl q350, rfl⟩, List.forall_mem_cons.mpr ⟨⟨Or.inl q352, rfl⟩, List.forall_mem_cons.mpr ⟨⟨Or.inl q351, rfl⟩, List.forall_mem_cons.mpr ⟨⟨Or.inl q353, rfl⟩, List.forall_mem_cons.mpr ⟨⟨Or.inl q136, rfl⟩, List.forall_mem_cons.mpr ⟨⟨Or.inl q985, rfl⟩, List.forall_mem_cons.mpr ⟨⟨Or.inr ⟨q996, rfl⟩, rfl⟩, List.forall_mem_cons.mpr ⟨⟨Or.inl q997, rfl⟩, List.forall_mem_cons.mpr ⟨⟨Or.inl q300, rfl⟩, List.forall_mem_cons.mpr ⟨⟨Or.inl q991, rfl⟩, List.forall_mem_cons.mpr ⟨⟨Or.inl q992, rfl⟩, List.forall_mem_cons.mpr ⟨⟨Or.inl q994, rfl⟩, List.forall_mem_cons.mpr ⟨⟨Or.inl q990, rfl⟩, List.forall_mem_cons.mpr ⟨⟨Or.inl q312, rfl⟩, List.forall_mem_cons.mpr ⟨⟨Or.inl q344, rfl⟩, List.forall_mem_cons.mpr ⟨⟨Or.inl q989, rfl⟩, fun _ h => absurd h List.not_mem_nil⟩⟩⟩⟩⟩⟩⟩⟩⟩⟩⟩⟩⟩⟩⟩⟩⟩⟩⟩⟩⟩⟩⟩⟩⟩⟩⟩⟩⟩⟩⟩⟩⟩⟩⟩⟩⟩⟩⟩⟩⟩⟩⟩⟩⟩⟩⟩⟩⟩⟩⟩⟩⟩⟩⟩⟩⟩⟩⟩⟩
/-- a store into a row of Free: it is taken, or thrown at -/
def os_AW (h : zw_H) (r : Option Nat) (i : Int32) (v : Option Nat) (F : zw_H → Prop) (XX : String → Nat → zw_H → Prop) : Prop := match v with
  | none => False
  | some b => match h b with
    | some (.inr (7, _)) => os_A h r 9 [7] [] i (some b) F
    | some (.inr (6, _)) => match r with
      | none => False
      | some a => match h a with
        | some (.inl (9, n, .inr (.inr (.inr (.inr _))))) => ¬ (i < 0 ∨ n ≤ i.toNatClampNeg) ∧ ∀ q, XX "java/lang/ArrayStoreException" q h
        | _ => False
    | _ => False
theorem zw_fitsF : zw_fits [7] "MultipoleLine$Free" := by
  intro ci hci
  simp only [List.mem_cons, List.not_mem_nil, or_false] at hci
  subst hci
  exact ⟨_, rfl, Or.inl rfl⟩
theorem zw_dot : dotted "MultipoleLine$Fixed" = "MultipoleLine$Fixed" := by decide +kernel
section
variable {X : zw_X} {cc : ByteArray} {own nm : String} {nL kc ks pc : Nat} {h : zw_H} {L : List (Nat × Value)} {S : List Value} {R0 : Room}
theorem zg_aastW {r v : Option Nat} {i : Int32} {F : zw_H → Prop} {XX : String → Nat → zw_H → Prop} (ok : zw_ok X cc own nm nL) (hRm : zw_rm X = R0) (d : decode cc pc = .ok (.aastore, 1)) (hE : os_AW h r i v F XX)
    (hRs : 6 < R0.frames ∧ 10250 ≤ R0.locals ∧ kc + 3 ≤ R0.cells ∧ ks + 30 ≤ R0.slots) (hw : S.length ≤ 4)
    (g1 : ∀ h', F h' → zw_G X kc ks nL h' (pc + 1) L S) (g2 : ∀ (E9 : String) (q9 : Nat) (h9 : zw_H), XX E9 q9 h9 → zw_GX X (kc + 3) (ks + 30) nL h9 pc L S E9 q9) : zw_G X kc ks nL h pc L (va_rf v :: .int i :: va_rf r :: S) := by
  cases v with
  | none => exact hE.elim
  | some b =>
    unfold os_AW at hE
    dsimp only at hE
    split at hE
    · exact zg_aastF ok zw_fitsF d hE g1
    · rename_i fs hb9
      cases r with
      | none => exact hE.elim
      | some a =>
        dsimp only at hE
        split at hE
        · rename_i n f ha
          obtain ⟨hin, hX⟩ := hE
          obtain ⟨p, l, e, R, s, m, args, below, meth, c, Z, Q⟩ := X
          have hRm : R = R0 := hRm
          subst hRm
          obtain ⟨hx, hb, hml, hown, hts, hK, hzs, hbs, hfl, -, hlocks⟩ := ok
          obtain ⟨k1, k2, k5⟩ := zw_thM
          intro H locs ls hR hz hc hl T hT Xs
          have hS := zr_S hR hbs hz hc
          obtain ⟨hA1, kA, hkA, comp, hkd⟩ := (hK.1.2 9 _ rfl).1 n (fun j => va_rf (f j))
          obtain ⟨kA, comp, hk1, hk2, hk3, -⟩ := (hK.1.2 9 _ rfl).2
          obtain ⟨kE, hkE, -⟩ := Vm.findClass_spec hk3
          obtain ⟨cellV, g3, g4, g5⟩ := va_recv hK.1 (zr_one hR hb9) (show zwCl[6]? = some _ from rfl) (show [(b, zw_va Z (.inr (6, fs)))][0]? = some _ from rfl)
          obtain ⟨kV, hkV, hnm, hhid⟩ := zw_findH g5
          obtain ⟨cF, cT, n1, n2, n3⟩ := hK.2.2.2.2.2.2.2.2.2.2.1 ("MultipoleLine$Fixed", "MultipoleLine$Free") List.mem_cons_self
          have e1 : cF = cellV.cls := Option.some.inj (n1.symm.trans g5)
          have e2 : cT = comp := Option.some.inj (n2.symm.trans hk3)
          subst e1 e2
          have hin2 : ¬ i < 0 ∧ i.toNatClampNeg < n := ⟨fun q => hin (Or.inl q), Nat.not_le.mp fun q => hin (Or.inr q)⟩
          have hac : H[a]? = some (vp_cell (Z.2.1 9) (n, .inr (.inr (.inr (.inr f))))) := zr_one hR ha 0 _ rfl
          have hnote : vx_Note p l e R s m args below meth c H locs kc ks Q (F0 m pc ls S) "java/lang/ArrayStoreException" "MultipoleLine$Fixed" := by
            refine vx_vm (names := ["java/lang/RuntimeException", "java/lang/Exception"]) (nb := 20) (A := zw_A Z) hx hfl k1 k2 (by decide) (by decide) (fun w hw => ?_) (fun w hw => (k5 w hw).2) (hK.2.2.2.2.2.2.2.2.1.kept (fun a _ ha => hbs a (Nat.lt_of_not_le ha))) (hK.2.2.2.2.2.2.2.2.2.1.kept (fun a _ ha => hbs a (Nat.lt_of_not_le ha))) hS (by rw [hml]; exact hl.1) (by decide +kernel) (by decide +kernel) (by decide) hRs.1 ?_ (by decide) hRs.2.2.1 hRs.2.2.2 hlocks (fun H1 q9 ce h1 h2 h3 h4 h5 h6 => ?_)
            · rcases (k5 w hw).1 with h1 | ⟨h1, h2⟩
              · exact hts _ h1
              · exact va_Nw.use (zw_kd_tab h2) (hK.2.1 _ h1 h2)
            · have := zw_w8 hw
              have h9 := hRs.2.1
              show _ ≤ R.locals
              omega
            · refine g2 _ q9 _ (hX q9) H1 locs ls ce ⟨Nat.le_trans hR.1 h1, fun q hq => (h2 q (Nat.lt_of_lt_of_le hq hR.1)).trans (hR.2.1 q hq), fun a x9 hx9 => ⟨?_, (hR.2.2 a x9 hx9).2⟩⟩ (Nat.le_trans hz h1) hc hl h4 h5 h6
              have h1 := (hR.2.2 a x9 hx9).1
              exact h1.kept (h2 a h1.lt)
          obtain ⟨t, st, q⟩ := hnote T hT Xs
          refine ⟨t, ?_, q⟩
          refine zw_aastWrong Xs hx (cell := vp_cell (Z.2.1 9) (n, .inr (.inr (.inr (.inr f))))) (cv := cellV) (by rw [hT]; exact hac) (fun q => by intro z; cases z) (fun z => by cases z) hk1 hk2 hkE ⟨hin2.1, by show _ < (arrV _ _ _).slots.size; rw [arrV_size]; exact hin2.2⟩ (by rw [hT]; exact g3) (fun q z => by rw [z] at g4; cases g4) hkV hhid n3 (g := F0 m pc ls (.ref b :: .int i :: .ref a :: S)) rfl (rest := S) rfl (by rw [hb]; exact d) t ?_
          rw [show dotted kV.name = "MultipoleLine$Fixed" from by rw [hnm]; exact zw_dot]
          exact st
        · exact hE.elim
    · exact hE.elim
end

