set_option maxRecDepth 100000
set_option maxHeartbeats 8000000 in
theorem gt_f_X2_costOf_J47 {Xc : zw_X} {Q : Int32 → zw_H → Prop} {X : String → Nat → zw_H → Prop} (hl : (zw_l Xc).stackTraces = false) (ok : zw_ok Xc cX2_costOf "MultipoleLineModel" yX2_costOf.name 5) (tab : zw_tab Xc []) (fin : zw_fin Xc (Option.some Jvm.ClassFile.FieldType.int) (zq_I Q) X 0 0) (hRm : zw_rm Xc = rm_X2_costOf) {kc ks : Nat} (hb : kc ≤ 0 ∧ ks ≤ 0) {R : Int32 → Int32 → zw_H → Prop} {l0 : Option Nat} {l1 : Int32} {l2 : Int32} (hR : ∀ (l3 : Int32) (l4 : Int32) (h : zw_H), R l3 l4 h → zw_G Xc kc ks 5 h 5 [(0, va_rf l0), (1, .int l1), (2, .int l2), (3, .int l3), (4, .int l4)] []) {k58 : Int32 → zw_H → Prop} (hk58 : ∀ (l3 : Int32) (h : zw_H), k58 l3 h → zw_G Xc kc ks 5 h 58 [(0, va_rf l0), (1, .int l1), (2, .int l2), (3, .int l3)] [])  {l4 : Int32} {s0 : Int32} {s1 : Int32} {h : zw_H} (hE : f_X2_costOf_J47 (zw_Zf Xc).2.2.2 Q X R k58 l0 l1 l2 l4 s0 s1 h) : zw_G Xc kc ks 5 h 47 [(0, va_rf l0), (1, .int l1), (2, .int l2), (4, .int l4)] [.int s0, .int s1] := by
  unfold f_X2_costOf_J47 at hE
  refine zg_callS (vs := [zI s0]) (rest := [.int s1]) (rm := rm_X2_one) ok hRm lk_X2_170 dX2_costOf_47 hE (fun hE => mt_X2_one hl hE) rfl (Nat.le_of_ble_eq_true rfl) ⟨⟨Nat.le_of_ble_eq_true rfl, Nat.le_of_ble_eq_true rfl⟩, (by show kc + 0 ≤ 0; omega), (by show ks + 0 ≤ 0; omega)⟩ (zg_retI (fun v4 h2 hE => ?_)) (zg_xok ok tab fin ⟨(by show kc + 0 ≤ 0; omega), (by show ks + 0 ≤ 0; omega)⟩)
  refine zg_cost (kc2 := kc) (ks2 := ks) ⟨(by show kc + 0 = kc; omega), (by show ks + 0 = ks; omega)⟩ ?_
  refine zg_iadd ok dX2_costOf_50 ?_
  refine zg_letI hE (fun v5 hE => ?_)
  refine zg_istore_n (L' := [(3, .int v5), (0, va_rf l0), (1, .int l1), (2, .int l2), (4, .int l4)]) ok dX2_costOf_51 rfl (by decide) rfl ?_
  refine zg_iincL (k := 4) (L' := fun v6 => [(4, .int v6), (3, .int v5), (0, va_rf l0), (1, .int l1), (2, .int l2)]) ok dX2_costOf_52 (by decide +kernel) hE rfl (by decide) (fun _ => rfl) (fun v6 hE => ?_)
  refine zg_goto (tgt := 5) ok dX2_costOf_55 (by decide) ?_
  refine zg_sub (L' := [(0, va_rf l0), (1, .int l1), (2, .int l2), (3, .int v5), (4, .int v6)]) [2, 3, 4, 1, 0] rfl ?_
  exact hR _ _ _ hE
set_option maxHeartbeats 8000000 in
theorem gt_f_X2_costOf_J46 {Xc : zw_X} {Q : Int32 → zw_H → Prop} {X : String → Nat → zw_H → Prop} (hl : (zw_l Xc).stackTraces = false) (ok : zw_ok Xc cX2_costOf "MultipoleLineModel" yX2_costOf.name 5) (tab : zw_tab Xc []) (fin : zw_fin Xc (Option.some Jvm.ClassFile.FieldType.int) (zq_I Q) X 0 0) (hRm : zw_rm Xc = rm_X2_costOf) {kc ks : Nat} (hb : kc ≤ 0 ∧ ks ≤ 0) {R : Int32 → Int32 → zw_H → Prop} {l0 : Option Nat} {l1 : Int32} {l2 : Int32} (hR : ∀ (l3 : Int32) (l4 : Int32) (h : zw_H), R l3 l4 h → zw_G Xc kc ks 5 h 5 [(0, va_rf l0), (1, .int l1), (2, .int l2), (3, .int l3), (4, .int l4)] []) {k58 : Int32 → zw_H → Prop} (hk58 : ∀ (l3 : Int32) (h : zw_H), k58 l3 h → zw_G Xc kc ks 5 h 58 [(0, va_rf l0), (1, .int l1), (2, .int l2), (3, .int l3)] [])  {l4 : Int32} {s0 : Int32} {h : zw_H} (hE : f_X2_costOf_J46 (zw_Zf Xc).2.2.2 Q X R k58 l0 l1 l2 l4 s0 h) : zw_G Xc kc ks 5 h 46 [(0, va_rf l0), (1, .int l1), (2, .int l2), (4, .int l4)] [.int s0] := by
  unfold f_X2_costOf_J46 at hE
  refine zg_iconst (v := 0) ok dX2_costOf_46 (by decide) ?_
  exact gt_f_X2_costOf_J47 hl ok tab fin hRm hb hR hk58 hE
set_option maxHeartbeats 8000000 in
theorem gt_f_X2_costOf_J42 {Xc : zw_X} {Q : Int32 → zw_H → Prop} {X : String → Nat → zw_H → Prop} (hl : (zw_l Xc).stackTraces = false) (ok : zw_ok Xc cX2_costOf "MultipoleLineModel" yX2_costOf.name 5) (tab : zw_tab Xc []) (fin : zw_fin Xc (Option.some Jvm.ClassFile.FieldType.int) (zq_I Q) X 0 0) (hRm : zw_rm Xc = rm_X2_costOf) {kc ks : Nat} (hb : kc ≤ 0 ∧ ks ≤ 0) {R : Int32 → Int32 → zw_H → Prop} {l0 : Option Nat} {l1 : Int32} {l2 : Int32} (hR : ∀ (l3 : Int32) (l4 : Int32) (h : zw_H), R l3 l4 h → zw_G Xc kc ks 5 h 5 [(0, va_rf l0), (1, .int l1), (2, .int l2), (3, .int l3), (4, .int l4)] []) {k58 : Int32 → zw_H → Prop} (hk58 : ∀ (l3 : Int32) (h : zw_H), k58 l3 h → zw_G Xc kc ks 5 h 58 [(0, va_rf l0), (1, .int l1), (2, .int l2), (3, .int l3)] [])  {l4 : Int32} {s0 : Int32} {h : zw_H} (hE : f_X2_costOf_J42 (zw_Zf Xc).2.2.2 Q X R k58 l0 l1 l2 l4 s0 h) : zw_G Xc kc ks 5 h 42 [(0, va_rf l0), (1, .int l1), (2, .int l2), (4, .int l4)] [.int s0] := by
  unfold f_X2_costOf_J42 at hE
  refine zg_iconst (v := 1) ok dX2_costOf_42 (by decide) ?_
  refine zg_goto (tgt := 47) ok dX2_costOf_43 (by decide) ?_
  exact gt_f_X2_costOf_J47 hl ok tab fin hRm hb hR hk58 hE
set_option maxHeartbeats 8000000 in
theorem gt_f_X2_costOf_B5 {Xc : zw_X} {Q : Int32 → zw_H → Prop} {X : String → Nat → zw_H → Prop} (hl : (zw_l Xc).stackTraces = false) (ok : zw_ok Xc cX2_costOf "MultipoleLineModel" yX2_costOf.name 5) (tab : zw_tab Xc []) (fin : zw_fin Xc (Option.some Jvm.ClassFile.FieldType.int) (zq_I Q) X 0 0) (hRm : zw_rm Xc = rm_X2_costOf) {kc ks : Nat} (hb : kc ≤ 0 ∧ ks ≤ 0) {R : Int32 → Int32 → zw_H → Prop} {l0 : Option Nat} {l1 : Int32} {l2 : Int32} (hR : ∀ (l3 : Int32) (l4 : Int32) (h : zw_H), R l3 l4 h → zw_G Xc kc ks 5 h 5 [(0, va_rf l0), (1, .int l1), (2, .int l2), (3, .int l3), (4, .int l4)] []) {k58 : Int32 → zw_H → Prop} (hk58 : ∀ (l3 : Int32) (h : zw_H), k58 l3 h → zw_G Xc kc ks 5 h 58 [(0, va_rf l0), (1, .int l1), (2, .int l2), (3, .int l3)] [])  {l3 : Int32} {l4 : Int32} {h : zw_H} (hE : f_X2_costOf_B5 (zw_Zf Xc).2.2.2 Q X k58 l0 l1 l2 R l3 l4 h) : zw_G Xc kc ks 5 h 5 [(0, va_rf l0), (1, .int l1), (2, .int l2), (3, .int l3), (4, .int l4)] [] := by
  unfold f_X2_costOf_B5 at hE
  refine zg_iload ok dX2_costOf_5 4 rfl ?_
  refine zg_aload_n ok dX2_costOf_7 rfl 0 rfl ?_
  refine zg_getA ok lf_X2_9 dX2_costOf_8 hE (fun v1 hE => ?_)
  refine zg_iconst (v := 0) ok dX2_costOf_11 (by decide) ?_
  refine zg_iald ok dX2_costOf_12 hE (fun v2 hE => ?_)
  refine zg_icmp_ge (tgt := 58) ok dX2_costOf_13 (by decide) hE (fun hE => ?_) (fun hE => ?_)
  · refine zg_sub (L' := [(0, va_rf l0), (1, .int l1), (2, .int l2), (3, .int l3)]) [0, 1, 2, 3] rfl ?_
    exact hk58 _ _ hE
  · refine zg_iload_n ok dX2_costOf_16 rfl 3 rfl ?_
    refine zg_aload_n ok dX2_costOf_17 rfl 0 rfl ?_
    refine zg_iload ok dX2_costOf_18 4 rfl ?_
    refine zg_iconst (v := 0) ok dX2_costOf_20 (by decide) ?_
    refine zg_callV (vs := [zI l4, zI 0]) (rest := [.int l3]) (rm := rm_X2_of) ok hRm lk_X2_163 dX2_costOf_21 hE (fun hE => mt_X2_of hl hE) rfl (Nat.le_of_ble_eq_true rfl) ⟨⟨Nat.le_of_ble_eq_true rfl, Nat.le_of_ble_eq_true rfl⟩, (by show kc + 0 ≤ 0; omega), (by show ks + 0 ≤ 0; omega)⟩ (zg_retI (fun v3 h1 hE => ?_)) (zg_xok ok tab fin ⟨(by show kc + 0 ≤ 0; omega), (by show ks + 0 ≤ 0; omega)⟩)
    refine zg_cost (kc2 := kc) (ks2 := ks) ⟨(by show kc + 0 = kc; omega), (by show ks + 0 = ks; omega)⟩ ?_
    refine zg_iload_n ok dX2_costOf_24 rfl 1 rfl ?_
    refine zg_icmp_eq (tgt := 46) ok dX2_costOf_25 (by decide) hE (fun hE => ?_) (fun hE => ?_)
    · refine zg_sub (L' := [(0, va_rf l0), (1, .int l1), (2, .int l2), (4, .int l4)]) [0, 1, 2, 4] rfl ?_
      exact gt_f_X2_costOf_J46 hl ok tab fin hRm hb hR hk58 hE
    · refine zg_iload_n ok dX2_costOf_28 rfl 2 rfl ?_
      refine zg_if_ne (tgt := 42) ok dX2_costOf_29 (by decide) hE (fun hE => ?_) (fun hE => ?_)
      · refine zg_sub (L' := [(0, va_rf l0), (1, .int l1), (2, .int l2), (4, .int l4)]) [0, 1, 2, 4] rfl ?_
        exact gt_f_X2_costOf_J42 hl ok tab fin hRm hb hR hk58 hE
      · refine zg_aload_n ok dX2_costOf_32 rfl 0 rfl ?_
        refine zg_iload ok dX2_costOf_33 4 rfl ?_
        refine zg_iload_n ok dX2_costOf_35 rfl 1 rfl ?_
        refine zg_callV (vs := [zI l4, zI l1]) (rest := [.int l3]) (rm := rm_X2_isNear) ok hRm lk_X2_263 dX2_costOf_36 hE (fun hE => mt_X2_isNear hl hE) rfl (Nat.le_of_ble_eq_true rfl) ⟨⟨Nat.le_of_ble_eq_true rfl, Nat.le_of_ble_eq_true rfl⟩, (by show kc + 0 ≤ 0; omega), (by show ks + 0 ≤ 0; omega)⟩ (zg_retI (fun v7 h3 hE => ?_)) (zg_xok ok tab fin ⟨(by show kc + 0 ≤ 0; omega), (by show ks + 0 ≤ 0; omega)⟩)
        refine zg_cost (kc2 := kc) (ks2 := ks) ⟨(by show kc + 0 = kc; omega), (by show ks + 0 = ks; omega)⟩ ?_
        refine zg_if_eq (tgt := 46) ok dX2_costOf_39 (by decide) hE (fun hE => ?_) (fun hE => ?_)
        · refine zg_sub (L' := [(0, va_rf l0), (1, .int l1), (2, .int l2), (4, .int l4)]) [0, 1, 2, 4] rfl ?_
          exact gt_f_X2_costOf_J46 hl ok tab fin hRm hb hR hk58 hE
        · refine zg_sub (L' := [(0, va_rf l0), (1, .int l1), (2, .int l2), (4, .int l4)]) [0, 1, 2, 4] rfl ?_
          exact gt_f_X2_costOf_J42 hl ok tab fin hRm hb hR hk58 hE
theorem gt_f_X2_costOf_L5 {Xc : zw_X} {Q : Int32 → zw_H → Prop} {X : String → Nat → zw_H → Prop} (hl : (zw_l Xc).stackTraces = false) (ok : zw_ok Xc cX2_costOf "MultipoleLineModel" yX2_costOf.name 5) (tab : zw_tab Xc []) (fin : zw_fin Xc (Option.some Jvm.ClassFile.FieldType.int) (zq_I Q) X 0 0) (hRm : zw_rm Xc = rm_X2_costOf) {kc ks : Nat} (hb : kc ≤ 0 ∧ ks ≤ 0) {l0 : Option Nat} {l1 : Int32} {l2 : Int32} {k58 : Int32 → zw_H → Prop} (hk58 : ∀ (l3 : Int32) (h : zw_H), k58 l3 h → zw_G Xc kc ks 5 h 58 [(0, va_rf l0), (1, .int l1), (2, .int l2), (3, .int l3)] [])  : ∀ (n9 : Nat) (l3 : Int32) (l4 : Int32) (h : zw_H), zl3 (f_X2_costOf_B5 (zw_Zf Xc).2.2.2 Q X k58 l0 l1 l2) n9 l3 l4 h → zw_G Xc kc ks 5 h 5 [(0, va_rf l0), (1, .int l1), (2, .int l2), (3, .int l3), (4, .int l4)] [] := by
  intro n9
  induction n9 with
  | zero => intro l3 l4 h hE; exact hE.elim
  | succ n9 ih => intro l3 l4 h hE; exact gt_f_X2_costOf_B5 hl ok tab fin hRm hb ih hk58 hE
set_option maxHeartbeats 8000000 in
theorem mt_X2_costOf {l : Launch} (hl : l.stackTraces = false) {Z : zw_Z} {a0 : Option Nat} {a1 : Int32} {a2 : Int32} {h : zw_H} {Q : Int32 → zw_H → Prop} {X : String → Nat → zw_H → Prop} (hE : f_X2_costOf Z.2.2.2 a0 a1 a2 h Q X) : zw_Met l Z yX2_costOf (ws_ yX2_costOf cX2_costOf 5 (Option.some Jvm.ClassFile.FieldType.int)) rm_X2_costOf [zA a0, zI a1, zI a2] h (zq_I Q) X := by
  refine zg_start (own := "MultipoleLineModel") (by decide +kernel) rfl (Nat.le_of_ble_eq_true rfl) hl (fun Xc ok tab fin hRm hXl hXZ => ?_)
  subst hXl
  subst hXZ
  unfold f_X2_costOf at hE
  refine zg_iconst (v := 0) ok dX2_costOf_0 (by decide) ?_
  refine zg_istore_n (L' := [(3, .int 0), (0, va_rf a0), (1, .int a1), (2, .int a2)]) ok dX2_costOf_1 rfl (by decide) rfl ?_
  refine zg_iconst (v := 0) ok dX2_costOf_2 (by decide) ?_
  refine zg_istore (L' := [(4, .int 0), (3, .int 0), (0, va_rf a0), (1, .int a1), (2, .int a2)]) ok dX2_costOf_3 (by decide) rfl ?_
  refine zg_sub (L' := [(0, va_rf a0), (1, .int a1), (2, .int a2), (3, .int 0), (4, .int 0)]) [2, 3, 4, 1, 0] rfl ?_
  refine gt_f_X2_costOf_L5 hl ok tab fin hRm ⟨Nat.le_of_ble_eq_true rfl, Nat.le_of_ble_eq_true rfl⟩ ?_ _ _ _ _ hE
  · intro v8 h4 hE
    refine zg_aload_n ok dX2_costOf_58 rfl 0 rfl ?_
    refine zg_iload_n ok dX2_costOf_59 rfl 1 rfl ?_
    refine zg_callV (vs := [zI a1]) (rest := []) (rm := rm_X2_laysFar) ok hRm lk_X2_275 dX2_costOf_60 hE (fun hE => mt_X2_laysFar hl hE) rfl (Nat.le_of_ble_eq_true rfl) ⟨⟨Nat.le_of_ble_eq_true rfl, Nat.le_of_ble_eq_true rfl⟩, Nat.le_of_ble_eq_true rfl, Nat.le_of_ble_eq_true rfl⟩ (zg_retV (fun h5 hE => ?_)) (zg_xok ok tab fin ⟨Nat.le_of_ble_eq_true rfl, Nat.le_of_ble_eq_true rfl⟩)
    refine zg_cost (kc2 := 0) (ks2 := 0) ⟨rfl, rfl⟩ ?_
    refine zg_iload_n ok dX2_costOf_63 rfl 2 rfl ?_
    refine zg_if_eq (tgt := 71) ok dX2_costOf_64 (by decide) hE (fun hE => ?_) (fun hE => ?_)
    · refine zg_iload_n ok dX2_costOf_71 rfl 3 rfl ?_
      refine zg_aload_n ok dX2_costOf_72 rfl 0 rfl ?_
      refine zg_getA ok lf_X2_9 dX2_costOf_73 hE (fun v9 hE => ?_)
      refine zg_iconst (v := 4) ok dX2_costOf_76 (by decide) ?_
      refine zg_iald ok dX2_costOf_77 hE (fun v10 hE => ?_)
      refine zg_iconst (v := 1) ok dX2_costOf_78 (by decide) ?_
      refine zg_iadd ok dX2_costOf_79 ?_
      refine zg_aload_n ok dX2_costOf_80 rfl 0 rfl ?_
      refine zg_getI ok lf_X2_269 dX2_costOf_81 hE (fun v11 hE => ?_)
      refine zg_imul ok dX2_costOf_84 ?_
      refine zg_iadd ok dX2_costOf_85 ?_
      exact zg_iret ok fin dX2_costOf_86 ⟨Nat.le_of_ble_eq_true rfl, Nat.le_of_ble_eq_true rfl⟩ hE
    · refine zg_iload_n ok dX2_costOf_67 rfl 3 rfl ?_
      refine zg_goto (tgt := 86) ok dX2_costOf_68 (by decide) ?_
      exact zg_iret ok fin dX2_costOf_86 ⟨Nat.le_of_ble_eq_true rfl, Nat.le_of_ble_eq_true rfl⟩ hE
set_option maxHeartbeats 8000000 in
theorem mt_X2_cost {l : Launch} (hl : l.stackTraces = false) {Z : zw_Z} {a0 : Option Nat} {a1 : Int32} {a2 : Int32} {h : zw_H} {Q : Int32 → zw_H → Prop} {X : String → Nat → zw_H → Prop} (hE : f_X2_cost Z.2.2.2 a0 a1 a2 h Q X) : zw_Met l Z yX2_cost (ws_ yX2_cost cX2_cost 3 (Option.some Jvm.ClassFile.FieldType.int)) rm_X2_cost [zA a0, zI a1, zI a2] h (zq_I Q) X := by
  refine zg_start (own := "MultipoleLineModel") (by decide +kernel) rfl (Nat.le_of_ble_eq_true rfl) hl (fun Xc ok tab fin hRm hXl hXZ => ?_)
  subst hXl
  subst hXZ
  unfold f_X2_cost at hE
  refine zg_aload_n ok dX2_cost_0 rfl 0 rfl ?_
  refine zg_iload_n ok dX2_cost_1 rfl 1 rfl ?_
  refine zg_callV (vs := [zI a1]) (rest := []) (rm := rm_X2_mayPoint) ok hRm lk_X2_216 dX2_cost_2 hE (fun hE => mt_X2_mayPoint hl hE) rfl (Nat.le_of_ble_eq_true rfl) ⟨⟨Nat.le_of_ble_eq_true rfl, Nat.le_of_ble_eq_true rfl⟩, Nat.le_of_ble_eq_true rfl, Nat.le_of_ble_eq_true rfl⟩ (zg_retI (fun v1 h1 hE => ?_)) (zg_xok ok tab fin ⟨Nat.le_of_ble_eq_true rfl, Nat.le_of_ble_eq_true rfl⟩)
  refine zg_cost (kc2 := 0) (ks2 := 0) ⟨rfl, rfl⟩ ?_
  refine zg_if_eq (tgt := 17) ok dX2_cost_5 (by decide) hE (fun hE => ?_) (fun hE => ?_)
  · refine zg_iconst (v := 0) ok dX2_cost_17 (by decide) ?_
    exact zg_iret ok fin dX2_cost_18 ⟨Nat.le_of_ble_eq_true rfl, Nat.le_of_ble_eq_true rfl⟩ hE
  · refine zg_aload_n ok dX2_cost_8 rfl 0 rfl ?_
    refine zg_iload_n ok dX2_cost_9 rfl 1 rfl ?_
    refine zg_iload_n ok dX2_cost_10 rfl 2 rfl ?_
    refine zg_callV (vs := [zI a1, zI a2]) (rest := []) (rm := rm_X2_costOf) ok hRm lk_X2_281 dX2_cost_11 hE (fun hE => mt_X2_costOf hl hE) rfl (Nat.le_of_ble_eq_true rfl) ⟨⟨Nat.le_of_ble_eq_true rfl, Nat.le_of_ble_eq_true rfl⟩, Nat.le_of_ble_eq_true rfl, Nat.le_of_ble_eq_true rfl⟩ (zg_retI (fun v2 h2 hE => ?_)) (zg_xok ok tab fin ⟨Nat.le_of_ble_eq_true rfl, Nat.le_of_ble_eq_true rfl⟩)
    refine zg_cost (kc2 := 0) (ks2 := 0) ⟨rfl, rfl⟩ ?_
    refine zg_goto (tgt := 18) ok dX2_cost_14 (by decide) ?_
    exact zg_iret ok fin dX2_cost_18 ⟨Nat.le_of_ble_eq_true rfl, Nat.le_of_ble_eq_true rfl⟩ hE
set_option maxHeartbeats 8000000 in
theorem gt_f_X2_sumOf_J77 {Xc : zw_X} {Q : UInt64 → zw_H → Prop} {X : String → Nat → zw_H → Prop} (hl : (zw_l Xc).stackTraces = false) (ok : zw_ok Xc cX2_sumOf "MultipoleLineModel" yX2_sumOf.name 7) (tab : zw_tab Xc []) (fin : zw_fin Xc (Option.some Jvm.ClassFile.FieldType.double) (zq_D Q) X 0 0) (hRm : zw_rm Xc = rm_X2_sumOf) {kc ks : Nat} (hb : kc ≤ 0 ∧ ks ≤ 0) {R : UInt64 → Int32 → zw_H → Prop} {l0 : Option Nat} {l1 : Int32} {l2 : Int32} {l3 : Int32} (hR : ∀ (l4 : UInt64) (l6 : Int32) (h : zw_H), R l4 l6 h → zw_G Xc kc ks 7 h 6 [(0, va_rf l0), (1, .int l1), (2, .int l2), (3, .int l3), (4, .double l4), (6, .int l6)] []) {k83 : UInt64 → zw_H → Prop} (hk83 : ∀ (l4 : UInt64) (h : zw_H), k83 l4 h → zw_G Xc kc ks 7 h 83 [(4, .double l4)] [])  {l4 : UInt64} {l6 : Int32}  {h : zw_H} (hE : f_X2_sumOf_J77 (zw_Zf Xc).2.2.2 Q X R k83 l0 l1 l2 l3 l4 l6 h) : zw_G Xc kc ks 7 h 77 [(0, va_rf l0), (1, .int l1), (2, .int l2), (3, .int l3), (4, .double l4), (6, .int l6)] [] := by
  unfold f_X2_sumOf_J77 at hE
  refine zg_iincL (k := 5) (L' := fun v3 => [(6, .int v3), (0, va_rf l0), (1, .int l1), (2, .int l2), (3, .int l3), (4, .double l4)]) ok dX2_sumOf_77 (by decide +kernel) hE rfl (by decide) (fun _ => rfl) (fun v3 hE => ?_)
  refine zg_goto (tgt := 6) ok dX2_sumOf_80 (by decide) ?_
  refine zg_sub (L' := [(0, va_rf l0), (1, .int l1), (2, .int l2), (3, .int l3), (4, .double l4), (6, .int v3)]) [1, 2, 3, 4, 5, 0] rfl ?_
  exact hR _ _ _ hE
set_option maxHeartbeats 8000000 in
theorem gt_f_X2_sumOf_J51 {Xc : zw_X} {Q : UInt64 → zw_H → Prop} {X : String → Nat → zw_H → Prop} (hl : (zw_l Xc).stackTraces = false) (ok : zw_ok Xc cX2_sumOf "MultipoleLineModel" yX2_sumOf.name 7) (tab : zw_tab Xc []) (fin : zw_fin Xc (Option.some Jvm.ClassFile.FieldType.double) (zq_D Q) X 0 0) (hRm : zw_rm Xc = rm_X2_sumOf) {kc ks : Nat} (hb : kc ≤ 0 ∧ ks ≤ 0) {R : UInt64 → Int32 → zw_H → Prop} {l0 : Option Nat} {l1 : Int32} {l2 : Int32} {l3 : Int32} (hR : ∀ (l4 : UInt64) (l6 : Int32) (h : zw_H), R l4 l6 h → zw_G Xc kc ks 7 h 6 [(0, va_rf l0), (1, .int l1), (2, .int l2), (3, .int l3), (4, .double l4), (6, .int l6)] []) {k83 : UInt64 → zw_H → Prop} (hk83 : ∀ (l4 : UInt64) (h : zw_H), k83 l4 h → zw_G Xc kc ks 7 h 83 [(4, .double l4)] [])  {l4 : UInt64} {l6 : Int32}  {h : zw_H} (hE : f_X2_sumOf_J51 (zw_Zf Xc).2.2.2 Q X R k83 l0 l1 l2 l3 l4 l6 h) : zw_G Xc kc ks 7 h 51 [(0, va_rf l0), (1, .int l1), (2, .int l2), (3, .int l3), (4, .double l4), (6, .int l6)] [] := by
  unfold f_X2_sumOf_J51 at hE
  refine zg_dload ok dX2_sumOf_51 4 rfl ?_
  refine zg_aload_n ok dX2_sumOf_53 rfl 0 rfl ?_
  refine zg_iload ok dX2_sumOf_54 5 rfl ?_
  refine zg_iconst (v := 1) ok dX2_sumOf_56 (by decide) ?_
  refine zg_callV (vs := [zI l6, zI 1]) (rest := [.double l4]) (rm := rm_X2_of) ok hRm lk_X2_163 dX2_sumOf_57 hE (fun hE => mt_X2_of hl hE) rfl (Nat.le_of_ble_eq_true rfl) ⟨⟨Nat.le_of_ble_eq_true rfl, Nat.le_of_ble_eq_true rfl⟩, (by show kc + 0 ≤ 0; omega), (by show ks + 0 ≤ 0; omega)⟩ (zg_retI (fun v5 h2 hE => ?_)) (zg_xok ok tab fin ⟨(by show kc + 0 ≤ 0; omega), (by show ks + 0 ≤ 0; omega)⟩)
  refine zg_cost (kc2 := kc) (ks2 := ks) ⟨(by show kc + 0 = kc; omega), (by show ks + 0 = ks; omega)⟩ ?_
  refine zg_i2d ok dX2_sumOf_60 ?_
  refine zg_aload_n ok dX2_sumOf_61 rfl 0 rfl ?_
  refine zg_iload ok dX2_sumOf_62 5 rfl ?_
  refine zg_iconst (v := 0) ok dX2_sumOf_64 (by decide) ?_
  refine zg_callV (vs := [zI l6, zI 0]) (rest := [.double (FP.i2d v5), .double l4]) (rm := rm_X2_of) ok hRm lk_X2_163 dX2_sumOf_65 hE (fun hE => mt_X2_of hl hE) rfl (Nat.le_of_ble_eq_true rfl) ⟨⟨Nat.le_of_ble_eq_true rfl, Nat.le_of_ble_eq_true rfl⟩, (by show kc + 0 ≤ 0; omega), (by show ks + 0 ≤ 0; omega)⟩ (zg_retI (fun v6 h3 hE => ?_)) (zg_xok ok tab fin ⟨(by show kc + 0 ≤ 0; omega), (by show ks + 0 ≤ 0; omega)⟩)
  refine zg_cost (kc2 := kc) (ks2 := ks) ⟨(by show kc + 0 = kc; omega), (by show ks + 0 = ks; omega)⟩ ?_
  refine zg_iload_n ok dX2_sumOf_68 rfl 1 rfl ?_
  refine zg_callS (vs := [zI v6, zI l1]) (rest := [.double (FP.i2d v5), .double l4]) (rm := rm_X2_far) ok hRm lk_X2_187 dX2_sumOf_69 hE (fun hE => mt_X2_far hl hE) rfl (Nat.le_of_ble_eq_true rfl) ⟨⟨Nat.le_of_ble_eq_true rfl, Nat.le_of_ble_eq_true rfl⟩, (by show kc + 0 ≤ 0; omega), (by show ks + 0 ≤ 0; omega)⟩ (zg_retI (fun v7 h4 hE => ?_)) (zg_xok ok tab fin ⟨(by show kc + 0 ≤ 0; omega), (by show ks + 0 ≤ 0; omega)⟩)
  refine zg_cost (kc2 := kc) (ks2 := ks) ⟨(by show kc + 0 = kc; omega), (by show ks + 0 = ks; omega)⟩ ?_
  refine zg_i2d ok dX2_sumOf_72 ?_
  refine zg_ddivE ok dX2_sumOf_73 hE (fun hE => ?_)
  refine zg_letD hE (fun v8 hE => ?_)
  refine zg_daddE ok dX2_sumOf_74 hE (fun hE => ?_)
  refine zg_letD hE (fun v9 hE => ?_)
  refine zg_dstore (L' := [(4, .double v9), (0, va_rf l0), (1, .int l1), (2, .int l2), (3, .int l3), (6, .int l6)]) ok dX2_sumOf_75 (by decide) rfl ?_
  refine zg_sub (L' := [(0, va_rf l0), (1, .int l1), (2, .int l2), (3, .int l3), (4, .double v9), (6, .int l6)]) [1, 2, 3, 4, 0, 5] rfl ?_
  exact gt_f_X2_sumOf_J77 hl ok tab fin hRm hb hR hk83 hE
set_option maxHeartbeats 8000000 in
theorem gt_f_X2_sumOf_B6 {Xc : zw_X} {Q : UInt64 → zw_H → Prop} {X : String → Nat → zw_H → Prop} (hl : (zw_l Xc).stackTraces = false) (ok : zw_ok Xc cX2_sumOf "MultipoleLineModel" yX2_sumOf.name 7) (tab : zw_tab Xc []) (fin : zw_fin Xc (Option.some Jvm.ClassFile.FieldType.double) (zq_D Q) X 0 0) (hRm : zw_rm Xc = rm_X2_sumOf) {kc ks : Nat} (hb : kc ≤ 0 ∧ ks ≤ 0) {R : UInt64 → Int32 → zw_H → Prop} {l0 : Option Nat} {l1 : Int32} {l2 : Int32} {l3 : Int32} (hR : ∀ (l4 : UInt64) (l6 : Int32) (h : zw_H), R l4 l6 h → zw_G Xc kc ks 7 h 6 [(0, va_rf l0), (1, .int l1), (2, .int l2), (3, .int l3), (4, .double l4), (6, .int l6)] []) {k83 : UInt64 → zw_H → Prop} (hk83 : ∀ (l4 : UInt64) (h : zw_H), k83 l4 h → zw_G Xc kc ks 7 h 83 [(4, .double l4)] [])  {l4 : UInt64} {l6 : Int32} {h : zw_H} (hE : f_X2_sumOf_B6 (zw_Zf Xc).2.2.2 Q X k83 l0 l1 l2 l3 R l4 l6 h) : zw_G Xc kc ks 7 h 6 [(0, va_rf l0), (1, .int l1), (2, .int l2), (3, .int l3), (4, .double l4), (6, .int l6)] [] := by
  unfold f_X2_sumOf_B6 at hE
  refine zg_iload ok dX2_sumOf_6 5 rfl ?_
  refine zg_aload_n ok dX2_sumOf_8 rfl 0 rfl ?_
  refine zg_getA ok lf_X2_9 dX2_sumOf_9 hE (fun v1 hE => ?_)
  refine zg_iconst (v := 0) ok dX2_sumOf_12 (by decide) ?_
  refine zg_iald ok dX2_sumOf_13 hE (fun v2 hE => ?_)
  refine zg_icmp_ge (tgt := 83) ok dX2_sumOf_14 (by decide) hE (fun hE => ?_) (fun hE => ?_)
  · refine zg_sub (L' := [(4, .double l4)]) [4] rfl ?_
    exact hk83 _ _ hE
  · refine zg_iload ok dX2_sumOf_17 5 rfl ?_
    refine zg_iload_n ok dX2_sumOf_19 rfl 3 rfl ?_
    refine zg_icmp_eq (tgt := 77) ok dX2_sumOf_20 (by decide) hE (fun hE => ?_) (fun hE => ?_)
    · exact gt_f_X2_sumOf_J77 hl ok tab fin hRm hb hR hk83 hE
    · refine zg_aload_n ok dX2_sumOf_23 rfl 0 rfl ?_
      refine zg_iload ok dX2_sumOf_24 5 rfl ?_
      refine zg_iconst (v := 0) ok dX2_sumOf_26 (by decide) ?_
      refine zg_callV (vs := [zI l6, zI 0]) (rest := []) (rm := rm_X2_of) ok hRm lk_X2_163 dX2_sumOf_27 hE (fun hE => mt_X2_of hl hE) rfl (Nat.le_of_ble_eq_true rfl) ⟨⟨Nat.le_of_ble_eq_true rfl, Nat.le_of_ble_eq_true rfl⟩, (by show kc + 0 ≤ 0; omega), (by show ks + 0 ≤ 0; omega)⟩ (zg_retI (fun v4 h1 hE => ?_)) (zg_xok ok tab fin ⟨(by show kc + 0 ≤ 0; omega), (by show ks + 0 ≤ 0; omega)⟩)
      refine zg_cost (kc2 := kc) (ks2 := ks) ⟨(by show kc + 0 = kc; omega), (by show ks + 0 = ks; omega)⟩ ?_
      refine zg_iload_n ok dX2_sumOf_30 rfl 1 rfl ?_
      refine zg_icmp_eq (tgt := 77) ok dX2_sumOf_31 (by decide) hE (fun hE => ?_) (fun hE => ?_)
      · exact gt_f_X2_sumOf_J77 hl ok tab fin hRm hb hR hk83 hE
      · refine zg_iload_n ok dX2_sumOf_34 rfl 2 rfl ?_
        refine zg_if_ne (tgt := 51) ok dX2_sumOf_35 (by decide) hE (fun hE => ?_) (fun hE => ?_)
        · exact gt_f_X2_sumOf_J51 hl ok tab fin hRm hb hR hk83 hE
        · refine zg_aload_n ok dX2_sumOf_38 rfl 0 rfl ?_
          refine zg_iload ok dX2_sumOf_39 5 rfl ?_
          refine zg_iload_n ok dX2_sumOf_41 rfl 1 rfl ?_
          refine zg_callV (vs := [zI l6, zI l1]) (rest := []) (rm := rm_X2_isNear) ok hRm lk_X2_263 dX2_sumOf_42 hE (fun hE => mt_X2_isNear hl hE) rfl (Nat.le_of_ble_eq_true rfl) ⟨⟨Nat.le_of_ble_eq_true rfl, Nat.le_of_ble_eq_true rfl⟩, (by show kc + 0 ≤ 0; omega), (by show ks + 0 ≤ 0; omega)⟩ (zg_retI (fun v10 h5 hE => ?_)) (zg_xok ok tab fin ⟨(by show kc + 0 ≤ 0; omega), (by show ks + 0 ≤ 0; omega)⟩)
          refine zg_cost (kc2 := kc) (ks2 := ks) ⟨(by show kc + 0 = kc; omega), (by show ks + 0 = ks; omega)⟩ ?_
          refine zg_if_ne (tgt := 51) ok dX2_sumOf_45 (by decide) hE (fun hE => ?_) (fun hE => ?_)
          · exact gt_f_X2_sumOf_J51 hl ok tab fin hRm hb hR hk83 hE
          · refine zg_goto (tgt := 77) ok dX2_sumOf_48 (by decide) ?_
            exact gt_f_X2_sumOf_J77 hl ok tab fin hRm hb hR hk83 hE
theorem gt_f_X2_sumOf_L6 {Xc : zw_X} {Q : UInt64 → zw_H → Prop} {X : String → Nat → zw_H → Prop} (hl : (zw_l Xc).stackTraces = false) (ok : zw_ok Xc cX2_sumOf "MultipoleLineModel" yX2_sumOf.name 7) (tab : zw_tab Xc []) (fin : zw_fin Xc (Option.some Jvm.ClassFile.FieldType.double) (zq_D Q) X 0 0) (hRm : zw_rm Xc = rm_X2_sumOf) {kc ks : Nat} (hb : kc ≤ 0 ∧ ks ≤ 0) {l0 : Option Nat} {l1 : Int32} {l2 : Int32} {l3 : Int32} {k83 : UInt64 → zw_H → Prop} (hk83 : ∀ (l4 : UInt64) (h : zw_H), k83 l4 h → zw_G Xc kc ks 7 h 83 [(4, .double l4)] [])  : ∀ (n9 : Nat) (l4 : UInt64) (l6 : Int32) (h : zw_H), zl3 (f_X2_sumOf_B6 (zw_Zf Xc).2.2.2 Q X k83 l0 l1 l2 l3) n9 l4 l6 h → zw_G Xc kc ks 7 h 6 [(0, va_rf l0), (1, .int l1), (2, .int l2), (3, .int l3), (4, .double l4), (6, .int l6)] [] := by
  intro n9
  induction n9 with
  | zero => intro l4 l6 h hE; exact hE.elim
  | succ n9 ih => intro l4 l6 h hE; exact gt_f_X2_sumOf_B6 hl ok tab fin hRm hb ih hk83 hE
set_option maxHeartbeats 8000000 in
theorem mt_X2_sumOf {l : Launch} (hl : l.stackTraces = false) {Z : zw_Z} {a0 : Option Nat} {a1 : Int32} {a2 : Int32} {a3 : Int32} {h : zw_H} {Q : UInt64 → zw_H → Prop} {X : String → Nat → zw_H → Prop} (hE : f_X2_sumOf Z.2.2.2 a0 a1 a2 a3 h Q X) : zw_Met l Z yX2_sumOf (ws_ yX2_sumOf cX2_sumOf 7 (Option.some Jvm.ClassFile.FieldType.double)) rm_X2_sumOf [zA a0, zI a1, zI a2, zI a3] h (zq_D Q) X := by
  refine zg_start (own := "MultipoleLineModel") (by decide +kernel) rfl (Nat.le_of_ble_eq_true rfl) hl (fun Xc ok tab fin hRm hXl hXZ => ?_)
  subst hXl
  subst hXZ
  unfold f_X2_sumOf at hE
  refine zg_dconst0 ok dX2_sumOf_0 ?_
  refine zg_dstore (L' := [(4, .double FP.dconst0), (0, va_rf a0), (1, .int a1), (2, .int a2), (3, .int a3)]) ok dX2_sumOf_1 (by decide) rfl ?_
  refine zg_iconst (v := 0) ok dX2_sumOf_3 (by decide) ?_
  refine zg_istore (L' := [(6, .int 0), (4, .double FP.dconst0), (0, va_rf a0), (1, .int a1), (2, .int a2), (3, .int a3)]) ok dX2_sumOf_4 (by decide) rfl ?_
  refine zg_sub (L' := [(0, va_rf a0), (1, .int a1), (2, .int a2), (3, .int a3), (4, .double FP.dconst0), (6, .int 0)]) [2, 3, 4, 5, 1, 0] rfl ?_
  refine gt_f_X2_sumOf_L6 hl ok tab fin hRm ⟨Nat.le_of_ble_eq_true rfl, Nat.le_of_ble_eq_true rfl⟩ ?_ _ _ _ _ hE
  · intro v11 h6 hE
    refine zg_dload ok dX2_sumOf_83 0 rfl ?_
    exact zg_dret ok fin dX2_sumOf_85 ⟨Nat.le_of_ble_eq_true rfl, Nat.le_of_ble_eq_true rfl⟩ hE
set_option maxHeartbeats 8000000 in
theorem mt_X2_plain {l : Launch} (hl : l.stackTraces = false) {Z : zw_Z} {a0 : Option Nat} {a1 : Int32} {h : zw_H} {Q : UInt64 → zw_H → Prop} {X : String → Nat → zw_H → Prop} (hE : f_X2_plain Z.2.2.2 a0 a1 h Q X) : zw_Met l Z yX2_plain (ws_ yX2_plain cX2_plain 2 (Option.some Jvm.ClassFile.FieldType.double)) rm_X2_plain [zA a0, zI a1] h (zq_D Q) X := by
  refine zg_start (own := "MultipoleLineModel") (by decide +kernel) rfl (Nat.le_of_ble_eq_true rfl) hl (fun Xc ok tab fin hRm hXl hXZ => ?_)
  subst hXl
  subst hXZ
  unfold f_X2_plain at hE
  refine zg_aload_n ok dX2_plain_0 rfl 0 rfl ?_
  refine zg_iload_n ok dX2_plain_1 rfl 1 rfl ?_
  refine zg_callV (vs := [zI a1]) (rest := []) (rm := rm_X2_mayPoint) ok hRm lk_X2_216 dX2_plain_2 hE (fun hE => mt_X2_mayPoint hl hE) rfl (Nat.le_of_ble_eq_true rfl) ⟨⟨Nat.le_of_ble_eq_true rfl, Nat.le_of_ble_eq_true rfl⟩, Nat.le_of_ble_eq_true rfl, Nat.le_of_ble_eq_true rfl⟩ (zg_retI (fun v1 h1 hE => ?_)) (zg_xok ok tab fin ⟨Nat.le_of_ble_eq_true rfl, Nat.le_of_ble_eq_true rfl⟩)
  refine zg_cost (kc2 := 0) (ks2 := 0) ⟨rfl, rfl⟩ ?_
  refine zg_if_eq (tgt := 18) ok dX2_plain_5 (by decide) hE (fun hE => ?_) (fun hE => ?_)
  · refine zg_dconst0 ok dX2_plain_18 ?_
    exact zg_dret ok fin dX2_plain_19 ⟨Nat.le_of_ble_eq_true rfl, Nat.le_of_ble_eq_true rfl⟩ hE
  · refine zg_aload_n ok dX2_plain_8 rfl 0 rfl ?_
    refine zg_iload_n ok dX2_plain_9 rfl 1 rfl ?_
    refine zg_iconst (v := 1) ok dX2_plain_10 (by decide) ?_
    refine zg_iconst (v := (-1)) ok dX2_plain_11 (by decide) ?_
    refine zg_callV (vs := [zI a1, zI 1, zI (-1)]) (rest := []) (rm := rm_X2_sumOf) ok hRm lk_X2_285 dX2_plain_12 hE (fun hE => mt_X2_sumOf hl hE) rfl (Nat.le_of_ble_eq_true rfl) ⟨⟨Nat.le_of_ble_eq_true rfl, Nat.le_of_ble_eq_true rfl⟩, Nat.le_of_ble_eq_true rfl, Nat.le_of_ble_eq_true rfl⟩ (zg_retD (fun v2 h2 hE => ?_)) (zg_xok ok tab fin ⟨Nat.le_of_ble_eq_true rfl, Nat.le_of_ble_eq_true rfl⟩)
    refine zg_cost (kc2 := 0) (ks2 := 0) ⟨rfl, rfl⟩ ?_
    refine zg_goto (tgt := 19) ok dX2_plain_15 (by decide) ?_
    exact zg_dret ok fin dX2_plain_19 ⟨Nat.le_of_ble_eq_true rfl, Nat.le_of_ble_eq_true rfl⟩ hE
set_option maxHeartbeats 8000000 in
theorem mt_X2_nearSum {l : Launch} (hl : l.stackTraces = false) {Z : zw_Z} {a0 : Option Nat} {a1 : Int32} {h : zw_H} {Q : UInt64 → zw_H → Prop} {X : String → Nat → zw_H → Prop} (hE : f_X2_nearSum Z.2.2.2 a0 a1 h Q X) : zw_Met l Z yX2_nearSum (ws_ yX2_nearSum cX2_nearSum 2 (Option.some Jvm.ClassFile.FieldType.double)) rm_X2_nearSum [zA a0, zI a1] h (zq_D Q) X := by
  refine zg_start (own := "MultipoleLineModel") (by decide +kernel) rfl (Nat.le_of_ble_eq_true rfl) hl (fun Xc ok tab fin hRm hXl hXZ => ?_)
  subst hXl
  subst hXZ
  unfold f_X2_nearSum at hE
  refine zg_aload_n ok dX2_nearSum_0 rfl 0 rfl ?_
  refine zg_iload_n ok dX2_nearSum_1 rfl 1 rfl ?_
  refine zg_callV (vs := [zI a1]) (rest := []) (rm := rm_X2_mayPoint) ok hRm lk_X2_216 dX2_nearSum_2 hE (fun hE => mt_X2_mayPoint hl hE) rfl (Nat.le_of_ble_eq_true rfl) ⟨⟨Nat.le_of_ble_eq_true rfl, Nat.le_of_ble_eq_true rfl⟩, Nat.le_of_ble_eq_true rfl, Nat.le_of_ble_eq_true rfl⟩ (zg_retI (fun v1 h1 hE => ?_)) (zg_xok ok tab fin ⟨Nat.le_of_ble_eq_true rfl, Nat.le_of_ble_eq_true rfl⟩)
  refine zg_cost (kc2 := 0) (ks2 := 0) ⟨rfl, rfl⟩ ?_
  refine zg_if_eq (tgt := 18) ok dX2_nearSum_5 (by decide) hE (fun hE => ?_) (fun hE => ?_)
  · refine zg_dconst0 ok dX2_nearSum_18 ?_
    exact zg_dret ok fin dX2_nearSum_19 ⟨Nat.le_of_ble_eq_true rfl, Nat.le_of_ble_eq_true rfl⟩ hE
  · refine zg_aload_n ok dX2_nearSum_8 rfl 0 rfl ?_
    refine zg_iload_n ok dX2_nearSum_9 rfl 1 rfl ?_
    refine zg_iconst (v := 0) ok dX2_nearSum_10 (by decide) ?_
    refine zg_iconst (v := (-1)) ok dX2_nearSum_11 (by decide) ?_
    refine zg_callV (vs := [zI a1, zI 0, zI (-1)]) (rest := []) (rm := rm_X2_sumOf) ok hRm lk_X2_285 dX2_nearSum_12 hE (fun hE => mt_X2_sumOf hl hE) rfl (Nat.le_of_ble_eq_true rfl) ⟨⟨Nat.le_of_ble_eq_true rfl, Nat.le_of_ble_eq_true rfl⟩, Nat.le_of_ble_eq_true rfl, Nat.le_of_ble_eq_true rfl⟩ (zg_retD (fun v2 h2 hE => ?_)) (zg_xok ok tab fin ⟨Nat.le_of_ble_eq_true rfl, Nat.le_of_ble_eq_true rfl⟩)
    refine zg_cost (kc2 := 0) (ks2 := 0) ⟨rfl, rfl⟩ ?_
    refine zg_goto (tgt := 19) ok dX2_nearSum_15 (by decide) ?_
    exact zg_dret ok fin dX2_nearSum_19 ⟨Nat.le_of_ble_eq_true rfl, Nat.le_of_ble_eq_true rfl⟩ hE
set_option maxHeartbeats 8000000 in
theorem gt_f_X2_valueOf_B20 {Xc : zw_X} {Q : UInt64 → zw_H → Prop} {X : String → Nat → zw_H → Prop} (hl : (zw_l Xc).stackTraces = false) (ok : zw_ok Xc cX2_valueOf "MultipoleLineModel" yX2_valueOf.name 10) (tab : zw_tab Xc []) (fin : zw_fin Xc (Option.some Jvm.ClassFile.FieldType.double) (zq_D Q) X 0 0) (hRm : zw_rm Xc = rm_X2_valueOf) {kc ks : Nat} (hb : kc ≤ 0 ∧ ks ≤ 0) {R : UInt64 → UInt64 → Int32 → zw_H → Prop} {l0 : Option Nat} {l1 : Int32} {l2 : Int32} {l4 : Int32} (hR : ∀ (l5 : UInt64) (l7 : UInt64) (l9 : Int32) (h : zw_H), R l5 l7 l9 h → zw_G Xc kc ks 10 h 20 [(0, va_rf l0), (1, .int l1), (2, .int l2), (4, .int l4), (5, .double l5), (7, .double l7), (9, .int l9)] []) {k62 : UInt64 → zw_H → Prop} (hk62 : ∀ (l5 : UInt64) (h : zw_H), k62 l5 h → zw_G Xc kc ks 10 h 62 [(4, .int l4), (5, .double l5)] [])  {l5 : UInt64} {l7 : UInt64} {l9 : Int32} {h : zw_H} (hE : f_X2_valueOf_B20 (zw_Zf Xc).2.2.2 Q X k62 l0 l1 l2 l4 R l5 l7 l9 h) : zw_G Xc kc ks 10 h 20 [(0, va_rf l0), (1, .int l1), (2, .int l2), (4, .int l4), (5, .double l5), (7, .double l7), (9, .int l9)] [] := by
  unfold f_X2_valueOf_B20 at hE
  refine zg_iload ok dX2_valueOf_20 6 rfl ?_
  refine zg_aload_n ok dX2_valueOf_22 rfl 0 rfl ?_
  refine zg_getA ok lf_X2_9 dX2_valueOf_23 hE (fun v4 hE => ?_)
  refine zg_iconst (v := 4) ok dX2_valueOf_26 (by decide) ?_
  refine zg_iald ok dX2_valueOf_27 hE (fun v5 hE => ?_)
  refine zg_icmp_gt (tgt := 62) ok dX2_valueOf_28 (by decide) hE (fun hE => ?_) (fun hE => ?_)
  · refine zg_sub (L' := [(4, .int l4), (5, .double l5)]) [3, 4] rfl ?_
    exact hk62 _ _ hE
  · refine zg_dload ok dX2_valueOf_31 4 rfl ?_
    refine zg_aload_n ok dX2_valueOf_33 rfl 0 rfl ?_
    refine zg_iload_n ok dX2_valueOf_34 rfl 1 rfl ?_
    refine zg_iload_n ok dX2_valueOf_35 rfl 2 rfl ?_
    refine zg_iload ok dX2_valueOf_36 6 rfl ?_
    refine zg_callV (vs := [zI l1, zI l2, zI l9]) (rest := [.double l5]) (rm := rm_X2_momentOf) ok hRm lk_X2_243 dX2_valueOf_38 hE (fun hE => mt_X2_momentOf hl hE) rfl (Nat.le_of_ble_eq_true rfl) ⟨⟨Nat.le_of_ble_eq_true rfl, Nat.le_of_ble_eq_true rfl⟩, (by show kc + 0 ≤ 0; omega), (by show ks + 0 ≤ 0; omega)⟩ (zg_retJ (fun v6 h2 hE => ?_)) (zg_xok ok tab fin ⟨(by show kc + 0 ≤ 0; omega), (by show ks + 0 ≤ 0; omega)⟩)
    refine zg_cost (kc2 := kc) (ks2 := ks) ⟨(by show kc + 0 = kc; omega), (by show ks + 0 = ks; omega)⟩ ?_
    refine zg_l2d ok dX2_valueOf_41 ?_
    refine zg_dload ok dX2_valueOf_42 5 rfl ?_
    refine zg_ddivE ok dX2_valueOf_44 hE (fun hE => ?_)
    refine zg_letD hE (fun v7 hE => ?_)
    refine zg_daddE ok dX2_valueOf_45 hE (fun hE => ?_)
    refine zg_letD hE (fun v8 hE => ?_)
    refine zg_dstore (L' := [(5, .double v8), (0, va_rf l0), (1, .int l1), (2, .int l2), (4, .int l4), (7, .double l7), (9, .int l9)]) ok dX2_valueOf_46 (by decide) rfl ?_
    refine zg_dload ok dX2_valueOf_48 5 rfl ?_
    refine zg_iload ok dX2_valueOf_50 4 rfl ?_
    refine zg_i2d ok dX2_valueOf_52 ?_
    refine zg_dmulE ok dX2_valueOf_53 hE (fun hE => ?_)
    refine zg_letD hE (fun v9 hE => ?_)
    refine zg_dstore (L' := [(7, .double v9), (5, .double v8), (0, va_rf l0), (1, .int l1), (2, .int l2), (4, .int l4), (9, .int l9)]) ok dX2_valueOf_54 (by decide) rfl ?_
    refine zg_iincL (k := 6) (L' := fun v10 => [(9, .int v10), (7, .double v9), (5, .double v8), (0, va_rf l0), (1, .int l1), (2, .int l2), (4, .int l4)]) ok dX2_valueOf_56 (by decide +kernel) hE rfl (by decide) (fun _ => rfl) (fun v10 hE => ?_)
    refine zg_goto (tgt := 20) ok dX2_valueOf_59 (by decide) ?_
    refine zg_sub (L' := [(0, va_rf l0), (1, .int l1), (2, .int l2), (4, .int l4), (5, .double v8), (7, .double v9), (9, .int v10)]) [3, 4, 5, 6, 2, 1, 0] rfl ?_
    exact hR _ _ _ _ hE
theorem gt_f_X2_valueOf_L20 {Xc : zw_X} {Q : UInt64 → zw_H → Prop} {X : String → Nat → zw_H → Prop} (hl : (zw_l Xc).stackTraces = false) (ok : zw_ok Xc cX2_valueOf "MultipoleLineModel" yX2_valueOf.name 10) (tab : zw_tab Xc []) (fin : zw_fin Xc (Option.some Jvm.ClassFile.FieldType.double) (zq_D Q) X 0 0) (hRm : zw_rm Xc = rm_X2_valueOf) {kc ks : Nat} (hb : kc ≤ 0 ∧ ks ≤ 0) {l0 : Option Nat} {l1 : Int32} {l2 : Int32} {l4 : Int32} {k62 : UInt64 → zw_H → Prop} (hk62 : ∀ (l5 : UInt64) (h : zw_H), k62 l5 h → zw_G Xc kc ks 10 h 62 [(4, .int l4), (5, .double l5)] [])  : ∀ (n9 : Nat) (l5 : UInt64) (l7 : UInt64) (l9 : Int32) (h : zw_H), zl4 (f_X2_valueOf_B20 (zw_Zf Xc).2.2.2 Q X k62 l0 l1 l2 l4) n9 l5 l7 l9 h → zw_G Xc kc ks 10 h 20 [(0, va_rf l0), (1, .int l1), (2, .int l2), (4, .int l4), (5, .double l5), (7, .double l7), (9, .int l9)] [] := by
  intro n9
  induction n9 with
  | zero => intro l5 l7 l9 h hE; exact hE.elim
  | succ n9 ih => intro l5 l7 l9 h hE; exact gt_f_X2_valueOf_B20 hl ok tab fin hRm hb ih hk62 hE
set_option maxHeartbeats 8000000 in
theorem mt_X2_valueOf {l : Launch} (hl : l.stackTraces = false) {Z : zw_Z} {a0 : Option Nat} {a1 : Int32} {a2 : Int32} {a3 : Int32} {h : zw_H} {Q : UInt64 → zw_H → Prop} {X : String → Nat → zw_H → Prop} (hE : f_X2_valueOf Z.2.2.2 a0 a1 a2 a3 h Q X) : zw_Met l Z yX2_valueOf (ws_ yX2_valueOf cX2_valueOf 10 (Option.some Jvm.ClassFile.FieldType.double)) rm_X2_valueOf [zA a0, zI a1, zI a2, zI a3] h (zq_D Q) X := by
  refine zg_start (own := "MultipoleLineModel") (by decide +kernel) rfl (Nat.le_of_ble_eq_true rfl) hl (fun Xc ok tab fin hRm hXl hXZ => ?_)
  subst hXl
  subst hXZ
  unfold f_X2_valueOf at hE
  refine zg_iload_n ok dX2_valueOf_0 rfl 3 rfl ?_
  refine zg_iload_n ok dX2_valueOf_1 rfl 1 rfl ?_
  refine zg_iload_n ok dX2_valueOf_2 rfl 2 rfl ?_
  refine zg_callS (vs := [zI a1, zI a2]) (rest := [.int a3]) (rm := rm_X2_centre) ok hRm lk_X2_226 dX2_valueOf_3 hE (fun hE => mt_X2_centre hl hE) rfl (Nat.le_of_ble_eq_true rfl) ⟨⟨Nat.le_of_ble_eq_true rfl, Nat.le_of_ble_eq_true rfl⟩, Nat.le_of_ble_eq_true rfl, Nat.le_of_ble_eq_true rfl⟩ (zg_retI (fun v1 h1 hE => ?_)) (zg_xok ok tab fin ⟨Nat.le_of_ble_eq_true rfl, Nat.le_of_ble_eq_true rfl⟩)
  refine zg_cost (kc2 := 0) (ks2 := 0) ⟨rfl, rfl⟩ ?_
  refine zg_isub ok dX2_valueOf_6 ?_
  refine zg_letI hE (fun v2 hE => ?_)
  refine zg_istore (L' := [(4, .int v2), (0, va_rf a0), (1, .int a1), (2, .int a2), (3, .int a3)]) ok dX2_valueOf_7 (by decide) rfl ?_
  refine zg_dconst0 ok dX2_valueOf_9 ?_
  refine zg_dstore (L' := [(5, .double FP.dconst0), (4, .int v2), (0, va_rf a0), (1, .int a1), (2, .int a2), (3, .int a3)]) ok dX2_valueOf_10 (by decide) rfl ?_
  refine zg_iload ok dX2_valueOf_12 1 rfl ?_
  refine zg_i2d ok dX2_valueOf_14 ?_
  refine zg_letD hE (fun v3 hE => ?_)
  refine zg_dstore (L' := [(7, .double v3), (5, .double FP.dconst0), (4, .int v2), (0, va_rf a0), (1, .int a1), (2, .int a2), (3, .int a3)]) ok dX2_valueOf_15 (by decide) rfl ?_
  refine zg_iconst (v := 0) ok dX2_valueOf_17 (by decide) ?_
  refine zg_istore (L' := [(9, .int 0), (7, .double v3), (5, .double FP.dconst0), (4, .int v2), (0, va_rf a0), (1, .int a1), (2, .int a2), (3, .int a3)]) ok dX2_valueOf_18 (by decide) rfl ?_
  refine zg_sub (L' := [(0, va_rf a0), (1, .int a1), (2, .int a2), (4, .int v2), (5, .double FP.dconst0), (7, .double v3), (9, .int 0)]) [4, 5, 6, 3, 2, 1, 0] rfl ?_
  refine gt_f_X2_valueOf_L20 hl ok tab fin hRm ⟨Nat.le_of_ble_eq_true rfl, Nat.le_of_ble_eq_true rfl⟩ ?_ _ _ _ _ _ hE
  · intro v11 h3 hE
    refine zg_iload ok dX2_valueOf_62 0 rfl ?_
    refine zg_if_ge (tgt := 74) ok dX2_valueOf_64 (by decide) hE (fun hE => ?_) (fun hE => ?_)
    · refine zg_dload ok dX2_valueOf_74 1 rfl ?_
      exact zg_dret ok fin dX2_valueOf_76 ⟨Nat.le_of_ble_eq_true rfl, Nat.le_of_ble_eq_true rfl⟩ hE
    · refine zg_dconst0 ok dX2_valueOf_67 ?_
      refine zg_dload ok dX2_valueOf_68 1 rfl ?_
      refine zg_dsubE ok dX2_valueOf_70 hE (fun hE => ?_)
      refine zg_letD hE (fun v12 hE => ?_)
      refine zg_goto (tgt := 76) ok dX2_valueOf_71 (by decide) ?_
      exact zg_dret ok fin dX2_valueOf_76 ⟨Nat.le_of_ble_eq_true rfl, Nat.le_of_ble_eq_true rfl⟩ hE
set_option maxHeartbeats 8000000 in
theorem gt_f_X2_farOf_B10 {Xc : zw_X} {Q : UInt64 → zw_H → Prop} {X : String → Nat → zw_H → Prop} (hl : (zw_l Xc).stackTraces = false) (ok : zw_ok Xc cX2_farOf "MultipoleLineModel" yX2_farOf.name 5) (tab : zw_tab Xc []) (fin : zw_fin Xc (Option.some Jvm.ClassFile.FieldType.double) (zq_D Q) X 0 0) (hRm : zw_rm Xc = rm_X2_farOf) {kc ks : Nat} (hb : kc ≤ 0 ∧ ks ≤ 0) {R : UInt64 → Int32 → zw_H → Prop} {l0 : Option Nat} {l1 : Int32} (hR : ∀ (l2 : UInt64) (l4 : Int32) (h : zw_H), R l2 l4 h → zw_G Xc kc ks 5 h 10 [(0, va_rf l0), (1, .int l1), (2, .double l2), (4, .int l4)] []) {k47 : UInt64 → zw_H → Prop} (hk47 : ∀ (l2 : UInt64) (h : zw_H), k47 l2 h → zw_G Xc kc ks 5 h 47 [(2, .double l2)] [])  {l2 : UInt64} {l4 : Int32} {h : zw_H} (hE : f_X2_farOf_B10 (zw_Zf Xc).2.2.2 Q X k47 l0 l1 R l2 l4 h) : zw_G Xc kc ks 5 h 10 [(0, va_rf l0), (1, .int l1), (2, .double l2), (4, .int l4)] [] := by
  unfold f_X2_farOf_B10 at hE
  refine zg_iload ok dX2_farOf_10 3 rfl ?_
  refine zg_aload_n ok dX2_farOf_12 rfl 0 rfl ?_
  refine zg_getI ok lf_X2_269 dX2_farOf_13 hE (fun v1 hE => ?_)
  refine zg_icmp_ge (tgt := 47) ok dX2_farOf_16 (by decide) hE (fun hE => ?_) (fun hE => ?_)
  · refine zg_sub (L' := [(2, .double l2)]) [2] rfl ?_
    exact hk47 _ _ hE
  · refine zg_dload_n ok dX2_farOf_19 rfl 2 rfl ?_
    refine zg_aload_n ok dX2_farOf_20 rfl 0 rfl ?_
    refine zg_aload_n ok dX2_farOf_21 rfl 0 rfl ?_
    refine zg_getA ok lf_X2_38 dX2_farOf_22 hE (fun v2 hE => ?_)
    refine zg_iload ok dX2_farOf_25 3 rfl ?_
    refine zg_iald ok dX2_farOf_27 hE (fun v3 hE => ?_)
    refine zg_aload_n ok dX2_farOf_28 rfl 0 rfl ?_
    refine zg_getA ok lf_X2_41 dX2_farOf_29 hE (fun v4 hE => ?_)
    refine zg_iload ok dX2_farOf_32 3 rfl ?_
    refine zg_iald ok dX2_farOf_34 hE (fun v5 hE => ?_)
    refine zg_iload_n ok dX2_farOf_35 rfl 1 rfl ?_
    refine zg_callV (vs := [zI v3, zI v5, zI l1]) (rest := [.double l2]) (rm := rm_X2_valueOf) ok hRm lk_X2_289 dX2_farOf_36 hE (fun hE => mt_X2_valueOf hl hE) rfl (Nat.le_of_ble_eq_true rfl) ⟨⟨Nat.le_of_ble_eq_true rfl, Nat.le_of_ble_eq_true rfl⟩, (by show kc + 0 ≤ 0; omega), (by show ks + 0 ≤ 0; omega)⟩ (zg_retD (fun v6 h2 hE => ?_)) (zg_xok ok tab fin ⟨(by show kc + 0 ≤ 0; omega), (by show ks + 0 ≤ 0; omega)⟩)
    refine zg_cost (kc2 := kc) (ks2 := ks) ⟨(by show kc + 0 = kc; omega), (by show ks + 0 = ks; omega)⟩ ?_
    refine zg_daddE ok dX2_farOf_39 hE (fun hE => ?_)
    refine zg_letD hE (fun v7 hE => ?_)
    refine zg_dstore_n (L' := [(2, .double v7), (0, va_rf l0), (1, .int l1), (4, .int l4)]) ok dX2_farOf_40 rfl (by decide) rfl ?_
    refine zg_iincL (k := 3) (L' := fun v8 => [(4, .int v8), (2, .double v7), (0, va_rf l0), (1, .int l1)]) ok dX2_farOf_41 (by decide +kernel) hE rfl (by decide) (fun _ => rfl) (fun v8 hE => ?_)
    refine zg_goto (tgt := 10) ok dX2_farOf_44 (by decide) ?_
    refine zg_sub (L' := [(0, va_rf l0), (1, .int l1), (2, .double v7), (4, .int v8)]) [2, 3, 1, 0] rfl ?_
    exact hR _ _ _ hE
theorem gt_f_X2_farOf_L10 {Xc : zw_X} {Q : UInt64 → zw_H → Prop} {X : String → Nat → zw_H → Prop} (hl : (zw_l Xc).stackTraces = false) (ok : zw_ok Xc cX2_farOf "MultipoleLineModel" yX2_farOf.name 5) (tab : zw_tab Xc []) (fin : zw_fin Xc (Option.some Jvm.ClassFile.FieldType.double) (zq_D Q) X 0 0) (hRm : zw_rm Xc = rm_X2_farOf) {kc ks : Nat} (hb : kc ≤ 0 ∧ ks ≤ 0) {l0 : Option Nat} {l1 : Int32} {k47 : UInt64 → zw_H → Prop} (hk47 : ∀ (l2 : UInt64) (h : zw_H), k47 l2 h → zw_G Xc kc ks 5 h 47 [(2, .double l2)] [])  : ∀ (n9 : Nat) (l2 : UInt64) (l4 : Int32) (h : zw_H), zl3 (f_X2_farOf_B10 (zw_Zf Xc).2.2.2 Q X k47 l0 l1) n9 l2 l4 h → zw_G Xc kc ks 5 h 10 [(0, va_rf l0), (1, .int l1), (2, .double l2), (4, .int l4)] [] := by
  intro n9
  induction n9 with
  | zero => intro l2 l4 h hE; exact hE.elim
  | succ n9 ih => intro l2 l4 h hE; exact gt_f_X2_farOf_B10 hl ok tab fin hRm hb ih hk47 hE
set_option maxHeartbeats 8000000 in
theorem mt_X2_farOf {l : Launch} (hl : l.stackTraces = false) {Z : zw_Z} {a0 : Option Nat} {a1 : Int32} {h : zw_H} {Q : UInt64 → zw_H → Prop} {X : String → Nat → zw_H → Prop} (hE : f_X2_farOf Z.2.2.2 a0 a1 h Q X) : zw_Met l Z yX2_farOf (ws_ yX2_farOf cX2_farOf 5 (Option.some Jvm.ClassFile.FieldType.double)) rm_X2_farOf [zA a0, zI a1] h (zq_D Q) X := by
  refine zg_start (own := "MultipoleLineModel") (by decide +kernel) rfl (Nat.le_of_ble_eq_true rfl) hl (fun Xc ok tab fin hRm hXl hXZ => ?_)
  subst hXl
  subst hXZ
  unfold f_X2_farOf at hE
  refine zg_aload_n ok dX2_farOf_0 rfl 0 rfl ?_
  refine zg_iload_n ok dX2_farOf_1 rfl 1 rfl ?_
  refine zg_callV (vs := [zI a1]) (rest := []) (rm := rm_X2_laysFar) ok hRm lk_X2_275 dX2_farOf_2 hE (fun hE => mt_X2_laysFar hl hE) rfl (Nat.le_of_ble_eq_true rfl) ⟨⟨Nat.le_of_ble_eq_true rfl, Nat.le_of_ble_eq_true rfl⟩, Nat.le_of_ble_eq_true rfl, Nat.le_of_ble_eq_true rfl⟩ (zg_retV (fun h1 hE => ?_)) (zg_xok ok tab fin ⟨Nat.le_of_ble_eq_true rfl, Nat.le_of_ble_eq_true rfl⟩)
  refine zg_cost (kc2 := 0) (ks2 := 0) ⟨rfl, rfl⟩ ?_
  refine zg_dconst0 ok dX2_farOf_5 ?_
  refine zg_dstore_n (L' := [(2, .double FP.dconst0), (0, va_rf a0), (1, .int a1)]) ok dX2_farOf_6 rfl (by decide) rfl ?_
  refine zg_iconst (v := 0) ok dX2_farOf_7 (by decide) ?_
  refine zg_istore (L' := [(4, .int 0), (2, .double FP.dconst0), (0, va_rf a0), (1, .int a1)]) ok dX2_farOf_8 (by decide) rfl ?_
  refine zg_sub (L' := [(0, va_rf a0), (1, .int a1), (2, .double FP.dconst0), (4, .int 0)]) [2, 3, 1, 0] rfl ?_
  refine gt_f_X2_farOf_L10 hl ok tab fin hRm ⟨Nat.le_of_ble_eq_true rfl, Nat.le_of_ble_eq_true rfl⟩ ?_ _ _ _ _ hE
  · intro v9 h3 hE
    refine zg_dload_n ok dX2_farOf_47 rfl 0 rfl ?_
    exact zg_dret ok fin dX2_farOf_48 ⟨Nat.le_of_ble_eq_true rfl, Nat.le_of_ble_eq_true rfl⟩ hE
set_option maxHeartbeats 8000000 in
theorem mt_X2_farSum {l : Launch} (hl : l.stackTraces = false) {Z : zw_Z} {a0 : Option Nat} {a1 : Int32} {h : zw_H} {Q : UInt64 → zw_H → Prop} {X : String → Nat → zw_H → Prop} (hE : f_X2_farSum Z.2.2.2 a0 a1 h Q X) : zw_Met l Z yX2_farSum (ws_ yX2_farSum cX2_farSum 2 (Option.some Jvm.ClassFile.FieldType.double)) rm_X2_farSum [zA a0, zI a1] h (zq_D Q) X := by
  refine zg_start (own := "MultipoleLineModel") (by decide +kernel) rfl (Nat.le_of_ble_eq_true rfl) hl (fun Xc ok tab fin hRm hXl hXZ => ?_)
  subst hXl
  subst hXZ
  unfold f_X2_farSum at hE
  refine zg_aload_n ok dX2_farSum_0 rfl 0 rfl ?_
  refine zg_iload_n ok dX2_farSum_1 rfl 1 rfl ?_
  refine zg_callV (vs := [zI a1]) (rest := []) (rm := rm_X2_mayPoint) ok hRm lk_X2_216 dX2_farSum_2 hE (fun hE => mt_X2_mayPoint hl hE) rfl (Nat.le_of_ble_eq_true rfl) ⟨⟨Nat.le_of_ble_eq_true rfl, Nat.le_of_ble_eq_true rfl⟩, Nat.le_of_ble_eq_true rfl, Nat.le_of_ble_eq_true rfl⟩ (zg_retI (fun v1 h1 hE => ?_)) (zg_xok ok tab fin ⟨Nat.le_of_ble_eq_true rfl, Nat.le_of_ble_eq_true rfl⟩)
  refine zg_cost (kc2 := 0) (ks2 := 0) ⟨rfl, rfl⟩ ?_
  refine zg_if_eq (tgt := 16) ok dX2_farSum_5 (by decide) hE (fun hE => ?_) (fun hE => ?_)
  · refine zg_dconst0 ok dX2_farSum_16 ?_
    exact zg_dret ok fin dX2_farSum_17 ⟨Nat.le_of_ble_eq_true rfl, Nat.le_of_ble_eq_true rfl⟩ hE
  · refine zg_aload_n ok dX2_farSum_8 rfl 0 rfl ?_
    refine zg_iload_n ok dX2_farSum_9 rfl 1 rfl ?_
    refine zg_callV (vs := [zI a1]) (rest := []) (rm := rm_X2_farOf) ok hRm lk_X2_293 dX2_farSum_10 hE (fun hE => mt_X2_farOf hl hE) rfl (Nat.le_of_ble_eq_true rfl) ⟨⟨Nat.le_of_ble_eq_true rfl, Nat.le_of_ble_eq_true rfl⟩, Nat.le_of_ble_eq_true rfl, Nat.le_of_ble_eq_true rfl⟩ (zg_retD (fun v2 h2 hE => ?_)) (zg_xok ok tab fin ⟨Nat.le_of_ble_eq_true rfl, Nat.le_of_ble_eq_true rfl⟩)
    refine zg_cost (kc2 := 0) (ks2 := 0) ⟨rfl, rfl⟩ ?_
    refine zg_goto (tgt := 17) ok dX2_farSum_13 (by decide) ?_
    exact zg_dret ok fin dX2_farSum_17 ⟨Nat.le_of_ble_eq_true rfl, Nat.le_of_ble_eq_true rfl⟩ hE
set_option maxHeartbeats 8000000 in
theorem mt_J34_isNaN {l : Launch} (hl : l.stackTraces = false) {Z : zw_Z} {a0 : UInt64} {h : zw_H} {Q : Int32 → zw_H → Prop} {X : String → Nat → zw_H → Prop} (hE : f_J34_isNaN Z.2.2.2 a0 h Q X) : zw_Met l Z yJ34_isNaN (ws_ yJ34_isNaN cJ34_isNaN 2 (Option.some Jvm.ClassFile.FieldType.boolean)) rm_J34_isNaN [zD a0] h (zq_I Q) X := by
  refine zg_startF (own := "java/lang/Double") (by decide +kernel) rfl (Nat.le_of_ble_eq_true rfl) hl (fun Xc ok tab fin hRm hXl hXZ => ?_)
  subst hXl
  subst hXZ
  unfold f_J34_isNaN at hE
  refine zg_dload_n ok dJ34_isNaN_0 rfl 0 rfl ?_
  refine zg_dload_n ok dJ34_isNaN_1 rfl 0 rfl ?_
  refine zg_dcmp ok dJ34_isNaN_2 ?_
  refine zg_if_eq (tgt := 10) ok dJ34_isNaN_3 (by decide) hE (fun hE => ?_) (fun hE => ?_)
  · refine zg_iconst (v := 0) ok dJ34_isNaN_10 (by decide) ?_
    exact zg_zret ok fin dJ34_isNaN_11 ⟨Nat.le_of_ble_eq_true rfl, Nat.le_of_ble_eq_true rfl⟩ rfl hE
  · refine zg_iconst (v := 1) ok dJ34_isNaN_6 (by decide) ?_
    refine zg_goto (tgt := 11) ok dJ34_isNaN_7 (by decide) ?_
    exact zg_zret ok fin dJ34_isNaN_11 ⟨Nat.le_of_ble_eq_true rfl, Nat.le_of_ble_eq_true rfl⟩ rfl hE
set_option maxHeartbeats 8000000 in
theorem mt_J34_doubleToLongBits {l : Launch} (hl : l.stackTraces = false) {Z : zw_Z} {a0 : UInt64} {h : zw_H} {Q : Int64 → zw_H → Prop} {X : String → Nat → zw_H → Prop} (hE : f_J34_doubleToLongBits Z.2.2.2 a0 h Q X) : zw_Met l Z yJ34_doubleToLongBits (ws_ yJ34_doubleToLongBits cJ34_doubleToLongBits 2 (Option.some Jvm.ClassFile.FieldType.long)) rm_J34_doubleToLongBits [zD a0] h (zq_J Q) X := by
  refine zg_startF (own := "java/lang/Double") (by decide +kernel) rfl (Nat.le_of_ble_eq_true rfl) hl (fun Xc ok tab fin hRm hXl hXZ => ?_)
  subst hXl
  subst hXZ
  unfold f_J34_doubleToLongBits at hE
  refine zg_dload_n ok dJ34_doubleToLongBits_0 rfl 0 rfl ?_
  refine zg_callS (vs := [zD a0]) (rest := []) (rm := rm_J34_isNaN) ok hRm lk_J34_122 dJ34_doubleToLongBits_1 hE (fun hE => mt_J34_isNaN hl hE) rfl (Nat.le_of_ble_eq_true rfl) ⟨⟨Nat.le_of_ble_eq_true rfl, Nat.le_of_ble_eq_true rfl⟩, Nat.le_of_ble_eq_true rfl, Nat.le_of_ble_eq_true rfl⟩ (zg_retI (fun v1 h1 hE => ?_)) (zg_xok ok tab fin ⟨Nat.le_of_ble_eq_true rfl, Nat.le_of_ble_eq_true rfl⟩)
  refine zg_cost (kc2 := 0) (ks2 := 0) ⟨rfl, rfl⟩ ?_
  refine zg_if_ne (tgt := 12) ok dJ34_doubleToLongBits_4 (by decide) hE (fun hE => ?_) (fun hE => ?_)
  · refine zg_ldc2 (v := (9221120237041090560 : Int64)) ok q1822 dJ34_doubleToLongBits_12 ?_
    exact zg_lret ok fin dJ34_doubleToLongBits_15 ⟨Nat.le_of_ble_eq_true rfl, Nat.le_of_ble_eq_true rfl⟩ hE
  · refine zg_dload_n ok dJ34_doubleToLongBits_7 rfl 0 rfl ?_
    refine zg_d2l ok hRm q1819 ⟨by decide, by decide⟩ (Nat.le_of_ble_eq_true rfl) dJ34_doubleToLongBits_8 ?_
    exact zg_lret ok fin dJ34_doubleToLongBits_11 ⟨Nat.le_of_ble_eq_true rfl, Nat.le_of_ble_eq_true rfl⟩ hE
set_option maxHeartbeats 8000000 in
theorem mt_X2_farBits {l : Launch} (hl : l.stackTraces = false) {Z : zw_Z} {a0 : Option Nat} {a1 : Int32} {h : zw_H} {Q : Int64 → zw_H → Prop} {X : String → Nat → zw_H → Prop} (hE : f_X2_farBits Z.2.2.2 a0 a1 h Q X) : zw_Met l Z yX2_farBits (ws_ yX2_farBits cX2_farBits 2 (Option.some Jvm.ClassFile.FieldType.long)) rm_X2_farBits [zA a0, zI a1] h (zq_J Q) X := by
  refine zg_start (own := "MultipoleLineModel") (by decide +kernel) rfl (Nat.le_of_ble_eq_true rfl) hl (fun Xc ok tab fin hRm hXl hXZ => ?_)
  subst hXl
  subst hXZ
  unfold f_X2_farBits at hE
  refine zg_aload_n ok dX2_farBits_0 rfl 0 rfl ?_
  refine zg_iload_n ok dX2_farBits_1 rfl 1 rfl ?_
  refine zg_callV (vs := [zI a1]) (rest := []) (rm := rm_X2_mayPoint) ok hRm lk_X2_216 dX2_farBits_2 hE (fun hE => mt_X2_mayPoint hl hE) rfl (Nat.le_of_ble_eq_true rfl) ⟨⟨Nat.le_of_ble_eq_true rfl, Nat.le_of_ble_eq_true rfl⟩, Nat.le_of_ble_eq_true rfl, Nat.le_of_ble_eq_true rfl⟩ (zg_retI (fun v1 h1 hE => ?_)) (zg_xok ok tab fin ⟨Nat.le_of_ble_eq_true rfl, Nat.le_of_ble_eq_true rfl⟩)
  refine zg_cost (kc2 := 0) (ks2 := 0) ⟨rfl, rfl⟩ ?_
  refine zg_if_eq (tgt := 19) ok dX2_farBits_5 (by decide) hE (fun hE => ?_) (fun hE => ?_)
  · refine zg_lconst (v := 0) ok dX2_farBits_19 (by decide) ?_
    exact zg_lret ok fin dX2_farBits_20 ⟨Nat.le_of_ble_eq_true rfl, Nat.le_of_ble_eq_true rfl⟩ hE
  · refine zg_aload_n ok dX2_farBits_8 rfl 0 rfl ?_
    refine zg_iload_n ok dX2_farBits_9 rfl 1 rfl ?_
    refine zg_callV (vs := [zI a1]) (rest := []) (rm := rm_X2_farOf) ok hRm lk_X2_293 dX2_farBits_10 hE (fun hE => mt_X2_farOf hl hE) rfl (Nat.le_of_ble_eq_true rfl) ⟨⟨Nat.le_of_ble_eq_true rfl, Nat.le_of_ble_eq_true rfl⟩, Nat.le_of_ble_eq_true rfl, Nat.le_of_ble_eq_true rfl⟩ (zg_retD (fun v2 h2 hE => ?_)) (zg_xok ok tab fin ⟨Nat.le_of_ble_eq_true rfl, Nat.le_of_ble_eq_true rfl⟩)
    refine zg_cost (kc2 := 0) (ks2 := 0) ⟨rfl, rfl⟩ ?_
    refine zg_callS (vs := [zD v2]) (rest := []) (rm := rm_J34_doubleToLongBits) ok hRm lk_X2_297 dX2_farBits_13 hE (fun hE => mt_J34_doubleToLongBits hl hE) rfl (Nat.le_of_ble_eq_true rfl) ⟨⟨Nat.le_of_ble_eq_true rfl, Nat.le_of_ble_eq_true rfl⟩, Nat.le_of_ble_eq_true rfl, Nat.le_of_ble_eq_true rfl⟩ (zg_retJ (fun v3 h3 hE => ?_)) (zg_xok ok tab fin ⟨Nat.le_of_ble_eq_true rfl, Nat.le_of_ble_eq_true rfl⟩)
    refine zg_cost (kc2 := 0) (ks2 := 0) ⟨rfl, rfl⟩ ?_
    refine zg_goto (tgt := 20) ok dX2_farBits_16 (by decide) ?_
    exact zg_lret ok fin dX2_farBits_20 ⟨Nat.le_of_ble_eq_true rfl, Nat.le_of_ble_eq_true rfl⟩ hE
set_option maxHeartbeats 8000000 in
theorem gt_f_X2_value_J56 {Xc : zw_X} {Q : UInt64 → zw_H → Prop} {X : String → Nat → zw_H → Prop} (hl : (zw_l Xc).stackTraces = false) (ok : zw_ok Xc cX2_value "MultipoleLineModel" yX2_value.name 6) (tab : zw_tab Xc []) (fin : zw_fin Xc (Option.some Jvm.ClassFile.FieldType.double) (zq_D Q) X 0 0) (hRm : zw_rm Xc = rm_X2_value)  {l0 : Option Nat} {l1 : Int32} {l2 : Int32} {l3 : Int32} {l4 : Int32} {s0 : Int32} {h : zw_H} (hE : f_X2_value_J56 (zw_Zf Xc).2.2.2 Q X  l0 l1 l2 l3 l4 s0 h) : zw_G Xc 0 0 6 h 56 [(0, va_rf l0), (1, .int l1), (2, .int l2), (3, .int l3), (4, .int l4)] [.int s0] := by
  unfold f_X2_value_J56 at hE
  refine zg_istore (L' := [(5, .int s0), (0, va_rf l0), (1, .int l1), (2, .int l2), (3, .int l3), (4, .int l4)]) ok dX2_value_56 (by decide) rfl ?_
  refine zg_aload_n ok dX2_value_58 rfl 1 rfl ?_
  refine zg_aload_n ok dX2_value_59 rfl 1 rfl ?_
  refine zg_getI ok lf_X2_156 dX2_value_60 hE (fun v2 hE => ?_)
  refine zg_iload ok dX2_value_63 5 rfl ?_
  refine zg_iload ok dX2_value_65 0 rfl ?_
  refine zg_callV (vs := [zI v2, zI l4, zI s0]) (rest := []) (rm := rm_X2_may) ok hRm lk_X2_60 dX2_value_67 hE (fun hE => mt_X2_may hl hE) rfl (Nat.le_of_ble_eq_true rfl) ⟨⟨Nat.le_of_ble_eq_true rfl, Nat.le_of_ble_eq_true rfl⟩, Nat.le_of_ble_eq_true rfl, Nat.le_of_ble_eq_true rfl⟩ (zg_retI (fun v3 h1 hE => ?_)) (zg_xok ok tab fin ⟨Nat.le_of_ble_eq_true rfl, Nat.le_of_ble_eq_true rfl⟩)
  refine zg_cost (kc2 := 0) (ks2 := 0) ⟨rfl, rfl⟩ ?_
  refine zg_if_eq (tgt := 83) ok dX2_value_70 (by decide) hE (fun hE => ?_) (fun hE => ?_)
  · refine zg_dconst0 ok dX2_value_83 ?_
    exact zg_dret ok fin dX2_value_84 ⟨Nat.le_of_ble_eq_true rfl, Nat.le_of_ble_eq_true rfl⟩ hE
  · refine zg_aload_n ok dX2_value_73 rfl 1 rfl ?_
    refine zg_iload_n ok dX2_value_74 rfl 2 rfl ?_
    refine zg_iload_n ok dX2_value_75 rfl 3 rfl ?_
    refine zg_iload_n ok dX2_value_76 rfl 4 rfl ?_
    refine zg_callV (vs := [zI l1, zI l2, zI l3]) (rest := []) (rm := rm_X2_valueOf) ok hRm lk_X2_289 dX2_value_77 hE (fun hE => mt_X2_valueOf hl hE) rfl (Nat.le_of_ble_eq_true rfl) ⟨⟨Nat.le_of_ble_eq_true rfl, Nat.le_of_ble_eq_true rfl⟩, Nat.le_of_ble_eq_true rfl, Nat.le_of_ble_eq_true rfl⟩ (zg_retD (fun v4 h2 hE => ?_)) (zg_xok ok tab fin ⟨Nat.le_of_ble_eq_true rfl, Nat.le_of_ble_eq_true rfl⟩)
    refine zg_cost (kc2 := 0) (ks2 := 0) ⟨rfl, rfl⟩ ?_
    refine zg_goto (tgt := 84) ok dX2_value_80 (by decide) ?_
    exact zg_dret ok fin dX2_value_84 ⟨Nat.le_of_ble_eq_true rfl, Nat.le_of_ble_eq_true rfl⟩ hE
set_option maxHeartbeats 8000000 in
theorem gt_f_X2_value_J55 {Xc : zw_X} {Q : UInt64 → zw_H → Prop} {X : String → Nat → zw_H → Prop} (hl : (zw_l Xc).stackTraces = false) (ok : zw_ok Xc cX2_value "MultipoleLineModel" yX2_value.name 6) (tab : zw_tab Xc []) (fin : zw_fin Xc (Option.some Jvm.ClassFile.FieldType.double) (zq_D Q) X 0 0) (hRm : zw_rm Xc = rm_X2_value)  {l0 : Option Nat} {l1 : Int32} {l2 : Int32} {l3 : Int32} {l4 : Int32}  {h : zw_H} (hE : f_X2_value_J55 (zw_Zf Xc).2.2.2 Q X  l0 l1 l2 l3 l4 h) : zw_G Xc 0 0 6 h 55 [(0, va_rf l0), (1, .int l1), (2, .int l2), (3, .int l3), (4, .int l4)] [] := by
  unfold f_X2_value_J55 at hE
  refine zg_iconst (v := 0) ok dX2_value_55 (by decide) ?_
  exact gt_f_X2_value_J56 hl ok tab fin hRm  hE
set_option maxHeartbeats 8000000 in
theorem gt_f_X2_value_J21 {Xc : zw_X} {Q : UInt64 → zw_H → Prop} {X : String → Nat → zw_H → Prop} (hl : (zw_l Xc).stackTraces = false) (ok : zw_ok Xc cX2_value "MultipoleLineModel" yX2_value.name 6) (tab : zw_tab Xc []) (fin : zw_fin Xc (Option.some Jvm.ClassFile.FieldType.double) (zq_D Q) X 0 0) (hRm : zw_rm Xc = rm_X2_value)  {l0 : Option Nat} {l1 : Int32} {l2 : Int32} {l3 : Int32} {s0 : Int32} {h : zw_H} (hE : f_X2_value_J21 (zw_Zf Xc).2.2.2 Q X  l0 l1 l2 l3 s0 h) : zw_G Xc 0 0 6 h 21 [(0, va_rf l0), (1, .int l1), (2, .int l2), (3, .int l3)] [.int s0] := by
  unfold f_X2_value_J21 at hE
  refine zg_istore (L' := [(4, .int s0), (0, va_rf l0), (1, .int l1), (2, .int l2), (3, .int l3)]) ok dX2_value_21 (by decide) rfl ?_
  refine zg_iload ok dX2_value_23 0 rfl ?_
  refine zg_if_eq (tgt := 55) ok dX2_value_25 (by decide) hE (fun hE => ?_) (fun hE => ?_)
  · refine zg_sub (L' := [(0, va_rf l0), (1, .int l1), (2, .int l2), (3, .int l3), (4, .int s0)]) [1, 2, 3, 4, 0] rfl ?_
    exact gt_f_X2_value_J55 hl ok tab fin hRm  hE
  · refine zg_iload_n ok dX2_value_28 rfl 4 rfl ?_
    refine zg_callS (vs := [zI l3]) (rest := []) (rm := rm_X2_isPoint) ok hRm lk_X2_213 dX2_value_29 hE (fun hE => mt_X2_isPoint hl hE) rfl (Nat.le_of_ble_eq_true rfl) ⟨⟨Nat.le_of_ble_eq_true rfl, Nat.le_of_ble_eq_true rfl⟩, Nat.le_of_ble_eq_true rfl, Nat.le_of_ble_eq_true rfl⟩ (zg_retI (fun v5 h3 hE => ?_)) (zg_xok ok tab fin ⟨Nat.le_of_ble_eq_true rfl, Nat.le_of_ble_eq_true rfl⟩)
    refine zg_cost (kc2 := 0) (ks2 := 0) ⟨rfl, rfl⟩ ?_
    refine zg_if_eq (tgt := 55) ok dX2_value_32 (by decide) hE (fun hE => ?_) (fun hE => ?_)
    · refine zg_sub (L' := [(0, va_rf l0), (1, .int l1), (2, .int l2), (3, .int l3), (4, .int s0)]) [1, 2, 3, 4, 0] rfl ?_
      exact gt_f_X2_value_J55 hl ok tab fin hRm  hE
    · refine zg_iload_n ok dX2_value_35 rfl 4 rfl ?_
      refine zg_iload_n ok dX2_value_36 rfl 2 rfl ?_
      refine zg_iload_n ok dX2_value_37 rfl 3 rfl ?_
      refine zg_callS (vs := [zI l1, zI l2]) (rest := [.int l3]) (rm := rm_X2_centre) ok hRm lk_X2_226 dX2_value_38 hE (fun hE => mt_X2_centre hl hE) rfl (Nat.le_of_ble_eq_true rfl) ⟨⟨Nat.le_of_ble_eq_true rfl, Nat.le_of_ble_eq_true rfl⟩, Nat.le_of_ble_eq_true rfl, Nat.le_of_ble_eq_true rfl⟩ (zg_retI (fun v6 h4 hE => ?_)) (zg_xok ok tab fin ⟨Nat.le_of_ble_eq_true rfl, Nat.le_of_ble_eq_true rfl⟩)
      refine zg_cost (kc2 := 0) (ks2 := 0) ⟨rfl, rfl⟩ ?_
      refine zg_callS (vs := [zI l3, zI v6]) (rest := []) (rm := rm_X2_far) ok hRm lk_X2_187 dX2_value_41 hE (fun hE => mt_X2_far hl hE) rfl (Nat.le_of_ble_eq_true rfl) ⟨⟨Nat.le_of_ble_eq_true rfl, Nat.le_of_ble_eq_true rfl⟩, Nat.le_of_ble_eq_true rfl, Nat.le_of_ble_eq_true rfl⟩ (zg_retI (fun v7 h5 hE => ?_)) (zg_xok ok tab fin ⟨Nat.le_of_ble_eq_true rfl, Nat.le_of_ble_eq_true rfl⟩)
      refine zg_cost (kc2 := 0) (ks2 := 0) ⟨rfl, rfl⟩ ?_
      refine zg_iload_n ok dX2_value_44 rfl 2 rfl ?_
      refine zg_callS (vs := [zI l1]) (rest := [.int v7]) (rm := rm_X2_wide) ok hRm lk_X2_174 dX2_value_45 hE (fun hE => mt_X2_wide hl hE) rfl (Nat.le_of_ble_eq_true rfl) ⟨⟨Nat.le_of_ble_eq_true rfl, Nat.le_of_ble_eq_true rfl⟩, Nat.le_of_ble_eq_true rfl, Nat.le_of_ble_eq_true rfl⟩ (zg_retI (fun v8 h6 hE => ?_)) (zg_xok ok tab fin ⟨Nat.le_of_ble_eq_true rfl, Nat.le_of_ble_eq_true rfl⟩)
      refine zg_cost (kc2 := 0) (ks2 := 0) ⟨rfl, rfl⟩ ?_
      refine zg_icmp_lt (tgt := 55) ok dX2_value_48 (by decide) hE (fun hE => ?_) (fun hE => ?_)
      · refine zg_sub (L' := [(0, va_rf l0), (1, .int l1), (2, .int l2), (3, .int l3), (4, .int s0)]) [1, 2, 3, 4, 0] rfl ?_
        exact gt_f_X2_value_J55 hl ok tab fin hRm  hE
      · refine zg_iconst (v := 1) ok dX2_value_51 (by decide) ?_
        refine zg_goto (tgt := 56) ok dX2_value_52 (by decide) ?_
        refine zg_sub (L' := [(0, va_rf l0), (1, .int l1), (2, .int l2), (3, .int l3), (4, .int s0)]) [1, 2, 3, 4, 0] rfl ?_
        exact gt_f_X2_value_J56 hl ok tab fin hRm  hE
set_option maxHeartbeats 8000000 in
theorem gt_f_X2_value_J20 {Xc : zw_X} {Q : UInt64 → zw_H → Prop} {X : String → Nat → zw_H → Prop} (hl : (zw_l Xc).stackTraces = false) (ok : zw_ok Xc cX2_value "MultipoleLineModel" yX2_value.name 6) (tab : zw_tab Xc []) (fin : zw_fin Xc (Option.some Jvm.ClassFile.FieldType.double) (zq_D Q) X 0 0) (hRm : zw_rm Xc = rm_X2_value)  {l0 : Option Nat} {l1 : Int32} {l2 : Int32} {l3 : Int32}  {h : zw_H} (hE : f_X2_value_J20 (zw_Zf Xc).2.2.2 Q X  l0 l1 l2 l3 h) : zw_G Xc 0 0 6 h 20 [(0, va_rf l0), (1, .int l1), (2, .int l2), (3, .int l3)] [] := by
  unfold f_X2_value_J20 at hE
  refine zg_iconst (v := 0) ok dX2_value_20 (by decide) ?_
  exact gt_f_X2_value_J21 hl ok tab fin hRm  hE
set_option maxHeartbeats 8000000 in
theorem mt_X2_value {l : Launch} (hl : l.stackTraces = false) {Z : zw_Z} {a0 : Option Nat} {a1 : Int32} {a2 : Int32} {a3 : Int32} {h : zw_H} {Q : UInt64 → zw_H → Prop} {X : String → Nat → zw_H → Prop} (hE : f_X2_value Z.2.2.2 a0 a1 a2 a3 h Q X) : zw_Met l Z yX2_value (ws_ yX2_value cX2_value 6 (Option.some Jvm.ClassFile.FieldType.double)) rm_X2_value [zA a0, zI a1, zI a2, zI a3] h (zq_D Q) X := by
  refine zg_start (own := "MultipoleLineModel") (by decide +kernel) rfl (Nat.le_of_ble_eq_true rfl) hl (fun Xc ok tab fin hRm hXl hXZ => ?_)
  subst hXl
  subst hXZ
  unfold f_X2_value at hE
  refine zg_aload_n ok dX2_value_0 rfl 0 rfl ?_
  refine zg_getI ok lf_X2_156 dX2_value_1 hE (fun v1 hE => ?_)
  refine zg_if_eq (tgt := 20) ok dX2_value_4 (by decide) hE (fun hE => ?_) (fun hE => ?_)
  · exact gt_f_X2_value_J20 hl ok tab fin hRm  hE
  · refine zg_aload_n ok dX2_value_7 rfl 0 rfl ?_
    refine zg_iload_n ok dX2_value_8 rfl 1 rfl ?_
    refine zg_iload_n ok dX2_value_9 rfl 2 rfl ?_
    refine zg_callV (vs := [zI a1, zI a2]) (rest := []) (rm := rm_X2_isBox) ok hRm lk_X2_222 dX2_value_10 hE (fun hE => mt_X2_isBox hl hE) rfl (Nat.le_of_ble_eq_true rfl) ⟨⟨Nat.le_of_ble_eq_true rfl, Nat.le_of_ble_eq_true rfl⟩, Nat.le_of_ble_eq_true rfl, Nat.le_of_ble_eq_true rfl⟩ (zg_retI (fun v9 h7 hE => ?_)) (zg_xok ok tab fin ⟨Nat.le_of_ble_eq_true rfl, Nat.le_of_ble_eq_true rfl⟩)
    refine zg_cost (kc2 := 0) (ks2 := 0) ⟨rfl, rfl⟩ ?_
    refine zg_if_eq (tgt := 20) ok dX2_value_13 (by decide) hE (fun hE => ?_) (fun hE => ?_)
    · exact gt_f_X2_value_J20 hl ok tab fin hRm  hE
    · refine zg_iconst (v := 1) ok dX2_value_16 (by decide) ?_
      refine zg_goto (tgt := 21) ok dX2_value_17 (by decide) ?_
      exact gt_f_X2_value_J21 hl ok tab fin hRm  hE
set_option maxHeartbeats 8000000 in
theorem gt_f_X2_boundOf_B71 {Xc : zw_X} {Q : UInt64 → zw_H → Prop} {X : String → Nat → zw_H → Prop} (hl : (zw_l Xc).stackTraces = false) (ok : zw_ok Xc cX2_boundOf "MultipoleLineModel" yX2_boundOf.name 13) (tab : zw_tab Xc []) (fin : zw_fin Xc (Option.some Jvm.ClassFile.FieldType.double) (zq_D Q) X 0 0) (hRm : zw_rm Xc = rm_X2_boundOf) {kc ks : Nat} (hb : kc ≤ 0 ∧ ks ≤ 0) {R : UInt64 → Int32 → zw_H → Prop} {l0 : Option Nat} {l1 : Int32} {l2 : Int32} {l3 : UInt64} {l5 : Int32} {l6 : Int32} {l7 : Int32} {l8 : UInt64} (hR : ∀ (l10 : UInt64) (l12 : Int32) (h : zw_H), R l10 l12 h → zw_G Xc kc ks 13 h 71 [(0, va_rf l0), (1, .int l1), (2, .int l2), (3, .double l3), (5, .int l5), (6, .int l6), (7, .int l7), (8, .double l8), (10, .double l10), (12, .int l12)] []) {k90 : UInt64 → zw_H → Prop} (hk90 : ∀ (l10 : UInt64) (h : zw_H), k90 l10 h → zw_G Xc kc ks 13 h 90 [(0, va_rf l0), (1, .int l1), (2, .int l2), (3, .double l3), (5, .int l5), (6, .int l6), (7, .int l7), (10, .double l10)] [])  {l10 : UInt64} {l12 : Int32} {h : zw_H} (hE : f_X2_boundOf_B71 (zw_Zf Xc).2.2.2 Q X k90 l0 l1 l2 l3 l5 l6 l7 l8 R l10 l12 h) : zw_G Xc kc ks 13 h 71 [(0, va_rf l0), (1, .int l1), (2, .int l2), (3, .double l3), (5, .int l5), (6, .int l6), (7, .int l7), (8, .double l8), (10, .double l10), (12, .int l12)] [] := by
  unfold f_X2_boundOf_B71 at hE
  refine zg_iload ok dX2_boundOf_71 9 rfl ?_
  refine zg_iload_n ok dX2_boundOf_73 rfl 2 rfl ?_
  refine zg_icmp_gt (tgt := 90) ok dX2_boundOf_74 (by decide) hE (fun hE => ?_) (fun hE => ?_)
  · refine zg_sub (L' := [(0, va_rf l0), (1, .int l1), (2, .int l2), (3, .double l3), (5, .int l5), (6, .int l6), (7, .int l7), (10, .double l10)]) [0, 1, 2, 3, 4, 5, 6, 8] rfl ?_
    exact hk90 _ _ hE
  · refine zg_dload ok dX2_boundOf_77 8 rfl ?_
    refine zg_dload ok dX2_boundOf_79 7 rfl ?_
    refine zg_dmulE ok dX2_boundOf_81 hE (fun hE => ?_)
    refine zg_letD hE (fun v13 hE => ?_)
    refine zg_dstore (L' := [(10, .double v13), (0, va_rf l0), (1, .int l1), (2, .int l2), (3, .double l3), (5, .int l5), (6, .int l6), (7, .int l7), (8, .double l8), (12, .int l12)]) ok dX2_boundOf_82 (by decide) rfl ?_
    refine zg_iincL (k := 9) (L' := fun v14 => [(12, .int v14), (10, .double v13), (0, va_rf l0), (1, .int l1), (2, .int l2), (3, .double l3), (5, .int l5), (6, .int l6), (7, .int l7), (8, .double l8)]) ok dX2_boundOf_84 (by decide +kernel) hE rfl (by decide) (fun _ => rfl) (fun v14 hE => ?_)
    refine zg_goto (tgt := 71) ok dX2_boundOf_87 (by decide) ?_
    refine zg_sub (L' := [(0, va_rf l0), (1, .int l1), (2, .int l2), (3, .double l3), (5, .int l5), (6, .int l6), (7, .int l7), (8, .double l8), (10, .double v13), (12, .int v14)]) [2, 3, 4, 5, 6, 7, 8, 9, 1, 0] rfl ?_
    exact hR _ _ _ hE
theorem gt_f_X2_boundOf_L71 {Xc : zw_X} {Q : UInt64 → zw_H → Prop} {X : String → Nat → zw_H → Prop} (hl : (zw_l Xc).stackTraces = false) (ok : zw_ok Xc cX2_boundOf "MultipoleLineModel" yX2_boundOf.name 13) (tab : zw_tab Xc []) (fin : zw_fin Xc (Option.some Jvm.ClassFile.FieldType.double) (zq_D Q) X 0 0) (hRm : zw_rm Xc = rm_X2_boundOf) {kc ks : Nat} (hb : kc ≤ 0 ∧ ks ≤ 0) {l0 : Option Nat} {l1 : Int32} {l2 : Int32} {l3 : UInt64} {l5 : Int32} {l6 : Int32} {l7 : Int32} {l8 : UInt64} {k90 : UInt64 → zw_H → Prop} (hk90 : ∀ (l10 : UInt64) (h : zw_H), k90 l10 h → zw_G Xc kc ks 13 h 90 [(0, va_rf l0), (1, .int l1), (2, .int l2), (3, .double l3), (5, .int l5), (6, .int l6), (7, .int l7), (10, .double l10)] [])  : ∀ (n9 : Nat) (l10 : UInt64) (l12 : Int32) (h : zw_H), zl3 (f_X2_boundOf_B71 (zw_Zf Xc).2.2.2 Q X k90 l0 l1 l2 l3 l5 l6 l7 l8) n9 l10 l12 h → zw_G Xc kc ks 13 h 71 [(0, va_rf l0), (1, .int l1), (2, .int l2), (3, .double l3), (5, .int l5), (6, .int l6), (7, .int l7), (8, .double l8), (10, .double l10), (12, .int l12)] [] := by
  intro n9
  induction n9 with
  | zero => intro l10 l12 h hE; exact hE.elim
  | succ n9 ih => intro l10 l12 h hE; exact gt_f_X2_boundOf_B71 hl ok tab fin hRm hb ih hk90 hE
set_option maxHeartbeats 8000000 in
theorem gt_f_X2_boundOf_B10 {Xc : zw_X} {Q : UInt64 → zw_H → Prop} {X : String → Nat → zw_H → Prop} (hl : (zw_l Xc).stackTraces = false) (ok : zw_ok Xc cX2_boundOf "MultipoleLineModel" yX2_boundOf.name 13) (tab : zw_tab Xc []) (fin : zw_fin Xc (Option.some Jvm.ClassFile.FieldType.double) (zq_D Q) X 0 0) (hRm : zw_rm Xc = rm_X2_boundOf) {kc ks : Nat} (hb : kc ≤ 0 ∧ ks ≤ 0) {R : UInt64 → Int32 → zw_H → Prop} {l0 : Option Nat} {l1 : Int32} {l2 : Int32} (hR : ∀ (l3 : UInt64) (l5 : Int32) (h : zw_H), R l3 l5 h → zw_G Xc kc ks 13 h 10 [(0, va_rf l0), (1, .int l1), (2, .int l2), (3, .double l3), (5, .int l5)] []) {k129 : UInt64 → zw_H → Prop} (hk129 : ∀ (l3 : UInt64) (h : zw_H), k129 l3 h → zw_G Xc kc ks 13 h 129 [(3, .double l3)] [])  {l3 : UInt64} {l5 : Int32} {h : zw_H} (hE : f_X2_boundOf_B10 (zw_Zf Xc).2.2.2 Q X k129 l0 l1 l2 R l3 l5 h) : zw_G Xc kc ks 13 h 10 [(0, va_rf l0), (1, .int l1), (2, .int l2), (3, .double l3), (5, .int l5)] [] := by
  unfold f_X2_boundOf_B10 at hE
  refine zg_iload ok dX2_boundOf_10 4 rfl ?_
  refine zg_aload_n ok dX2_boundOf_12 rfl 0 rfl ?_
  refine zg_getI ok lf_X2_269 dX2_boundOf_13 hE (fun v1 hE => ?_)
  refine zg_icmp_ge (tgt := 129) ok dX2_boundOf_16 (by decide) hE (fun hE => ?_) (fun hE => ?_)
  · refine zg_sub (L' := [(3, .double l3)]) [3] rfl ?_
    exact hk129 _ _ hE
  · refine zg_iload_n ok dX2_boundOf_19 rfl 1 rfl ?_
    refine zg_aload_n ok dX2_boundOf_20 rfl 0 rfl ?_
    refine zg_getA ok lf_X2_38 dX2_boundOf_21 hE (fun v2 hE => ?_)
    refine zg_iload ok dX2_boundOf_24 4 rfl ?_
    refine zg_iald ok dX2_boundOf_26 hE (fun v3 hE => ?_)
    refine zg_aload_n ok dX2_boundOf_27 rfl 0 rfl ?_
    refine zg_getA ok lf_X2_41 dX2_boundOf_28 hE (fun v4 hE => ?_)
    refine zg_iload ok dX2_boundOf_31 4 rfl ?_
    refine zg_iald ok dX2_boundOf_33 hE (fun v5 hE => ?_)
    refine zg_callS (vs := [zI v3, zI v5]) (rest := [.int l1]) (rm := rm_X2_centre) ok hRm lk_X2_226 dX2_boundOf_34 hE (fun hE => mt_X2_centre hl hE) rfl (Nat.le_of_ble_eq_true rfl) ⟨⟨Nat.le_of_ble_eq_true rfl, Nat.le_of_ble_eq_true rfl⟩, (by show kc + 0 ≤ 0; omega), (by show ks + 0 ≤ 0; omega)⟩ (zg_retI (fun v6 h2 hE => ?_)) (zg_xok ok tab fin ⟨(by show kc + 0 ≤ 0; omega), (by show ks + 0 ≤ 0; omega)⟩)
    refine zg_cost (kc2 := kc) (ks2 := ks) ⟨(by show kc + 0 = kc; omega), (by show ks + 0 = ks; omega)⟩ ?_
    refine zg_callS (vs := [zI l1, zI v6]) (rest := []) (rm := rm_X2_far) ok hRm lk_X2_187 dX2_boundOf_37 hE (fun hE => mt_X2_far hl hE) rfl (Nat.le_of_ble_eq_true rfl) ⟨⟨Nat.le_of_ble_eq_true rfl, Nat.le_of_ble_eq_true rfl⟩, (by show kc + 0 ≤ 0; omega), (by show ks + 0 ≤ 0; omega)⟩ (zg_retI (fun v7 h3 hE => ?_)) (zg_xok ok tab fin ⟨(by show kc + 0 ≤ 0; omega), (by show ks + 0 ≤ 0; omega)⟩)
    refine zg_cost (kc2 := kc) (ks2 := ks) ⟨(by show kc + 0 = kc; omega), (by show ks + 0 = ks; omega)⟩ ?_
    refine zg_istore (L' := [(6, .int v7), (0, va_rf l0), (1, .int l1), (2, .int l2), (3, .double l3), (5, .int l5)]) ok dX2_boundOf_40 (by decide) rfl ?_
    refine zg_aload_n ok dX2_boundOf_42 rfl 1 rfl ?_
    refine zg_getA ok lf_X2_38 dX2_boundOf_43 hE (fun v8 hE => ?_)
    refine zg_iload ok dX2_boundOf_46 5 rfl ?_
    refine zg_iald ok dX2_boundOf_48 hE (fun v9 hE => ?_)
    refine zg_callS (vs := [zI v9]) (rest := []) (rm := rm_X2_wide) ok hRm lk_X2_174 dX2_boundOf_49 hE (fun hE => mt_X2_wide hl hE) rfl (Nat.le_of_ble_eq_true rfl) ⟨⟨Nat.le_of_ble_eq_true rfl, Nat.le_of_ble_eq_true rfl⟩, (by show kc + 0 ≤ 0; omega), (by show ks + 0 ≤ 0; omega)⟩ (zg_retI (fun v10 h4 hE => ?_)) (zg_xok ok tab fin ⟨(by show kc + 0 ≤ 0; omega), (by show ks + 0 ≤ 0; omega)⟩)
    refine zg_cost (kc2 := kc) (ks2 := ks) ⟨(by show kc + 0 = kc; omega), (by show ks + 0 = ks; omega)⟩ ?_
    refine zg_iconst (v := 2) ok dX2_boundOf_52 (by decide) ?_
    refine zg_idivE ok dX2_boundOf_53 hE (fun hE => ?_)
    refine zg_letI hE (fun v11 hE => ?_)
    refine zg_istore (L' := [(7, .int v11), (6, .int v7), (0, va_rf l0), (1, .int l1), (2, .int l2), (3, .double l3), (5, .int l5)]) ok dX2_boundOf_54 (by decide) rfl ?_
    refine zg_iload ok dX2_boundOf_56 0 rfl ?_
    refine zg_i2d ok dX2_boundOf_58 ?_
    refine zg_iload ok dX2_boundOf_59 1 rfl ?_
    refine zg_i2d ok dX2_boundOf_61 ?_
    refine zg_ddivE ok dX2_boundOf_62 hE (fun hE => ?_)
    refine zg_letD hE (fun v12 hE => ?_)
    refine zg_dstore (L' := [(8, .double v12), (7, .int v11), (6, .int v7), (0, va_rf l0), (1, .int l1), (2, .int l2), (3, .double l3), (5, .int l5)]) ok dX2_boundOf_63 (by decide) rfl ?_
    refine zg_dconst1 ok dX2_boundOf_65 ?_
    refine zg_dstore (L' := [(10, .double FP.dconst1), (8, .double v12), (7, .int v11), (6, .int v7), (0, va_rf l0), (1, .int l1), (2, .int l2), (3, .double l3), (5, .int l5)]) ok dX2_boundOf_66 (by decide) rfl ?_
    refine zg_iconst (v := 0) ok dX2_boundOf_68 (by decide) ?_
    refine zg_istore (L' := [(12, .int 0), (10, .double FP.dconst1), (8, .double v12), (7, .int v11), (6, .int v7), (0, va_rf l0), (1, .int l1), (2, .int l2), (3, .double l3), (5, .int l5)]) ok dX2_boundOf_69 (by decide) rfl ?_
    refine zg_sub (L' := [(0, va_rf l0), (1, .int l1), (2, .int l2), (3, .double l3), (5, .int l5), (6, .int v7), (7, .int v11), (8, .double v12), (10, .double FP.dconst1), (12, .int 0)]) [5, 6, 7, 8, 9, 4, 3, 2, 1, 0] rfl ?_
    refine gt_f_X2_boundOf_L71 hl ok tab fin hRm ⟨(by omega), (by omega)⟩ ?_ _ _ _ _ hE
    · intro v15 h5 hE
      refine zg_dload_n ok dX2_boundOf_90 rfl 3 rfl ?_
      refine zg_aload_n ok dX2_boundOf_91 rfl 0 rfl ?_
      refine zg_aload_n ok dX2_boundOf_92 rfl 0 rfl ?_
      refine zg_getA ok lf_X2_38 dX2_boundOf_93 hE (fun v16 hE => ?_)
      refine zg_iload ok dX2_boundOf_96 4 rfl ?_
      refine zg_iald ok dX2_boundOf_98 hE (fun v17 hE => ?_)
      refine zg_aload_n ok dX2_boundOf_99 rfl 0 rfl ?_
      refine zg_getA ok lf_X2_41 dX2_boundOf_100 hE (fun v18 hE => ?_)
      refine zg_iload ok dX2_boundOf_103 4 rfl ?_
      refine zg_iald ok dX2_boundOf_105 hE (fun v19 hE => ?_)
      refine zg_iconst (v := 1) ok dX2_boundOf_106 (by decide) ?_
      refine zg_callV (vs := [zI v17, zI v19, zI 1]) (rest := [.double l3]) (rm := rm_X2_charge) ok hRm lk_X2_200 dX2_boundOf_107 hE (fun hE => mt_X2_charge hl hE) rfl (Nat.le_of_ble_eq_true rfl) ⟨⟨Nat.le_of_ble_eq_true rfl, Nat.le_of_ble_eq_true rfl⟩, (by show kc + 0 ≤ 0; omega), (by show ks + 0 ≤ 0; omega)⟩ (zg_retI (fun v20 h6 hE => ?_)) (zg_xok ok tab fin ⟨(by show kc + 0 ≤ 0; omega), (by show ks + 0 ≤ 0; omega)⟩)
      refine zg_cost (kc2 := kc) (ks2 := ks) ⟨(by show kc + 0 = kc; omega), (by show ks + 0 = ks; omega)⟩ ?_
      refine zg_i2d ok dX2_boundOf_110 ?_
      refine zg_dload ok dX2_boundOf_111 7 rfl ?_
      refine zg_dmulE ok dX2_boundOf_113 hE (fun hE => ?_)
      refine zg_letD hE (fun v21 hE => ?_)
      refine zg_iload ok dX2_boundOf_114 5 rfl ?_
      refine zg_iload ok dX2_boundOf_116 6 rfl ?_
      refine zg_isub ok dX2_boundOf_118 ?_
      refine zg_i2d ok dX2_boundOf_119 ?_
      refine zg_ddivE ok dX2_boundOf_120 hE (fun hE => ?_)
      refine zg_letD hE (fun v22 hE => ?_)
      refine zg_daddE ok dX2_boundOf_121 hE (fun hE => ?_)
      refine zg_letD hE (fun v23 hE => ?_)
      refine zg_dstore_n (L' := [(3, .double v23), (0, va_rf l0), (1, .int l1), (2, .int l2), (5, .int l5), (6, .int v7), (7, .int v11), (10, .double v15)]) ok dX2_boundOf_122 rfl (by decide) rfl ?_
      refine zg_iincL (k := 4) (L' := fun v24 => [(5, .int v24), (3, .double v23), (0, va_rf l0), (1, .int l1), (2, .int l2), (6, .int v7), (7, .int v11), (10, .double v15)]) ok dX2_boundOf_123 (by decide +kernel) hE rfl (by decide) (fun _ => rfl) (fun v24 hE => ?_)
      refine zg_goto (tgt := 10) ok dX2_boundOf_126 (by decide) ?_
      refine zg_sub (L' := [(0, va_rf l0), (1, .int l1), (2, .int l2), (3, .double v23), (5, .int v24)]) [2, 3, 4, 1, 0] rfl ?_
      exact hR _ _ _ hE
theorem gt_f_X2_boundOf_L10 {Xc : zw_X} {Q : UInt64 → zw_H → Prop} {X : String → Nat → zw_H → Prop} (hl : (zw_l Xc).stackTraces = false) (ok : zw_ok Xc cX2_boundOf "MultipoleLineModel" yX2_boundOf.name 13) (tab : zw_tab Xc []) (fin : zw_fin Xc (Option.some Jvm.ClassFile.FieldType.double) (zq_D Q) X 0 0) (hRm : zw_rm Xc = rm_X2_boundOf) {kc ks : Nat} (hb : kc ≤ 0 ∧ ks ≤ 0) {l0 : Option Nat} {l1 : Int32} {l2 : Int32} {k129 : UInt64 → zw_H → Prop} (hk129 : ∀ (l3 : UInt64) (h : zw_H), k129 l3 h → zw_G Xc kc ks 13 h 129 [(3, .double l3)] [])  : ∀ (n9 : Nat) (l3 : UInt64) (l5 : Int32) (h : zw_H), zl3 (f_X2_boundOf_B10 (zw_Zf Xc).2.2.2 Q X k129 l0 l1 l2) n9 l3 l5 h → zw_G Xc kc ks 13 h 10 [(0, va_rf l0), (1, .int l1), (2, .int l2), (3, .double l3), (5, .int l5)] [] := by
  intro n9
  induction n9 with
  | zero => intro l3 l5 h hE; exact hE.elim
  | succ n9 ih => intro l3 l5 h hE; exact gt_f_X2_boundOf_B10 hl ok tab fin hRm hb ih hk129 hE
set_option maxHeartbeats 8000000 in
theorem mt_X2_boundOf {l : Launch} (hl : l.stackTraces = false) {Z : zw_Z} {a0 : Option Nat} {a1 : Int32} {a2 : Int32} {h : zw_H} {Q : UInt64 → zw_H → Prop} {X : String → Nat → zw_H → Prop} (hE : f_X2_boundOf Z.2.2.2 a0 a1 a2 h Q X) : zw_Met l Z yX2_boundOf (ws_ yX2_boundOf cX2_boundOf 13 (Option.some Jvm.ClassFile.FieldType.double)) rm_X2_boundOf [zA a0, zI a1, zI a2] h (zq_D Q) X := by
  refine zg_start (own := "MultipoleLineModel") (by decide +kernel) rfl (Nat.le_of_ble_eq_true rfl) hl (fun Xc ok tab fin hRm hXl hXZ => ?_)
  subst hXl
  subst hXZ
  unfold f_X2_boundOf at hE
  refine zg_aload_n ok dX2_boundOf_0 rfl 0 rfl ?_
  refine zg_iload_n ok dX2_boundOf_1 rfl 1 rfl ?_
  refine zg_callV (vs := [zI a1]) (rest := []) (rm := rm_X2_laysFar) ok hRm lk_X2_275 dX2_boundOf_2 hE (fun hE => mt_X2_laysFar hl hE) rfl (Nat.le_of_ble_eq_true rfl) ⟨⟨Nat.le_of_ble_eq_true rfl, Nat.le_of_ble_eq_true rfl⟩, Nat.le_of_ble_eq_true rfl, Nat.le_of_ble_eq_true rfl⟩ (zg_retV (fun h1 hE => ?_)) (zg_xok ok tab fin ⟨Nat.le_of_ble_eq_true rfl, Nat.le_of_ble_eq_true rfl⟩)
  refine zg_cost (kc2 := 0) (ks2 := 0) ⟨rfl, rfl⟩ ?_
  refine zg_dconst0 ok dX2_boundOf_5 ?_
  refine zg_dstore_n (L' := [(3, .double FP.dconst0), (0, va_rf a0), (1, .int a1), (2, .int a2)]) ok dX2_boundOf_6 rfl (by decide) rfl ?_
  refine zg_iconst (v := 0) ok dX2_boundOf_7 (by decide) ?_
  refine zg_istore (L' := [(5, .int 0), (3, .double FP.dconst0), (0, va_rf a0), (1, .int a1), (2, .int a2)]) ok dX2_boundOf_8 (by decide) rfl ?_
  refine zg_sub (L' := [(0, va_rf a0), (1, .int a1), (2, .int a2), (3, .double FP.dconst0), (5, .int 0)]) [2, 3, 4, 1, 0] rfl ?_
  refine gt_f_X2_boundOf_L10 hl ok tab fin hRm ⟨Nat.le_of_ble_eq_true rfl, Nat.le_of_ble_eq_true rfl⟩ ?_ _ _ _ _ hE
  · intro v25 h7 hE
    refine zg_dload_n ok dX2_boundOf_129 rfl 0 rfl ?_
    exact zg_dret ok fin dX2_boundOf_130 ⟨Nat.le_of_ble_eq_true rfl, Nat.le_of_ble_eq_true rfl⟩ hE
set_option maxHeartbeats 8000000 in
theorem mt_X2_bound {l : Launch} (hl : l.stackTraces = false) {Z : zw_Z} {a0 : Option Nat} {a1 : Int32} {h : zw_H} {Q : UInt64 → zw_H → Prop} {X : String → Nat → zw_H → Prop} (hE : f_X2_bound Z.2.2.2 a0 a1 h Q X) : zw_Met l Z yX2_bound (ws_ yX2_bound cX2_bound 2 (Option.some Jvm.ClassFile.FieldType.double)) rm_X2_bound [zA a0, zI a1] h (zq_D Q) X := by
  refine zg_start (own := "MultipoleLineModel") (by decide +kernel) rfl (Nat.le_of_ble_eq_true rfl) hl (fun Xc ok tab fin hRm hXl hXZ => ?_)
  subst hXl
  subst hXZ
  unfold f_X2_bound at hE
  refine zg_aload_n ok dX2_bound_0 rfl 0 rfl ?_
  refine zg_iload_n ok dX2_bound_1 rfl 1 rfl ?_
  refine zg_callV (vs := [zI a1]) (rest := []) (rm := rm_X2_mayPoint) ok hRm lk_X2_216 dX2_bound_2 hE (fun hE => mt_X2_mayPoint hl hE) rfl (Nat.le_of_ble_eq_true rfl) ⟨⟨Nat.le_of_ble_eq_true rfl, Nat.le_of_ble_eq_true rfl⟩, Nat.le_of_ble_eq_true rfl, Nat.le_of_ble_eq_true rfl⟩ (zg_retI (fun v1 h1 hE => ?_)) (zg_xok ok tab fin ⟨Nat.le_of_ble_eq_true rfl, Nat.le_of_ble_eq_true rfl⟩)
  refine zg_cost (kc2 := 0) (ks2 := 0) ⟨rfl, rfl⟩ ?_
  refine zg_if_eq (tgt := 22) ok dX2_bound_5 (by decide) hE (fun hE => ?_) (fun hE => ?_)
  · refine zg_dconst0 ok dX2_bound_22 ?_
    exact zg_dret ok fin dX2_bound_23 ⟨Nat.le_of_ble_eq_true rfl, Nat.le_of_ble_eq_true rfl⟩ hE
  · refine zg_aload_n ok dX2_bound_8 rfl 0 rfl ?_
    refine zg_iload_n ok dX2_bound_9 rfl 1 rfl ?_
    refine zg_aload_n ok dX2_bound_10 rfl 0 rfl ?_
    refine zg_getA ok lf_X2_9 dX2_bound_11 hE (fun v2 hE => ?_)
    refine zg_iconst (v := 4) ok dX2_bound_14 (by decide) ?_
    refine zg_iald ok dX2_bound_15 hE (fun v3 hE => ?_)
    refine zg_callV (vs := [zI a1, zI v3]) (rest := []) (rm := rm_X2_boundOf) ok hRm lk_X2_303 dX2_bound_16 hE (fun hE => mt_X2_boundOf hl hE) rfl (Nat.le_of_ble_eq_true rfl) ⟨⟨Nat.le_of_ble_eq_true rfl, Nat.le_of_ble_eq_true rfl⟩, Nat.le_of_ble_eq_true rfl, Nat.le_of_ble_eq_true rfl⟩ (zg_retD (fun v4 h2 hE => ?_)) (zg_xok ok tab fin ⟨Nat.le_of_ble_eq_true rfl, Nat.le_of_ble_eq_true rfl⟩)
    refine zg_cost (kc2 := 0) (ks2 := 0) ⟨rfl, rfl⟩ ?_
    refine zg_goto (tgt := 23) ok dX2_bound_19 (by decide) ?_
    exact zg_dret ok fin dX2_bound_23 ⟨Nat.le_of_ble_eq_true rfl, Nat.le_of_ble_eq_true rfl⟩ hE
set_option maxHeartbeats 8000000 in
theorem gt_f_X2_energy_J64 {Xc : zw_X} {Q : UInt64 → zw_H → Prop} {X : String → Nat → zw_H → Prop} (hl : (zw_l Xc).stackTraces = false) (ok : zw_ok Xc cX2_energy "MultipoleLineModel" yX2_energy.name 8) (tab : zw_tab Xc []) (fin : zw_fin Xc (Option.some Jvm.ClassFile.FieldType.double) (zq_D Q) X 0 0) (hRm : zw_rm Xc = rm_X2_energy) {kc ks : Nat} (hb : kc ≤ 0 ∧ ks ≤ 0) {R : UInt64 → Int32 → zw_H → Prop} {l0 : Option Nat} {l1 : Int32} (hR : ∀ (l2 : UInt64) (l4 : Int32) (h : zw_H), R l2 l4 h → zw_G Xc kc ks 8 h 14 [(0, va_rf l0), (1, .int l1), (2, .double l2), (4, .int l4)] []) {k86 : UInt64 → zw_H → Prop} (hk86 : ∀ (l2 : UInt64) (h : zw_H), k86 l2 h → zw_G Xc kc ks 8 h 86 [(2, .double l2)] [])  {l2 : UInt64} {l4 : Int32} {s0 : UInt64} {h : zw_H} (hE : f_X2_energy_J64 (zw_Zf Xc).2.2.2 Q X R k86 l0 l1 l2 l4 s0 h) : zw_G Xc kc ks 8 h 64 [(0, va_rf l0), (1, .int l1), (2, .double l2), (4, .int l4)] [.double s0] := by
  unfold f_X2_energy_J64 at hE
  refine zg_dstore (L' := [(6, .double s0), (0, va_rf l0), (1, .int l1), (2, .double l2), (4, .int l4)]) ok dX2_energy_64 (by decide) rfl ?_
  refine zg_dload_n ok dX2_energy_66 rfl 3 rfl ?_
  refine zg_aload_n ok dX2_energy_67 rfl 1 rfl ?_
  refine zg_iload ok dX2_energy_68 4 rfl ?_
  refine zg_iconst (v := 1) ok dX2_energy_70 (by decide) ?_
  refine zg_callV (vs := [zI l4, zI 1]) (rest := [.double l2]) (rm := rm_X2_of) ok hRm lk_X2_163 dX2_energy_71 hE (fun hE => mt_X2_of hl hE) rfl (Nat.le_of_ble_eq_true rfl) ⟨⟨Nat.le_of_ble_eq_true rfl, Nat.le_of_ble_eq_true rfl⟩, (by show kc + 0 ≤ 0; omega), (by show ks + 0 ≤ 0; omega)⟩ (zg_retI (fun v6 h4 hE => ?_)) (zg_xok ok tab fin ⟨(by show kc + 0 ≤ 0; omega), (by show ks + 0 ≤ 0; omega)⟩)
  refine zg_cost (kc2 := kc) (ks2 := ks) ⟨(by show kc + 0 = kc; omega), (by show ks + 0 = ks; omega)⟩ ?_
  refine zg_i2d ok dX2_energy_74 ?_
  refine zg_dload ok dX2_energy_75 0 rfl ?_
  refine zg_dmulE ok dX2_energy_77 hE (fun hE => ?_)
  refine zg_letD hE (fun v7 hE => ?_)
  refine zg_daddE ok dX2_energy_78 hE (fun hE => ?_)
  refine zg_letD hE (fun v8 hE => ?_)
  refine zg_dstore_n (L' := [(2, .double v8), (6, .double s0), (0, va_rf l0), (1, .int l1), (4, .int l4)]) ok dX2_energy_79 rfl (by decide) rfl ?_
  refine zg_iincL (k := 4) (L' := fun v9 => [(4, .int v9), (2, .double v8), (6, .double s0), (0, va_rf l0), (1, .int l1)]) ok dX2_energy_80 (by decide +kernel) hE rfl (by decide) (fun _ => rfl) (fun v9 hE => ?_)
  refine zg_goto (tgt := 14) ok dX2_energy_83 (by decide) ?_
  refine zg_sub (L' := [(0, va_rf l0), (1, .int l1), (2, .double v8), (4, .int v9)]) [3, 4, 1, 0] rfl ?_
  exact hR _ _ _ hE
set_option maxHeartbeats 8000000 in
theorem gt_f_X2_energy_B14 {Xc : zw_X} {Q : UInt64 → zw_H → Prop} {X : String → Nat → zw_H → Prop} (hl : (zw_l Xc).stackTraces = false) (ok : zw_ok Xc cX2_energy "MultipoleLineModel" yX2_energy.name 8) (tab : zw_tab Xc []) (fin : zw_fin Xc (Option.some Jvm.ClassFile.FieldType.double) (zq_D Q) X 0 0) (hRm : zw_rm Xc = rm_X2_energy) {kc ks : Nat} (hb : kc ≤ 0 ∧ ks ≤ 0) {R : UInt64 → Int32 → zw_H → Prop} {l0 : Option Nat} {l1 : Int32} (hR : ∀ (l2 : UInt64) (l4 : Int32) (h : zw_H), R l2 l4 h → zw_G Xc kc ks 8 h 14 [(0, va_rf l0), (1, .int l1), (2, .double l2), (4, .int l4)] []) {k86 : UInt64 → zw_H → Prop} (hk86 : ∀ (l2 : UInt64) (h : zw_H), k86 l2 h → zw_G Xc kc ks 8 h 86 [(2, .double l2)] [])  {l2 : UInt64} {l4 : Int32} {h : zw_H} (hE : f_X2_energy_B14 (zw_Zf Xc).2.2.2 Q X k86 l0 l1 R l2 l4 h) : zw_G Xc kc ks 8 h 14 [(0, va_rf l0), (1, .int l1), (2, .double l2), (4, .int l4)] [] := by
  unfold f_X2_energy_B14 at hE
  refine zg_iload ok dX2_energy_14 3 rfl ?_
  refine zg_aload_n ok dX2_energy_16 rfl 0 rfl ?_
  refine zg_getA ok lf_X2_9 dX2_energy_17 hE (fun v2 hE => ?_)
  refine zg_iconst (v := 0) ok dX2_energy_20 (by decide) ?_
  refine zg_iald ok dX2_energy_21 hE (fun v3 hE => ?_)
  refine zg_icmp_ge (tgt := 86) ok dX2_energy_22 (by decide) hE (fun hE => ?_) (fun hE => ?_)
  · refine zg_sub (L' := [(2, .double l2)]) [2] rfl ?_
    exact hk86 _ _ hE
  · refine zg_aload_n ok dX2_energy_25 rfl 0 rfl ?_
    refine zg_iload ok dX2_energy_26 3 rfl ?_
    refine zg_iconst (v := 0) ok dX2_energy_28 (by decide) ?_
    refine zg_callV (vs := [zI l4, zI 0]) (rest := []) (rm := rm_X2_of) ok hRm lk_X2_163 dX2_energy_29 hE (fun hE => mt_X2_of hl hE) rfl (Nat.le_of_ble_eq_true rfl) ⟨⟨Nat.le_of_ble_eq_true rfl, Nat.le_of_ble_eq_true rfl⟩, (by show kc + 0 ≤ 0; omega), (by show ks + 0 ≤ 0; omega)⟩ (zg_retI (fun v4 h2 hE => ?_)) (zg_xok ok tab fin ⟨(by show kc + 0 ≤ 0; omega), (by show ks + 0 ≤ 0; omega)⟩)
    refine zg_cost (kc2 := kc) (ks2 := ks) ⟨(by show kc + 0 = kc; omega), (by show ks + 0 = ks; omega)⟩ ?_
    refine zg_istore (L' := [(5, .int v4), (0, va_rf l0), (1, .int l1), (2, .double l2), (4, .int l4)]) ok dX2_energy_32 (by decide) rfl ?_
    refine zg_iload_n ok dX2_energy_34 rfl 2 rfl ?_
    refine zg_if_eq (tgt := 56) ok dX2_energy_35 (by decide) hE (fun hE => ?_) (fun hE => ?_)
    · refine zg_aload_n ok dX2_energy_56 rfl 1 rfl ?_
      refine zg_iload ok dX2_energy_57 0 rfl ?_
      refine zg_iconst (v := 1) ok dX2_energy_59 (by decide) ?_
      refine zg_iconst (v := (-1)) ok dX2_energy_60 (by decide) ?_
      refine zg_callV (vs := [zI v4, zI 1, zI (-1)]) (rest := []) (rm := rm_X2_sumOf) ok hRm lk_X2_285 dX2_energy_61 hE (fun hE => mt_X2_sumOf hl hE) rfl (Nat.le_of_ble_eq_true rfl) ⟨⟨Nat.le_of_ble_eq_true rfl, Nat.le_of_ble_eq_true rfl⟩, (by show kc + 0 ≤ 0; omega), (by show ks + 0 ≤ 0; omega)⟩ (zg_retD (fun v5 h3 hE => ?_)) (zg_xok ok tab fin ⟨(by show kc + 0 ≤ 0; omega), (by show ks + 0 ≤ 0; omega)⟩)
      refine zg_cost (kc2 := kc) (ks2 := ks) ⟨(by show kc + 0 = kc; omega), (by show ks + 0 = ks; omega)⟩ ?_
      refine zg_sub (L' := [(0, va_rf l0), (1, .int l1), (2, .double l2), (4, .int l4)]) [1, 2, 3, 4] rfl ?_
      exact gt_f_X2_energy_J64 hl ok tab fin hRm hb hR hk86 hE
    · refine zg_aload_n ok dX2_energy_38 rfl 1 rfl ?_
      refine zg_iload ok dX2_energy_39 0 rfl ?_
      refine zg_iconst (v := 0) ok dX2_energy_41 (by decide) ?_
      refine zg_iconst (v := (-1)) ok dX2_energy_42 (by decide) ?_
      refine zg_callV (vs := [zI v4, zI 0, zI (-1)]) (rest := []) (rm := rm_X2_sumOf) ok hRm lk_X2_285 dX2_energy_43 hE (fun hE => mt_X2_sumOf hl hE) rfl (Nat.le_of_ble_eq_true rfl) ⟨⟨Nat.le_of_ble_eq_true rfl, Nat.le_of_ble_eq_true rfl⟩, (by show kc + 0 ≤ 0; omega), (by show ks + 0 ≤ 0; omega)⟩ (zg_retD (fun v10 h5 hE => ?_)) (zg_xok ok tab fin ⟨(by show kc + 0 ≤ 0; omega), (by show ks + 0 ≤ 0; omega)⟩)
      refine zg_cost (kc2 := kc) (ks2 := ks) ⟨(by show kc + 0 = kc; omega), (by show ks + 0 = ks; omega)⟩ ?_
      refine zg_aload_n ok dX2_energy_46 rfl 1 rfl ?_
      refine zg_iload ok dX2_energy_47 0 rfl ?_
      refine zg_callV (vs := [zI v4]) (rest := [.double v10]) (rm := rm_X2_farOf) ok hRm lk_X2_293 dX2_energy_49 hE (fun hE => mt_X2_farOf hl hE) rfl (Nat.le_of_ble_eq_true rfl) ⟨⟨Nat.le_of_ble_eq_true rfl, Nat.le_of_ble_eq_true rfl⟩, (by show kc + 0 ≤ 0; omega), (by show ks + 0 ≤ 0; omega)⟩ (zg_retD (fun v11 h6 hE => ?_)) (zg_xok ok tab fin ⟨(by show kc + 0 ≤ 0; omega), (by show ks + 0 ≤ 0; omega)⟩)
      refine zg_cost (kc2 := kc) (ks2 := ks) ⟨(by show kc + 0 = kc; omega), (by show ks + 0 = ks; omega)⟩ ?_
      refine zg_daddE ok dX2_energy_52 hE (fun hE => ?_)
      refine zg_letD hE (fun v12 hE => ?_)
      refine zg_goto (tgt := 64) ok dX2_energy_53 (by decide) ?_
      refine zg_sub (L' := [(0, va_rf l0), (1, .int l1), (2, .double l2), (4, .int l4)]) [1, 2, 3, 4] rfl ?_
      exact gt_f_X2_energy_J64 hl ok tab fin hRm hb hR hk86 hE
theorem gt_f_X2_energy_L14 {Xc : zw_X} {Q : UInt64 → zw_H → Prop} {X : String → Nat → zw_H → Prop} (hl : (zw_l Xc).stackTraces = false) (ok : zw_ok Xc cX2_energy "MultipoleLineModel" yX2_energy.name 8) (tab : zw_tab Xc []) (fin : zw_fin Xc (Option.some Jvm.ClassFile.FieldType.double) (zq_D Q) X 0 0) (hRm : zw_rm Xc = rm_X2_energy) {kc ks : Nat} (hb : kc ≤ 0 ∧ ks ≤ 0) {l0 : Option Nat} {l1 : Int32} {k86 : UInt64 → zw_H → Prop} (hk86 : ∀ (l2 : UInt64) (h : zw_H), k86 l2 h → zw_G Xc kc ks 8 h 86 [(2, .double l2)] [])  : ∀ (n9 : Nat) (l2 : UInt64) (l4 : Int32) (h : zw_H), zl3 (f_X2_energy_B14 (zw_Zf Xc).2.2.2 Q X k86 l0 l1) n9 l2 l4 h → zw_G Xc kc ks 8 h 14 [(0, va_rf l0), (1, .int l1), (2, .double l2), (4, .int l4)] [] := by
  intro n9
  induction n9 with
  | zero => intro l2 l4 h hE; exact hE.elim
  | succ n9 ih => intro l2 l4 h hE; exact gt_f_X2_energy_B14 hl ok tab fin hRm hb ih hk86 hE
set_option maxHeartbeats 8000000 in
theorem mt_X2_energy {l : Launch} (hl : l.stackTraces = false) {Z : zw_Z} {a0 : Option Nat} {a1 : Int32} {h : zw_H} {Q : UInt64 → zw_H → Prop} {X : String → Nat → zw_H → Prop} (hE : f_X2_energy Z.2.2.2 a0 a1 h Q X) : zw_Met l Z yX2_energy (ws_ yX2_energy cX2_energy 8 (Option.some Jvm.ClassFile.FieldType.double)) rm_X2_energy [zA a0, zI a1] h (zq_D Q) X := by
  refine zg_start (own := "MultipoleLineModel") (by decide +kernel) rfl (Nat.le_of_ble_eq_true rfl) hl (fun Xc ok tab fin hRm hXl hXZ => ?_)
  subst hXl
  subst hXZ
  unfold f_X2_energy at hE
  refine zg_aload_n ok dX2_energy_0 rfl 0 rfl ?_
  refine zg_callV (vs := []) (rest := []) (rm := rm_X2_mayAsk) ok hRm lk_X2_229 dX2_energy_1 hE (fun hE => mt_X2_mayAsk hl hE) rfl (Nat.le_of_ble_eq_true rfl) ⟨⟨Nat.le_of_ble_eq_true rfl, Nat.le_of_ble_eq_true rfl⟩, Nat.le_of_ble_eq_true rfl, Nat.le_of_ble_eq_true rfl⟩ (zg_retI (fun v1 h1 hE => ?_)) (zg_xok ok tab fin ⟨Nat.le_of_ble_eq_true rfl, Nat.le_of_ble_eq_true rfl⟩)
  refine zg_cost (kc2 := 0) (ks2 := 0) ⟨rfl, rfl⟩ ?_
  refine zg_if_ne (tgt := 9) ok dX2_energy_4 (by decide) hE (fun hE => ?_) (fun hE => ?_)
  · refine zg_dconst0 ok dX2_energy_9 ?_
    refine zg_dstore_n (L' := [(2, .double FP.dconst0), (0, va_rf a0), (1, .int a1)]) ok dX2_energy_10 rfl (by decide) rfl ?_
    refine zg_iconst (v := 0) ok dX2_energy_11 (by decide) ?_
    refine zg_istore (L' := [(4, .int 0), (2, .double FP.dconst0), (0, va_rf a0), (1, .int a1)]) ok dX2_energy_12 (by decide) rfl ?_
    refine zg_sub (L' := [(0, va_rf a0), (1, .int a1), (2, .double FP.dconst0), (4, .int 0)]) [2, 3, 1, 0] rfl ?_
    refine gt_f_X2_energy_L14 hl ok tab fin hRm ⟨Nat.le_of_ble_eq_true rfl, Nat.le_of_ble_eq_true rfl⟩ ?_ _ _ _ _ hE
    · intro v13 h7 hE
      refine zg_dload_n ok dX2_energy_86 rfl 0 rfl ?_
      refine zg_ldc2d (v := (4611686018427387904 : UInt64)) ok q2840 dX2_energy_87 ?_
      refine zg_ddivE ok dX2_energy_90 hE (fun hE => ?_)
      refine zg_letD hE (fun v14 hE => ?_)
      exact zg_dret ok fin dX2_energy_91 ⟨Nat.le_of_ble_eq_true rfl, Nat.le_of_ble_eq_true rfl⟩ hE
  · refine zg_dconst0 ok dX2_energy_7 ?_
    exact zg_dret ok fin dX2_energy_8 ⟨Nat.le_of_ble_eq_true rfl, Nat.le_of_ble_eq_true rfl⟩ hE
set_option maxHeartbeats 8000000 in
theorem mt_X2_absolute {l : Launch} (hl : l.stackTraces = false) {Z : zw_Z} {a0 : UInt64} {h : zw_H} {Q : UInt64 → zw_H → Prop} {X : String → Nat → zw_H → Prop} (hE : f_X2_absolute Z.2.2.2 a0 h Q X) : zw_Met l Z yX2_absolute (ws_ yX2_absolute cX2_absolute 2 (Option.some Jvm.ClassFile.FieldType.double)) rm_X2_absolute [zD a0] h (zq_D Q) X := by
  refine zg_start (own := "MultipoleLineModel") (by decide +kernel) rfl (Nat.le_of_ble_eq_true rfl) hl (fun Xc ok tab fin hRm hXl hXZ => ?_)
  subst hXl
  subst hXZ
  unfold f_X2_absolute at hE
  refine zg_dload_n ok dX2_absolute_0 rfl 0 rfl ?_
  refine zg_dconst0 ok dX2_absolute_1 ?_
  refine zg_dcmp ok dX2_absolute_2 ?_
  refine zg_if_ge (tgt := 12) ok dX2_absolute_3 (by decide) hE (fun hE => ?_) (fun hE => ?_)
  · refine zg_dload_n ok dX2_absolute_12 rfl 0 rfl ?_
    exact zg_dret ok fin dX2_absolute_13 ⟨Nat.le_of_ble_eq_true rfl, Nat.le_of_ble_eq_true rfl⟩ hE
  · refine zg_dconst0 ok dX2_absolute_6 ?_
    refine zg_dload_n ok dX2_absolute_7 rfl 0 rfl ?_
    refine zg_dsubE ok dX2_absolute_8 hE (fun hE => ?_)
    refine zg_letD hE (fun v1 hE => ?_)
    refine zg_goto (tgt := 13) ok dX2_absolute_9 (by decide) ?_
    exact zg_dret ok fin dX2_absolute_13 ⟨Nat.le_of_ble_eq_true rfl, Nat.le_of_ble_eq_true rfl⟩ hE
set_option maxHeartbeats 8000000 in
theorem mt_X2_gapOf {l : Launch} (hl : l.stackTraces = false) {Z : zw_Z} {a0 : Option Nat} {a1 : Int32} {h : zw_H} {Q : UInt64 → zw_H → Prop} {X : String → Nat → zw_H → Prop} (hE : f_X2_gapOf Z.2.2.2 a0 a1 h Q X) : zw_Met l Z yX2_gapOf (ws_ yX2_gapOf cX2_gapOf 2 (Option.some Jvm.ClassFile.FieldType.double)) rm_X2_gapOf [zA a0, zI a1] h (zq_D Q) X := by
  refine zg_start (own := "MultipoleLineModel") (by decide +kernel) rfl (Nat.le_of_ble_eq_true rfl) hl (fun Xc ok tab fin hRm hXl hXZ => ?_)
  subst hXl
  subst hXZ
  unfold f_X2_gapOf at hE
  refine zg_aload_n ok dX2_gapOf_0 rfl 0 rfl ?_
  refine zg_iload_n ok dX2_gapOf_1 rfl 1 rfl ?_
  refine zg_iconst (v := 1) ok dX2_gapOf_2 (by decide) ?_
  refine zg_iconst (v := (-1)) ok dX2_gapOf_3 (by decide) ?_
  refine zg_callV (vs := [zI a1, zI 1, zI (-1)]) (rest := []) (rm := rm_X2_sumOf) ok hRm lk_X2_285 dX2_gapOf_4 hE (fun hE => mt_X2_sumOf hl hE) rfl (Nat.le_of_ble_eq_true rfl) ⟨⟨Nat.le_of_ble_eq_true rfl, Nat.le_of_ble_eq_true rfl⟩, Nat.le_of_ble_eq_true rfl, Nat.le_of_ble_eq_true rfl⟩ (zg_retD (fun v1 h1 hE => ?_)) (zg_xok ok tab fin ⟨Nat.le_of_ble_eq_true rfl, Nat.le_of_ble_eq_true rfl⟩)
  refine zg_cost (kc2 := 0) (ks2 := 0) ⟨rfl, rfl⟩ ?_
  refine zg_aload_n ok dX2_gapOf_7 rfl 0 rfl ?_
  refine zg_iload_n ok dX2_gapOf_8 rfl 1 rfl ?_
  refine zg_iconst (v := 0) ok dX2_gapOf_9 (by decide) ?_
  refine zg_iconst (v := (-1)) ok dX2_gapOf_10 (by decide) ?_
  refine zg_callV (vs := [zI a1, zI 0, zI (-1)]) (rest := [.double v1]) (rm := rm_X2_sumOf) ok hRm lk_X2_285 dX2_gapOf_11 hE (fun hE => mt_X2_sumOf hl hE) rfl (Nat.le_of_ble_eq_true rfl) ⟨⟨Nat.le_of_ble_eq_true rfl, Nat.le_of_ble_eq_true rfl⟩, Nat.le_of_ble_eq_true rfl, Nat.le_of_ble_eq_true rfl⟩ (zg_retD (fun v2 h2 hE => ?_)) (zg_xok ok tab fin ⟨Nat.le_of_ble_eq_true rfl, Nat.le_of_ble_eq_true rfl⟩)
  refine zg_cost (kc2 := 0) (ks2 := 0) ⟨rfl, rfl⟩ ?_
  refine zg_aload_n ok dX2_gapOf_14 rfl 0 rfl ?_
  refine zg_iload_n ok dX2_gapOf_15 rfl 1 rfl ?_
  refine zg_callV (vs := [zI a1]) (rest := [.double v2, .double v1]) (rm := rm_X2_farOf) ok hRm lk_X2_293 dX2_gapOf_16 hE (fun hE => mt_X2_farOf hl hE) rfl (Nat.le_of_ble_eq_true rfl) ⟨⟨Nat.le_of_ble_eq_true rfl, Nat.le_of_ble_eq_true rfl⟩, Nat.le_of_ble_eq_true rfl, Nat.le_of_ble_eq_true rfl⟩ (zg_retD (fun v3 h3 hE => ?_)) (zg_xok ok tab fin ⟨Nat.le_of_ble_eq_true rfl, Nat.le_of_ble_eq_true rfl⟩)
  refine zg_cost (kc2 := 0) (ks2 := 0) ⟨rfl, rfl⟩ ?_
  refine zg_daddE ok dX2_gapOf_19 hE (fun hE => ?_)
  refine zg_letD hE (fun v4 hE => ?_)
  refine zg_dsubE ok dX2_gapOf_20 hE (fun hE => ?_)
  refine zg_letD hE (fun v5 hE => ?_)
  refine zg_callS (vs := [zD v5]) (rest := []) (rm := rm_X2_absolute) ok hRm lk_X2_307 dX2_gapOf_21 hE (fun hE => mt_X2_absolute hl hE) rfl (Nat.le_of_ble_eq_true rfl) ⟨⟨Nat.le_of_ble_eq_true rfl, Nat.le_of_ble_eq_true rfl⟩, Nat.le_of_ble_eq_true rfl, Nat.le_of_ble_eq_true rfl⟩ (zg_retD (fun v6 h4 hE => ?_)) (zg_xok ok tab fin ⟨Nat.le_of_ble_eq_true rfl, Nat.le_of_ble_eq_true rfl⟩)
  refine zg_cost (kc2 := 0) (ks2 := 0) ⟨rfl, rfl⟩ ?_
  exact zg_dret ok fin dX2_gapOf_24 ⟨Nat.le_of_ble_eq_true rfl, Nat.le_of_ble_eq_true rfl⟩ hE
set_option maxHeartbeats 8000000 in
theorem mt_X2_gapAt {l : Launch} (hl : l.stackTraces = false) {Z : zw_Z} {a0 : Option Nat} {a1 : Int32} {h : zw_H} {Q : UInt64 → zw_H → Prop} {X : String → Nat → zw_H → Prop} (hE : f_X2_gapAt Z.2.2.2 a0 a1 h Q X) : zw_Met l Z yX2_gapAt (ws_ yX2_gapAt cX2_gapAt 2 (Option.some Jvm.ClassFile.FieldType.double)) rm_X2_gapAt [zA a0, zI a1] h (zq_D Q) X := by
  refine zg_start (own := "MultipoleLineModel") (by decide +kernel) rfl (Nat.le_of_ble_eq_true rfl) hl (fun Xc ok tab fin hRm hXl hXZ => ?_)
  subst hXl
  subst hXZ
  unfold f_X2_gapAt at hE
  refine zg_aload_n ok dX2_gapAt_0 rfl 0 rfl ?_
  refine zg_iload_n ok dX2_gapAt_1 rfl 1 rfl ?_
  refine zg_callV (vs := [zI a1]) (rest := []) (rm := rm_X2_mayPoint) ok hRm lk_X2_216 dX2_gapAt_2 hE (fun hE => mt_X2_mayPoint hl hE) rfl (Nat.le_of_ble_eq_true rfl) ⟨⟨Nat.le_of_ble_eq_true rfl, Nat.le_of_ble_eq_true rfl⟩, Nat.le_of_ble_eq_true rfl, Nat.le_of_ble_eq_true rfl⟩ (zg_retI (fun v1 h1 hE => ?_)) (zg_xok ok tab fin ⟨Nat.le_of_ble_eq_true rfl, Nat.le_of_ble_eq_true rfl⟩)
  refine zg_cost (kc2 := 0) (ks2 := 0) ⟨rfl, rfl⟩ ?_
  refine zg_if_eq (tgt := 16) ok dX2_gapAt_5 (by decide) hE (fun hE => ?_) (fun hE => ?_)
  · refine zg_dconst0 ok dX2_gapAt_16 ?_
    exact zg_dret ok fin dX2_gapAt_17 ⟨Nat.le_of_ble_eq_true rfl, Nat.le_of_ble_eq_true rfl⟩ hE
  · refine zg_aload_n ok dX2_gapAt_8 rfl 0 rfl ?_
    refine zg_iload_n ok dX2_gapAt_9 rfl 1 rfl ?_
    refine zg_callV (vs := [zI a1]) (rest := []) (rm := rm_X2_gapOf) ok hRm lk_X2_313 dX2_gapAt_10 hE (fun hE => mt_X2_gapOf hl hE) rfl (Nat.le_of_ble_eq_true rfl) ⟨⟨Nat.le_of_ble_eq_true rfl, Nat.le_of_ble_eq_true rfl⟩, Nat.le_of_ble_eq_true rfl, Nat.le_of_ble_eq_true rfl⟩ (zg_retD (fun v2 h2 hE => ?_)) (zg_xok ok tab fin ⟨Nat.le_of_ble_eq_true rfl, Nat.le_of_ble_eq_true rfl⟩)
    refine zg_cost (kc2 := 0) (ks2 := 0) ⟨rfl, rfl⟩ ?_
    refine zg_goto (tgt := 17) ok dX2_gapAt_13 (by decide) ?_
    exact zg_dret ok fin dX2_gapAt_17 ⟨Nat.le_of_ble_eq_true rfl, Nat.le_of_ble_eq_true rfl⟩ hE
set_option maxHeartbeats 8000000 in
theorem mt_X2_isWithin {l : Launch} (hl : l.stackTraces = false) {Z : zw_Z} {a0 : Option Nat} {a1 : Int32} {h : zw_H} {Q : Int32 → zw_H → Prop} {X : String → Nat → zw_H → Prop} (hE : f_X2_isWithin Z.2.2.2 a0 a1 h Q X) : zw_Met l Z yX2_isWithin (ws_ yX2_isWithin cX2_isWithin 2 (Option.some Jvm.ClassFile.FieldType.boolean)) rm_X2_isWithin [zA a0, zI a1] h (zq_I Q) X := by
  refine zg_start (own := "MultipoleLineModel") (by decide +kernel) rfl (Nat.le_of_ble_eq_true rfl) hl (fun Xc ok tab fin hRm hXl hXZ => ?_)
  subst hXl
  subst hXZ
  unfold f_X2_isWithin at hE
  refine zg_aload_n ok dX2_isWithin_0 rfl 0 rfl ?_
  refine zg_iload_n ok dX2_isWithin_1 rfl 1 rfl ?_
  refine zg_callV (vs := [zI a1]) (rest := []) (rm := rm_X2_mayPoint) ok hRm lk_X2_216 dX2_isWithin_2 hE (fun hE => mt_X2_mayPoint hl hE) rfl (Nat.le_of_ble_eq_true rfl) ⟨⟨Nat.le_of_ble_eq_true rfl, Nat.le_of_ble_eq_true rfl⟩, Nat.le_of_ble_eq_true rfl, Nat.le_of_ble_eq_true rfl⟩ (zg_retI (fun v1 h1 hE => ?_)) (zg_xok ok tab fin ⟨Nat.le_of_ble_eq_true rfl, Nat.le_of_ble_eq_true rfl⟩)
  refine zg_cost (kc2 := 0) (ks2 := 0) ⟨rfl, rfl⟩ ?_
  refine zg_if_eq (tgt := 36) ok dX2_isWithin_5 (by decide) hE (fun hE => ?_) (fun hE => ?_)
  · refine zg_iconst (v := 0) ok dX2_isWithin_36 (by decide) ?_
    exact zg_zret ok fin dX2_isWithin_37 ⟨Nat.le_of_ble_eq_true rfl, Nat.le_of_ble_eq_true rfl⟩ rfl hE
  · refine zg_aload_n ok dX2_isWithin_8 rfl 0 rfl ?_
    refine zg_iload_n ok dX2_isWithin_9 rfl 1 rfl ?_
    refine zg_callV (vs := [zI a1]) (rest := []) (rm := rm_X2_gapOf) ok hRm lk_X2_313 dX2_isWithin_10 hE (fun hE => mt_X2_gapOf hl hE) rfl (Nat.le_of_ble_eq_true rfl) ⟨⟨Nat.le_of_ble_eq_true rfl, Nat.le_of_ble_eq_true rfl⟩, Nat.le_of_ble_eq_true rfl, Nat.le_of_ble_eq_true rfl⟩ (zg_retD (fun v2 h2 hE => ?_)) (zg_xok ok tab fin ⟨Nat.le_of_ble_eq_true rfl, Nat.le_of_ble_eq_true rfl⟩)
    refine zg_cost (kc2 := 0) (ks2 := 0) ⟨rfl, rfl⟩ ?_
    refine zg_aload_n ok dX2_isWithin_13 rfl 0 rfl ?_
    refine zg_iload_n ok dX2_isWithin_14 rfl 1 rfl ?_
    refine zg_aload_n ok dX2_isWithin_15 rfl 0 rfl ?_
    refine zg_getA ok lf_X2_9 dX2_isWithin_16 hE (fun v3 hE => ?_)
    refine zg_iconst (v := 4) ok dX2_isWithin_19 (by decide) ?_
    refine zg_iald ok dX2_isWithin_20 hE (fun v4 hE => ?_)
    refine zg_callV (vs := [zI a1, zI v4]) (rest := [.double v2]) (rm := rm_X2_boundOf) ok hRm lk_X2_303 dX2_isWithin_21 hE (fun hE => mt_X2_boundOf hl hE) rfl (Nat.le_of_ble_eq_true rfl) ⟨⟨Nat.le_of_ble_eq_true rfl, Nat.le_of_ble_eq_true rfl⟩, Nat.le_of_ble_eq_true rfl, Nat.le_of_ble_eq_true rfl⟩ (zg_retD (fun v5 h3 hE => ?_)) (zg_xok ok tab fin ⟨Nat.le_of_ble_eq_true rfl, Nat.le_of_ble_eq_true rfl⟩)
    refine zg_cost (kc2 := 0) (ks2 := 0) ⟨rfl, rfl⟩ ?_
    refine zg_ldc2d (v := (4517329193108106637 : UInt64)) ok q2856 dX2_isWithin_24 ?_
    refine zg_daddE ok dX2_isWithin_27 hE (fun hE => ?_)
    refine zg_letD hE (fun v6 hE => ?_)
    refine zg_dcmp ok dX2_isWithin_28 ?_
    refine zg_if_gt (tgt := 36) ok dX2_isWithin_29 (by decide) hE (fun hE => ?_) (fun hE => ?_)
    · refine zg_iconst (v := 0) ok dX2_isWithin_36 (by decide) ?_
      exact zg_zret ok fin dX2_isWithin_37 ⟨Nat.le_of_ble_eq_true rfl, Nat.le_of_ble_eq_true rfl⟩ rfl hE
    · refine zg_iconst (v := 1) ok dX2_isWithin_32 (by decide) ?_
      refine zg_goto (tgt := 37) ok dX2_isWithin_33 (by decide) ?_
      exact zg_zret ok fin dX2_isWithin_37 ⟨Nat.le_of_ble_eq_true rfl, Nat.le_of_ble_eq_true rfl⟩ rfl hE
set_option maxHeartbeats 8000000 in
theorem gt_f_X2_worst_J52 {Xc : zw_X} {Q : Int32 → zw_H → Prop} {X : String → Nat → zw_H → Prop} (hl : (zw_l Xc).stackTraces = false) (ok : zw_ok Xc cX2_worst "MultipoleLineModel" yX2_worst.name 7) (tab : zw_tab Xc []) (fin : zw_fin Xc (Option.some Jvm.ClassFile.FieldType.int) (zq_I Q) X 0 0) (hRm : zw_rm Xc = rm_X2_worst) {kc ks : Nat} (hb : kc ≤ 0 ∧ ks ≤ 0) {R : Int32 → UInt64 → Int32 → zw_H → Prop} {l0 : Option Nat} (hR : ∀ (l1 : Int32) (l2 : UInt64) (l4 : Int32) (h : zw_H), R l1 l2 l4 h → zw_G Xc kc ks 7 h 20 [(0, va_rf l0), (1, .int l1), (2, .double l2), (4, .int l4)] []) {k58 : Int32 → zw_H → Prop} (hk58 : ∀ (l1 : Int32) (h : zw_H), k58 l1 h → zw_G Xc kc ks 7 h 58 [(1, .int l1)] [])  {l1 : Int32} {l2 : UInt64} {l4 : Int32}  {h : zw_H} (hE : f_X2_worst_J52 (zw_Zf Xc).2.2.2 Q X R k58 l0 l1 l2 l4 h) : zw_G Xc kc ks 7 h 52 [(0, va_rf l0), (1, .int l1), (2, .double l2), (4, .int l4)] [] := by
  unfold f_X2_worst_J52 at hE
  refine zg_iincL (k := 3) (L' := fun v4 => [(4, .int v4), (0, va_rf l0), (1, .int l1), (2, .double l2)]) ok dX2_worst_52 (by decide +kernel) hE rfl (by decide) (fun _ => rfl) (fun v4 hE => ?_)
  refine zg_goto (tgt := 20) ok dX2_worst_55 (by decide) ?_
  refine zg_sub (L' := [(0, va_rf l0), (1, .int l1), (2, .double l2), (4, .int v4)]) [1, 2, 3, 0] rfl ?_
  exact hR _ _ _ _ hE
set_option maxHeartbeats 8000000 in
theorem gt_f_X2_worst_B20 {Xc : zw_X} {Q : Int32 → zw_H → Prop} {X : String → Nat → zw_H → Prop} (hl : (zw_l Xc).stackTraces = false) (ok : zw_ok Xc cX2_worst "MultipoleLineModel" yX2_worst.name 7) (tab : zw_tab Xc []) (fin : zw_fin Xc (Option.some Jvm.ClassFile.FieldType.int) (zq_I Q) X 0 0) (hRm : zw_rm Xc = rm_X2_worst) {kc ks : Nat} (hb : kc ≤ 0 ∧ ks ≤ 0) {R : Int32 → UInt64 → Int32 → zw_H → Prop} {l0 : Option Nat} (hR : ∀ (l1 : Int32) (l2 : UInt64) (l4 : Int32) (h : zw_H), R l1 l2 l4 h → zw_G Xc kc ks 7 h 20 [(0, va_rf l0), (1, .int l1), (2, .double l2), (4, .int l4)] []) {k58 : Int32 → zw_H → Prop} (hk58 : ∀ (l1 : Int32) (h : zw_H), k58 l1 h → zw_G Xc kc ks 7 h 58 [(1, .int l1)] [])  {l1 : Int32} {l2 : UInt64} {l4 : Int32} {h : zw_H} (hE : f_X2_worst_B20 (zw_Zf Xc).2.2.2 Q X k58 l0 R l1 l2 l4 h) : zw_G Xc kc ks 7 h 20 [(0, va_rf l0), (1, .int l1), (2, .double l2), (4, .int l4)] [] := by
  unfold f_X2_worst_B20 at hE
  refine zg_iload ok dX2_worst_20 3 rfl ?_
  refine zg_sipush (v := 256) ok dX2_worst_22 (by decide) ?_
  refine zg_icmp_ge (tgt := 58) ok dX2_worst_25 (by decide) hE (fun hE => ?_) (fun hE => ?_)
  · refine zg_sub (L' := [(1, .int l1)]) [1] rfl ?_
    exact hk58 _ _ hE
  · refine zg_aload_n ok dX2_worst_28 rfl 0 rfl ?_
    refine zg_iload ok dX2_worst_29 3 rfl ?_
    refine zg_callV (vs := [zI l4]) (rest := []) (rm := rm_X2_gapOf) ok hRm lk_X2_313 dX2_worst_31 hE (fun hE => mt_X2_gapOf hl hE) rfl (Nat.le_of_ble_eq_true rfl) ⟨⟨Nat.le_of_ble_eq_true rfl, Nat.le_of_ble_eq_true rfl⟩, (by show kc + 0 ≤ 0; omega), (by show ks + 0 ≤ 0; omega)⟩ (zg_retD (fun v3 h3 hE => ?_)) (zg_xok ok tab fin ⟨(by show kc + 0 ≤ 0; omega), (by show ks + 0 ≤ 0; omega)⟩)
    refine zg_cost (kc2 := kc) (ks2 := ks) ⟨(by show kc + 0 = kc; omega), (by show ks + 0 = ks; omega)⟩ ?_
    refine zg_dstore (L' := [(5, .double v3), (0, va_rf l0), (1, .int l1), (2, .double l2), (4, .int l4)]) ok dX2_worst_34 (by decide) rfl ?_
    refine zg_dload ok dX2_worst_36 0 rfl ?_
    refine zg_dload_n ok dX2_worst_38 rfl 3 rfl ?_
    refine zg_dcmp ok dX2_worst_39 ?_
    refine zg_if_gt (tgt := 46) ok dX2_worst_40 (by decide) hE (fun hE => ?_) (fun hE => ?_)
    · refine zg_iload ok dX2_worst_46 4 rfl ?_
      refine zg_istore_nR (L' := [(1, .int l4), (5, .double v3), (0, va_rf l0), (2, .double l2), (4, .int l4)]) ok dX2_worst_48 rfl (by decide) 1 rfl rfl rfl ?_
      refine zg_dload ok dX2_worst_49 1 rfl ?_
      refine zg_dstore_n (L' := [(2, .double v3), (1, .int l4), (5, .double v3), (0, va_rf l0), (4, .int l4)]) ok dX2_worst_51 rfl (by decide) rfl ?_
      refine zg_sub (L' := [(0, va_rf l0), (1, .int l4), (2, .double v3), (4, .int l4)]) [3, 1, 0, 4] rfl ?_
      exact gt_f_X2_worst_J52 hl ok tab fin hRm hb hR hk58 hE
    · refine zg_goto (tgt := 52) ok dX2_worst_43 (by decide) ?_
      refine zg_sub (L' := [(0, va_rf l0), (1, .int l1), (2, .double l2), (4, .int l4)]) [1, 2, 3, 4] rfl ?_
      exact gt_f_X2_worst_J52 hl ok tab fin hRm hb hR hk58 hE
theorem gt_f_X2_worst_L20 {Xc : zw_X} {Q : Int32 → zw_H → Prop} {X : String → Nat → zw_H → Prop} (hl : (zw_l Xc).stackTraces = false) (ok : zw_ok Xc cX2_worst "MultipoleLineModel" yX2_worst.name 7) (tab : zw_tab Xc []) (fin : zw_fin Xc (Option.some Jvm.ClassFile.FieldType.int) (zq_I Q) X 0 0) (hRm : zw_rm Xc = rm_X2_worst) {kc ks : Nat} (hb : kc ≤ 0 ∧ ks ≤ 0) {l0 : Option Nat} {k58 : Int32 → zw_H → Prop} (hk58 : ∀ (l1 : Int32) (h : zw_H), k58 l1 h → zw_G Xc kc ks 7 h 58 [(1, .int l1)] [])  : ∀ (n9 : Nat) (l1 : Int32) (l2 : UInt64) (l4 : Int32) (h : zw_H), zl4 (f_X2_worst_B20 (zw_Zf Xc).2.2.2 Q X k58 l0) n9 l1 l2 l4 h → zw_G Xc kc ks 7 h 20 [(0, va_rf l0), (1, .int l1), (2, .double l2), (4, .int l4)] [] := by
  intro n9
  induction n9 with
  | zero => intro l1 l2 l4 h hE; exact hE.elim
  | succ n9 ih => intro l1 l2 l4 h hE; exact gt_f_X2_worst_B20 hl ok tab fin hRm hb ih hk58 hE
set_option maxHeartbeats 8000000 in
theorem mt_X2_worst {l : Launch} (hl : l.stackTraces = false) {Z : zw_Z} {a0 : Option Nat} {h : zw_H} {Q : Int32 → zw_H → Prop} {X : String → Nat → zw_H → Prop} (hE : f_X2_worst Z.2.2.2 a0 h Q X) : zw_Met l Z yX2_worst (ws_ yX2_worst cX2_worst 7 (Option.some Jvm.ClassFile.FieldType.int)) rm_X2_worst [zA a0] h (zq_I Q) X := by
  refine zg_start (own := "MultipoleLineModel") (by decide +kernel) rfl (Nat.le_of_ble_eq_true rfl) hl (fun Xc ok tab fin hRm hXl hXZ => ?_)
  subst hXl
  subst hXZ
  unfold f_X2_worst at hE
  refine zg_aload_n ok dX2_worst_0 rfl 0 rfl ?_
  refine zg_callV (vs := []) (rest := []) (rm := rm_X2_mayAsk) ok hRm lk_X2_229 dX2_worst_1 hE (fun hE => mt_X2_mayAsk hl hE) rfl (Nat.le_of_ble_eq_true rfl) ⟨⟨Nat.le_of_ble_eq_true rfl, Nat.le_of_ble_eq_true rfl⟩, Nat.le_of_ble_eq_true rfl, Nat.le_of_ble_eq_true rfl⟩ (zg_retI (fun v1 h1 hE => ?_)) (zg_xok ok tab fin ⟨Nat.le_of_ble_eq_true rfl, Nat.le_of_ble_eq_true rfl⟩)
  refine zg_cost (kc2 := 0) (ks2 := 0) ⟨rfl, rfl⟩ ?_
  refine zg_if_ne (tgt := 9) ok dX2_worst_4 (by decide) hE (fun hE => ?_) (fun hE => ?_)
  · refine zg_iconst (v := 0) ok dX2_worst_9 (by decide) ?_
    refine zg_istore_nR (L' := [(1, .int 0), (0, va_rf a0)]) ok dX2_worst_10 rfl (by decide) 0 rfl rfl rfl ?_
    refine zg_aload_n ok dX2_worst_11 rfl 1 rfl ?_
    refine zg_iconst (v := 0) ok dX2_worst_12 (by decide) ?_
    refine zg_callV (vs := [zI 0]) (rest := []) (rm := rm_X2_gapOf) ok hRm lk_X2_313 dX2_worst_13 hE (fun hE => mt_X2_gapOf hl hE) rfl (Nat.le_of_ble_eq_true rfl) ⟨⟨Nat.le_of_ble_eq_true rfl, Nat.le_of_ble_eq_true rfl⟩, Nat.le_of_ble_eq_true rfl, Nat.le_of_ble_eq_true rfl⟩ (zg_retD (fun v2 h2 hE => ?_)) (zg_xok ok tab fin ⟨Nat.le_of_ble_eq_true rfl, Nat.le_of_ble_eq_true rfl⟩)
    refine zg_cost (kc2 := 0) (ks2 := 0) ⟨rfl, rfl⟩ ?_
    refine zg_dstore_n (L' := [(2, .double v2), (1, .int 0), (0, va_rf a0)]) ok dX2_worst_16 rfl (by decide) rfl ?_
    refine zg_iconst (v := 1) ok dX2_worst_17 (by decide) ?_
    refine zg_istore (L' := [(4, .int 1), (2, .double v2), (1, .int 0), (0, va_rf a0)]) ok dX2_worst_18 (by decide) rfl ?_
    refine zg_sub (L' := [(0, va_rf a0), (1, .int 0), (2, .double v2), (4, .int 1)]) [3, 2, 1, 0] rfl ?_
    refine gt_f_X2_worst_L20 hl ok tab fin hRm ⟨Nat.le_of_ble_eq_true rfl, Nat.le_of_ble_eq_true rfl⟩ ?_ _ _ _ _ _ hE
    · intro v5 h4 hE
      refine zg_iload_n ok dX2_worst_58 rfl 0 rfl ?_
      exact zg_iret ok fin dX2_worst_59 ⟨Nat.le_of_ble_eq_true rfl, Nat.le_of_ble_eq_true rfl⟩ hE
  · refine zg_iconst (v := 0) ok dX2_worst_7 (by decide) ?_
    exact zg_iret ok fin dX2_worst_8 ⟨Nat.le_of_ble_eq_true rfl, Nat.le_of_ble_eq_true rfl⟩ hE
set_option maxHeartbeats 8000000 in
theorem gt_f_X2_times_B6 {Xc : zw_X} {Q : UInt64 → zw_H → Prop} {X : String → Nat → zw_H → Prop} (hl : (zw_l Xc).stackTraces = false) (ok : zw_ok Xc cX2_times "MultipoleLineModel" yX2_times.name 8) (tab : zw_tab Xc []) (fin : zw_fin Xc (Option.some Jvm.ClassFile.FieldType.double) (zq_D Q) X 0 0) (hRm : zw_rm Xc = rm_X2_times) {kc ks : Nat} (hb : kc ≤ 0 ∧ ks ≤ 0) {R : UInt64 → Int32 → zw_H → Prop} {l2 : UInt64} {l4 : Int32} (hR : ∀ (l5 : UInt64) (l7 : Int32) (h : zw_H), R l5 l7 h → zw_G Xc kc ks 8 h 6 [(2, .double l2), (4, .int l4), (5, .double l5), (7, .int l7)] []) {k25 : UInt64 → zw_H → Prop} (hk25 : ∀ (l5 : UInt64) (h : zw_H), k25 l5 h → zw_G Xc kc ks 8 h 25 [(5, .double l5)] [])  {l5 : UInt64} {l7 : Int32} {h : zw_H} (hE : f_X2_times_B6 (zw_Zf Xc).2.2.2 Q X k25 l2 l4 R l5 l7 h) : zw_G Xc kc ks 8 h 6 [(2, .double l2), (4, .int l4), (5, .double l5), (7, .int l7)] [] := by
  unfold f_X2_times_B6 at hE
  refine zg_iload ok dX2_times_6 3 rfl ?_
  refine zg_iload ok dX2_times_8 1 rfl ?_
  refine zg_icmp_ge (tgt := 25) ok dX2_times_10 (by decide) hE (fun hE => ?_) (fun hE => ?_)
  · refine zg_sub (L' := [(5, .double l5)]) [2] rfl ?_
    exact hk25 _ _ hE
  · refine zg_dload ok dX2_times_13 2 rfl ?_
    refine zg_dload_n ok dX2_times_15 rfl 0 rfl ?_
    refine zg_dmulE ok dX2_times_16 hE (fun hE => ?_)
    refine zg_letD hE (fun v1 hE => ?_)
    refine zg_dstore (L' := [(5, .double v1), (2, .double l2), (4, .int l4), (7, .int l7)]) ok dX2_times_17 (by decide) rfl ?_
    refine zg_iincL (k := 3) (L' := fun v2 => [(7, .int v2), (5, .double v1), (2, .double l2), (4, .int l4)]) ok dX2_times_19 (by decide +kernel) hE rfl (by decide) (fun _ => rfl) (fun v2 hE => ?_)
    refine zg_goto (tgt := 6) ok dX2_times_22 (by decide) ?_
    refine zg_sub (L' := [(2, .double l2), (4, .int l4), (5, .double v1), (7, .int v2)]) [2, 3, 1, 0] rfl ?_
    exact hR _ _ _ hE
theorem gt_f_X2_times_L6 {Xc : zw_X} {Q : UInt64 → zw_H → Prop} {X : String → Nat → zw_H → Prop} (hl : (zw_l Xc).stackTraces = false) (ok : zw_ok Xc cX2_times "MultipoleLineModel" yX2_times.name 8) (tab : zw_tab Xc []) (fin : zw_fin Xc (Option.some Jvm.ClassFile.FieldType.double) (zq_D Q) X 0 0) (hRm : zw_rm Xc = rm_X2_times) {kc ks : Nat} (hb : kc ≤ 0 ∧ ks ≤ 0) {l2 : UInt64} {l4 : Int32} {k25 : UInt64 → zw_H → Prop} (hk25 : ∀ (l5 : UInt64) (h : zw_H), k25 l5 h → zw_G Xc kc ks 8 h 25 [(5, .double l5)] [])  : ∀ (n9 : Nat) (l5 : UInt64) (l7 : Int32) (h : zw_H), zl3 (f_X2_times_B6 (zw_Zf Xc).2.2.2 Q X k25 l2 l4) n9 l5 l7 h → zw_G Xc kc ks 8 h 6 [(2, .double l2), (4, .int l4), (5, .double l5), (7, .int l7)] [] := by
  intro n9
  induction n9 with
  | zero => intro l5 l7 h hE; exact hE.elim
  | succ n9 ih => intro l5 l7 h hE; exact gt_f_X2_times_B6 hl ok tab fin hRm hb ih hk25 hE
set_option maxHeartbeats 8000000 in
theorem mt_X2_times {l : Launch} (hl : l.stackTraces = false) {Z : zw_Z} {a0 : UInt64} {a1 : UInt64} {a2 : Int32} {h : zw_H} {Q : UInt64 → zw_H → Prop} {X : String → Nat → zw_H → Prop} (hE : f_X2_times Z.2.2.2 a0 a1 a2 h Q X) : zw_Met l Z yX2_times (ws_ yX2_times cX2_times 8 (Option.some Jvm.ClassFile.FieldType.double)) rm_X2_times [zD a0, zD a1, zI a2] h (zq_D Q) X := by
  refine zg_start (own := "MultipoleLineModel") (by decide +kernel) rfl (Nat.le_of_ble_eq_true rfl) hl (fun Xc ok tab fin hRm hXl hXZ => ?_)
  subst hXl
  subst hXZ
  unfold f_X2_times at hE
  refine zg_dload_n ok dX2_times_0 rfl 0 rfl ?_
  refine zg_dstore (L' := [(5, .double a0), (0, .double a0), (2, .double a1), (4, .int a2)]) ok dX2_times_1 (by decide) rfl ?_
  refine zg_iconst (v := 0) ok dX2_times_3 (by decide) ?_
  refine zg_istore (L' := [(7, .int 0), (5, .double a0), (0, .double a0), (2, .double a1), (4, .int a2)]) ok dX2_times_4 (by decide) rfl ?_
  refine zg_sub (L' := [(2, .double a1), (4, .int a2), (5, .double a0), (7, .int 0)]) [3, 4, 1, 0] rfl ?_
  refine gt_f_X2_times_L6 hl ok tab fin hRm ⟨Nat.le_of_ble_eq_true rfl, Nat.le_of_ble_eq_true rfl⟩ ?_ _ _ _ _ hE
  · intro v3 h1 hE
    refine zg_dload ok dX2_times_25 0 rfl ?_
    exact zg_dret ok fin dX2_times_27 ⟨Nat.le_of_ble_eq_true rfl, Nat.le_of_ble_eq_true rfl⟩ hE
set_option maxHeartbeats 8000000 in
theorem gt_f_X2_takesAbove_B35 {Xc : zw_X} {Q : zw_H → Prop} {X : String → Nat → zw_H → Prop} (hl : (zw_l Xc).stackTraces = false) (ok : zw_ok Xc cX2_takesAbove "MultipoleLineModel" yX2_takesAbove.name 7) (tab : zw_tab Xc []) (fin : zw_fin Xc (Option.none : Option Jvm.ClassFile.FieldType) (zq_V Q) X 0 0) (hRm : zw_rm Xc = rm_X2_takesAbove) {kc ks : Nat} (hb : kc ≤ 0 ∧ ks ≤ 0) {R : Int32 → zw_H → Prop} {l0 : Option Nat} {l3 : UInt64} {l5 : Int32} (hR : ∀ (l6 : Int32) (h : zw_H), R l6 h → zw_G Xc kc ks 7 h 35 [(0, va_rf l0), (3, .double l3), (5, .int l5), (6, .int l6)] []) {k89 : zw_H → Prop} (hk89 : ∀  (h : zw_H), k89  h → zw_G Xc kc ks 7 h 89 [(0, va_rf l0), (3, .double l3), (5, .int l5)] [])  {l6 : Int32} {h : zw_H} (hE : f_X2_takesAbove_B35 (zw_Zf Xc).2.2.2 Q X k89 l0 l3 l5 R l6 h) : zw_G Xc kc ks 7 h 35 [(0, va_rf l0), (3, .double l3), (5, .int l5), (6, .int l6)] [] := by
  unfold f_X2_takesAbove_B35 at hE
  refine zg_iload ok dX2_takesAbove_35 3 rfl ?_
  refine zg_aload_n ok dX2_takesAbove_37 rfl 0 rfl ?_
  refine zg_getA ok lf_X2_9 dX2_takesAbove_38 hE (fun v6 hE => ?_)
  refine zg_iconst (v := 4) ok dX2_takesAbove_41 (by decide) ?_
  refine zg_iald ok dX2_takesAbove_42 hE (fun v7 hE => ?_)
  refine zg_icmp_gt (tgt := 89) ok dX2_takesAbove_43 (by decide) hE (fun hE => ?_) (fun hE => ?_)
  · refine zg_sub (L' := [(0, va_rf l0), (3, .double l3), (5, .int l5)]) [0, 1, 2] rfl ?_
    exact hk89 _ hE
  · refine zg_aload_n ok dX2_takesAbove_46 rfl 0 rfl ?_
    refine zg_getA ok lf_X2_44 dX2_takesAbove_47 hE (fun v8 hE => ?_)
    refine zg_iload ok dX2_takesAbove_50 2 rfl ?_
    refine zg_dup2_11 ok dX2_takesAbove_52 rfl (zw_rfc _) ?_
    refine zg_dald ok dX2_takesAbove_53 hE (fun v9 hE => ?_)
    refine zg_iload ok dX2_takesAbove_54 3 rfl ?_
    refine zg_iload ok dX2_takesAbove_56 2 rfl ?_
    refine zg_callS (vs := [zI l6, zI l5]) (rest := [.double v9, .int l5, va_rf v8]) (rm := rm_X2_choose) ok hRm lk_X2_250 dX2_takesAbove_58 hE (fun hE => mt_X2_choose hl hE) rfl (Nat.le_of_ble_eq_true rfl) ⟨⟨Nat.le_of_ble_eq_true rfl, Nat.le_of_ble_eq_true rfl⟩, (by show kc + 0 ≤ 0; omega), (by show ks + 0 ≤ 0; omega)⟩ (zg_retI (fun v10 h3 hE => ?_)) (zg_xok ok tab fin ⟨(by show kc + 0 ≤ 0; omega), (by show ks + 0 ≤ 0; omega)⟩)
    refine zg_cost (kc2 := kc) (ks2 := ks) ⟨(by show kc + 0 = kc; omega), (by show ks + 0 = ks; omega)⟩ ?_
    refine zg_i2d ok dX2_takesAbove_61 ?_
    refine zg_aload_n ok dX2_takesAbove_62 rfl 0 rfl ?_
    refine zg_getA ok lf_X2_48 dX2_takesAbove_63 hE (fun v11 hE => ?_)
    refine zg_iload ok dX2_takesAbove_66 3 rfl ?_
    refine zg_dald ok dX2_takesAbove_68 hE (fun v12 hE => ?_)
    refine zg_dmulE ok dX2_takesAbove_69 hE (fun hE => ?_)
    refine zg_letD hE (fun v13 hE => ?_)
    refine zg_dconst1 ok dX2_takesAbove_70 ?_
    refine zg_dload_n ok dX2_takesAbove_71 rfl 1 rfl ?_
    refine zg_iload ok dX2_takesAbove_72 3 rfl ?_
    refine zg_iload ok dX2_takesAbove_74 2 rfl ?_
    refine zg_isub ok dX2_takesAbove_76 ?_
    refine zg_callS (vs := [zD FP.dconst1, zD l3, zI (l6 - l5)]) (rest := [.double v13, .double v9, .int l5, va_rf v8]) (rm := rm_X2_times) ok hRm lk_X2_318 dX2_takesAbove_77 hE (fun hE => mt_X2_times hl hE) rfl (Nat.le_of_ble_eq_true rfl) ⟨⟨Nat.le_of_ble_eq_true rfl, Nat.le_of_ble_eq_true rfl⟩, (by show kc + 0 ≤ 0; omega), (by show ks + 0 ≤ 0; omega)⟩ (zg_retD (fun v14 h4 hE => ?_)) (zg_xok ok tab fin ⟨(by show kc + 0 ≤ 0; omega), (by show ks + 0 ≤ 0; omega)⟩)
    refine zg_cost (kc2 := kc) (ks2 := ks) ⟨(by show kc + 0 = kc; omega), (by show ks + 0 = ks; omega)⟩ ?_
    refine zg_dmulE ok dX2_takesAbove_80 hE (fun hE => ?_)
    refine zg_letD hE (fun v15 hE => ?_)
    refine zg_daddE ok dX2_takesAbove_81 hE (fun hE => ?_)
    refine zg_letD hE (fun v16 hE => ?_)
    refine zg_dast ok dX2_takesAbove_82 hE (fun h5 hE => ?_)
    refine zg_iincL (k := 3) (L' := fun v17 => [(6, .int v17), (0, va_rf l0), (3, .double l3), (5, .int l5)]) ok dX2_takesAbove_83 (by decide +kernel) hE rfl (by decide) (fun _ => rfl) (fun v17 hE => ?_)
    refine zg_goto (tgt := 35) ok dX2_takesAbove_86 (by decide) ?_
    refine zg_sub (L' := [(0, va_rf l0), (3, .double l3), (5, .int l5), (6, .int v17)]) [1, 2, 3, 0] rfl ?_
    exact hR _ _ hE
theorem gt_f_X2_takesAbove_L35 {Xc : zw_X} {Q : zw_H → Prop} {X : String → Nat → zw_H → Prop} (hl : (zw_l Xc).stackTraces = false) (ok : zw_ok Xc cX2_takesAbove "MultipoleLineModel" yX2_takesAbove.name 7) (tab : zw_tab Xc []) (fin : zw_fin Xc (Option.none : Option Jvm.ClassFile.FieldType) (zq_V Q) X 0 0) (hRm : zw_rm Xc = rm_X2_takesAbove) {kc ks : Nat} (hb : kc ≤ 0 ∧ ks ≤ 0) {l0 : Option Nat} {l3 : UInt64} {l5 : Int32} {k89 : zw_H → Prop} (hk89 : ∀  (h : zw_H), k89  h → zw_G Xc kc ks 7 h 89 [(0, va_rf l0), (3, .double l3), (5, .int l5)] [])  : ∀ (n9 : Nat) (l6 : Int32) (h : zw_H), zl2 (f_X2_takesAbove_B35 (zw_Zf Xc).2.2.2 Q X k89 l0 l3 l5) n9 l6 h → zw_G Xc kc ks 7 h 35 [(0, va_rf l0), (3, .double l3), (5, .int l5), (6, .int l6)] [] := by
  intro n9
  induction n9 with
  | zero => intro l6 h hE; exact hE.elim
  | succ n9 ih => intro l6 h hE; exact gt_f_X2_takesAbove_B35 hl ok tab fin hRm hb ih hk89 hE
set_option maxHeartbeats 8000000 in
theorem gt_f_X2_takesAbove_B20 {Xc : zw_X} {Q : zw_H → Prop} {X : String → Nat → zw_H → Prop} (hl : (zw_l Xc).stackTraces = false) (ok : zw_ok Xc cX2_takesAbove "MultipoleLineModel" yX2_takesAbove.name 7) (tab : zw_tab Xc []) (fin : zw_fin Xc (Option.none : Option Jvm.ClassFile.FieldType) (zq_V Q) X 0 0) (hRm : zw_rm Xc = rm_X2_takesAbove) {kc ks : Nat} (hb : kc ≤ 0 ∧ ks ≤ 0) {R : Int32 → zw_H → Prop} {l0 : Option Nat} {l3 : UInt64} (hR : ∀ (l5 : Int32) (h : zw_H), R l5 h → zw_G Xc kc ks 7 h 20 [(0, va_rf l0), (3, .double l3), (5, .int l5)] []) {k95 : zw_H → Prop} (hk95 : ∀  (h : zw_H), k95  h → zw_G Xc kc ks 7 h 95 [] [])  {l5 : Int32} {h : zw_H} (hE : f_X2_takesAbove_B20 (zw_Zf Xc).2.2.2 Q X k95 l0 l3 R l5 h) : zw_G Xc kc ks 7 h 20 [(0, va_rf l0), (3, .double l3), (5, .int l5)] [] := by
  unfold f_X2_takesAbove_B20 at hE
  refine zg_iload ok dX2_takesAbove_20 2 rfl ?_
  refine zg_aload_n ok dX2_takesAbove_22 rfl 0 rfl ?_
  refine zg_getA ok lf_X2_9 dX2_takesAbove_23 hE (fun v4 hE => ?_)
  refine zg_iconst (v := 4) ok dX2_takesAbove_26 (by decide) ?_
  refine zg_iald ok dX2_takesAbove_27 hE (fun v5 hE => ?_)
  refine zg_icmp_gt (tgt := 95) ok dX2_takesAbove_28 (by decide) hE (fun hE => ?_) (fun hE => ?_)
  · refine zg_sub (L' := []) [] rfl ?_
    exact hk95 _ hE
  · refine zg_iload ok dX2_takesAbove_31 2 rfl ?_
    refine zg_istore (L' := [(6, .int l5), (0, va_rf l0), (3, .double l3), (5, .int l5)]) ok dX2_takesAbove_33 (by decide) rfl ?_
    refine zg_sub (L' := [(0, va_rf l0), (3, .double l3), (5, .int l5), (6, .int l5)]) [1, 2, 3, 0] rfl ?_
    refine gt_f_X2_takesAbove_L35 hl ok tab fin hRm ⟨(by omega), (by omega)⟩ ?_ _ _ _ hE
    · intro h6 hE
      refine zg_iincL (k := 2) (L' := fun v18 => [(5, .int v18), (0, va_rf l0), (3, .double l3)]) ok dX2_takesAbove_89 (by decide +kernel) hE rfl (by decide) (fun _ => rfl) (fun v18 hE => ?_)
      refine zg_goto (tgt := 20) ok dX2_takesAbove_92 (by decide) ?_
      refine zg_sub (L' := [(0, va_rf l0), (3, .double l3), (5, .int v18)]) [1, 2, 0] rfl ?_
      exact hR _ _ hE
theorem gt_f_X2_takesAbove_L20 {Xc : zw_X} {Q : zw_H → Prop} {X : String → Nat → zw_H → Prop} (hl : (zw_l Xc).stackTraces = false) (ok : zw_ok Xc cX2_takesAbove "MultipoleLineModel" yX2_takesAbove.name 7) (tab : zw_tab Xc []) (fin : zw_fin Xc (Option.none : Option Jvm.ClassFile.FieldType) (zq_V Q) X 0 0) (hRm : zw_rm Xc = rm_X2_takesAbove) {kc ks : Nat} (hb : kc ≤ 0 ∧ ks ≤ 0) {l0 : Option Nat} {l3 : UInt64} {k95 : zw_H → Prop} (hk95 : ∀  (h : zw_H), k95  h → zw_G Xc kc ks 7 h 95 [] [])  : ∀ (n9 : Nat) (l5 : Int32) (h : zw_H), zl2 (f_X2_takesAbove_B20 (zw_Zf Xc).2.2.2 Q X k95 l0 l3) n9 l5 h → zw_G Xc kc ks 7 h 20 [(0, va_rf l0), (3, .double l3), (5, .int l5)] [] := by
  intro n9
  induction n9 with
  | zero => intro l5 h hE; exact hE.elim
  | succ n9 ih => intro l5 h hE; exact gt_f_X2_takesAbove_B20 hl ok tab fin hRm hb ih hk95 hE
set_option maxHeartbeats 8000000 in
theorem mt_X2_takesAbove {l : Launch} (hl : l.stackTraces = false) {Z : zw_Z} {a0 : Option Nat} {a1 : Int32} {a2 : Int32} {h : zw_H} {Q : zw_H → Prop} {X : String → Nat → zw_H → Prop} (hE : f_X2_takesAbove Z.2.2.2 a0 a1 a2 h Q X) : zw_Met l Z yX2_takesAbove (ws_ yX2_takesAbove cX2_takesAbove 7 (Option.none : Option Jvm.ClassFile.FieldType)) rm_X2_takesAbove [zA a0, zI a1, zI a2] h (zq_V Q) X := by
  refine zg_start (own := "MultipoleLineModel") (by decide +kernel) rfl (Nat.le_of_ble_eq_true rfl) hl (fun Xc ok tab fin hRm hXl hXZ => ?_)
  subst hXl
  subst hXZ
  unfold f_X2_takesAbove at hE
  refine zg_iload_n ok dX2_takesAbove_0 rfl 1 rfl ?_
  refine zg_iload_n ok dX2_takesAbove_1 rfl 2 rfl ?_
  refine zg_callS (vs := [zI a1, zI a2]) (rest := []) (rm := rm_X2_centre) ok hRm lk_X2_226 dX2_takesAbove_2 hE (fun hE => mt_X2_centre hl hE) rfl (Nat.le_of_ble_eq_true rfl) ⟨⟨Nat.le_of_ble_eq_true rfl, Nat.le_of_ble_eq_true rfl⟩, Nat.le_of_ble_eq_true rfl, Nat.le_of_ble_eq_true rfl⟩ (zg_retI (fun v1 h1 hE => ?_)) (zg_xok ok tab fin ⟨Nat.le_of_ble_eq_true rfl, Nat.le_of_ble_eq_true rfl⟩)
  refine zg_cost (kc2 := 0) (ks2 := 0) ⟨rfl, rfl⟩ ?_
  refine zg_iload_n ok dX2_takesAbove_5 rfl 1 rfl ?_
  refine zg_iconst (v := 1) ok dX2_takesAbove_6 (by decide) ?_
  refine zg_isub ok dX2_takesAbove_7 ?_
  refine zg_iload_n ok dX2_takesAbove_8 rfl 2 rfl ?_
  refine zg_iconst (v := 2) ok dX2_takesAbove_9 (by decide) ?_
  refine zg_idivE ok dX2_takesAbove_10 hE (fun hE => ?_)
  refine zg_callS (vs := [zI (a1 - 1), zI (a2 / 2)]) (rest := [.int v1]) (rm := rm_X2_centre) ok hRm lk_X2_226 dX2_takesAbove_11 hE (fun hE => mt_X2_centre hl hE) rfl (Nat.le_of_ble_eq_true rfl) ⟨⟨Nat.le_of_ble_eq_true rfl, Nat.le_of_ble_eq_true rfl⟩, Nat.le_of_ble_eq_true rfl, Nat.le_of_ble_eq_true rfl⟩ (zg_retI (fun v2 h2 hE => ?_)) (zg_xok ok tab fin ⟨Nat.le_of_ble_eq_true rfl, Nat.le_of_ble_eq_true rfl⟩)
  refine zg_cost (kc2 := 0) (ks2 := 0) ⟨rfl, rfl⟩ ?_
  refine zg_isub ok dX2_takesAbove_14 ?_
  refine zg_i2d ok dX2_takesAbove_15 ?_
  refine zg_letD hE (fun v3 hE => ?_)
  refine zg_dstore_n (L' := [(3, .double v3), (0, va_rf a0), (1, .int a1), (2, .int a2)]) ok dX2_takesAbove_16 rfl (by decide) rfl ?_
  refine zg_iconst (v := 0) ok dX2_takesAbove_17 (by decide) ?_
  refine zg_istore (L' := [(5, .int 0), (3, .double v3), (0, va_rf a0), (1, .int a1), (2, .int a2)]) ok dX2_takesAbove_18 (by decide) rfl ?_
  refine zg_sub (L' := [(0, va_rf a0), (3, .double v3), (5, .int 0)]) [2, 1, 0] rfl ?_
  refine gt_f_X2_takesAbove_L20 hl ok tab fin hRm ⟨Nat.le_of_ble_eq_true rfl, Nat.le_of_ble_eq_true rfl⟩ ?_ _ _ _ hE
  · intro h7 hE
    exact zg_vret ok fin dX2_takesAbove_95 ⟨Nat.le_of_ble_eq_true rfl, Nat.le_of_ble_eq_true rfl⟩ hE
set_option maxHeartbeats 8000000 in
theorem gt_f_X2_takesFar_B46 {Xc : zw_X} {Q : zw_H → Prop} {X : String → Nat → zw_H → Prop} (hl : (zw_l Xc).stackTraces = false) (ok : zw_ok Xc cX2_takesFar "MultipoleLineModel" yX2_takesFar.name 11) (tab : zw_tab Xc []) (fin : zw_fin Xc (Option.none : Option Jvm.ClassFile.FieldType) (zq_V Q) X 0 0) (hRm : zw_rm Xc = rm_X2_takesFar) {kc ks : Nat} (hb : kc ≤ 0 ∧ ks ≤ 0) {R : UInt64 → UInt64 → Int32 → zw_H → Prop} {l0 : Option Nat} {l1 : Int32} {l3 : Int32} {l4 : Int32} {l5 : Int32} (hR : ∀ (l6 : UInt64) (l8 : UInt64) (l10 : Int32) (h : zw_H), R l6 l8 l10 h → zw_G Xc kc ks 11 h 46 [(0, va_rf l0), (1, .int l1), (3, .int l3), (4, .int l4), (5, .int l5), (6, .double l6), (8, .double l8), (10, .int l10)] []) {k100 : UInt64 → zw_H → Prop} (hk100 : ∀ (l6 : UInt64) (h : zw_H), k100 l6 h → zw_G Xc kc ks 11 h 100 [(0, va_rf l0), (1, .int l1), (3, .int l3), (4, .int l4), (5, .int l5), (6, .double l6)] [])  {l6 : UInt64} {l8 : UInt64} {l10 : Int32} {h : zw_H} (hE : f_X2_takesFar_B46 (zw_Zf Xc).2.2.2 Q X k100 l0 l1 l3 l4 l5 R l6 l8 l10 h) : zw_G Xc kc ks 11 h 46 [(0, va_rf l0), (1, .int l1), (3, .int l3), (4, .int l4), (5, .int l5), (6, .double l6), (8, .double l8), (10, .int l10)] [] := by
  unfold f_X2_takesFar_B46 at hE
  refine zg_iload ok dX2_takesFar_46 7 rfl ?_
  refine zg_aload_n ok dX2_takesFar_48 rfl 0 rfl ?_
  refine zg_getA ok lf_X2_9 dX2_takesFar_49 hE (fun v7 hE => ?_)
  refine zg_iconst (v := 4) ok dX2_takesFar_52 (by decide) ?_
  refine zg_iald ok dX2_takesFar_53 hE (fun v8 hE => ?_)
  refine zg_icmp_gt (tgt := 100) ok dX2_takesFar_54 (by decide) hE (fun hE => ?_) (fun hE => ?_)
  · refine zg_sub (L' := [(0, va_rf l0), (1, .int l1), (3, .int l3), (4, .int l4), (5, .int l5), (6, .double l6)]) [0, 1, 2, 3, 4, 5] rfl ?_
    exact hk100 _ _ hE
  · refine zg_dload ok dX2_takesFar_57 5 rfl ?_
    refine zg_iload ok dX2_takesFar_59 7 rfl ?_
    refine zg_iload ok dX2_takesFar_61 4 rfl ?_
    refine zg_iadd ok dX2_takesFar_63 ?_
    refine zg_iload ok dX2_takesFar_64 4 rfl ?_
    refine zg_callS (vs := [zI (l10 + l5), zI l5]) (rest := [.double l6]) (rm := rm_X2_choose) ok hRm lk_X2_250 dX2_takesFar_66 hE (fun hE => mt_X2_choose hl hE) rfl (Nat.le_of_ble_eq_true rfl) ⟨⟨Nat.le_of_ble_eq_true rfl, Nat.le_of_ble_eq_true rfl⟩, (by show kc + 0 ≤ 0; omega), (by show ks + 0 ≤ 0; omega)⟩ (zg_retI (fun v9 h4 hE => ?_)) (zg_xok ok tab fin ⟨(by show kc + 0 ≤ 0; omega), (by show ks + 0 ≤ 0; omega)⟩)
    refine zg_cost (kc2 := kc) (ks2 := ks) ⟨(by show kc + 0 = kc; omega), (by show ks + 0 = ks; omega)⟩ ?_
    refine zg_i2l ok dX2_takesFar_69 ?_
    refine zg_aload_n ok dX2_takesFar_70 rfl 0 rfl ?_
    refine zg_iload_n ok dX2_takesFar_71 rfl 1 rfl ?_
    refine zg_iload_n ok dX2_takesFar_72 rfl 2 rfl ?_
    refine zg_iload ok dX2_takesFar_73 7 rfl ?_
    refine zg_callV (vs := [zI l1, zI l3, zI l10]) (rest := [.long v9.toInt64, .double l6]) (rm := rm_X2_momentOf) ok hRm lk_X2_243 dX2_takesFar_75 hE (fun hE => mt_X2_momentOf hl hE) rfl (Nat.le_of_ble_eq_true rfl) ⟨⟨Nat.le_of_ble_eq_true rfl, Nat.le_of_ble_eq_true rfl⟩, (by show kc + 0 ≤ 0; omega), (by show ks + 0 ≤ 0; omega)⟩ (zg_retJ (fun v10 h5 hE => ?_)) (zg_xok ok tab fin ⟨(by show kc + 0 ≤ 0; omega), (by show ks + 0 ≤ 0; omega)⟩)
    refine zg_cost (kc2 := kc) (ks2 := ks) ⟨(by show kc + 0 = kc; omega), (by show ks + 0 = ks; omega)⟩ ?_
    refine zg_lmul ok dX2_takesFar_78 ?_
    refine zg_l2d ok dX2_takesFar_79 ?_
    refine zg_dload ok dX2_takesFar_80 6 rfl ?_
    refine zg_ddivE ok dX2_takesFar_82 hE (fun hE => ?_)
    refine zg_letD hE (fun v11 hE => ?_)
    refine zg_daddE ok dX2_takesFar_83 hE (fun hE => ?_)
    refine zg_letD hE (fun v12 hE => ?_)
    refine zg_dstore (L' := [(6, .double v12), (0, va_rf l0), (1, .int l1), (3, .int l3), (4, .int l4), (5, .int l5), (8, .double l8), (10, .int l10)]) ok dX2_takesFar_84 (by decide) rfl ?_
    refine zg_dload ok dX2_takesFar_86 6 rfl ?_
    refine zg_iload ok dX2_takesFar_88 4 rfl ?_
    refine zg_i2d ok dX2_takesFar_90 ?_
    refine zg_dmulE ok dX2_takesFar_91 hE (fun hE => ?_)
    refine zg_letD hE (fun v13 hE => ?_)
    refine zg_dstore (L' := [(8, .double v13), (6, .double v12), (0, va_rf l0), (1, .int l1), (3, .int l3), (4, .int l4), (5, .int l5), (10, .int l10)]) ok dX2_takesFar_92 (by decide) rfl ?_
    refine zg_iincL (k := 7) (L' := fun v14 => [(10, .int v14), (8, .double v13), (6, .double v12), (0, va_rf l0), (1, .int l1), (3, .int l3), (4, .int l4), (5, .int l5)]) ok dX2_takesFar_94 (by decide +kernel) hE rfl (by decide) (fun _ => rfl) (fun v14 hE => ?_)
    refine zg_goto (tgt := 46) ok dX2_takesFar_97 (by decide) ?_
    refine zg_sub (L' := [(0, va_rf l0), (1, .int l1), (3, .int l3), (4, .int l4), (5, .int l5), (6, .double v12), (8, .double v13), (10, .int v14)]) [3, 4, 5, 6, 7, 2, 1, 0] rfl ?_
    exact hR _ _ _ _ hE
theorem gt_f_X2_takesFar_L46 {Xc : zw_X} {Q : zw_H → Prop} {X : String → Nat → zw_H → Prop} (hl : (zw_l Xc).stackTraces = false) (ok : zw_ok Xc cX2_takesFar "MultipoleLineModel" yX2_takesFar.name 11) (tab : zw_tab Xc []) (fin : zw_fin Xc (Option.none : Option Jvm.ClassFile.FieldType) (zq_V Q) X 0 0) (hRm : zw_rm Xc = rm_X2_takesFar) {kc ks : Nat} (hb : kc ≤ 0 ∧ ks ≤ 0) {l0 : Option Nat} {l1 : Int32} {l3 : Int32} {l4 : Int32} {l5 : Int32} {k100 : UInt64 → zw_H → Prop} (hk100 : ∀ (l6 : UInt64) (h : zw_H), k100 l6 h → zw_G Xc kc ks 11 h 100 [(0, va_rf l0), (1, .int l1), (3, .int l3), (4, .int l4), (5, .int l5), (6, .double l6)] [])  : ∀ (n9 : Nat) (l6 : UInt64) (l8 : UInt64) (l10 : Int32) (h : zw_H), zl4 (f_X2_takesFar_B46 (zw_Zf Xc).2.2.2 Q X k100 l0 l1 l3 l4 l5) n9 l6 l8 l10 h → zw_G Xc kc ks 11 h 46 [(0, va_rf l0), (1, .int l1), (3, .int l3), (4, .int l4), (5, .int l5), (6, .double l6), (8, .double l8), (10, .int l10)] [] := by
  intro n9
  induction n9 with
  | zero => intro l6 l8 l10 h hE; exact hE.elim
  | succ n9 ih => intro l6 l8 l10 h hE; exact gt_f_X2_takesFar_B46 hl ok tab fin hRm hb ih hk100 hE
set_option maxHeartbeats 8000000 in
theorem gt_f_X2_takesFar_J152 {Xc : zw_X} {Q : zw_H → Prop} {X : String → Nat → zw_H → Prop} (hl : (zw_l Xc).stackTraces = false) (ok : zw_ok Xc cX2_takesFar "MultipoleLineModel" yX2_takesFar.name 11) (tab : zw_tab Xc []) (fin : zw_fin Xc (Option.none : Option Jvm.ClassFile.FieldType) (zq_V Q) X 0 0) (hRm : zw_rm Xc = rm_X2_takesFar) {kc ks : Nat} (hb : kc ≤ 0 ∧ ks ≤ 0) {R : Int32 → zw_H → Prop} {l0 : Option Nat} {l1 : Int32} {l3 : Int32} {l4 : Int32} (hR : ∀ (l5 : Int32) (h : zw_H), R l5 h → zw_G Xc kc ks 11 h 16 [(0, va_rf l0), (1, .int l1), (3, .int l3), (4, .int l4), (5, .int l5)] []) {k158 : zw_H → Prop} (hk158 : ∀  (h : zw_H), k158  h → zw_G Xc kc ks 11 h 158 [] [])  {l5 : Int32}  {h : zw_H} (hE : f_X2_takesFar_J152 (zw_Zf Xc).2.2.2 Q X R k158 l0 l1 l3 l4 l5 h) : zw_G Xc kc ks 11 h 152 [(0, va_rf l0), (1, .int l1), (3, .int l3), (4, .int l4), (5, .int l5)] [] := by
  unfold f_X2_takesFar_J152 at hE
  refine zg_iincL (k := 4) (L' := fun v19 => [(5, .int v19), (0, va_rf l0), (1, .int l1), (3, .int l3), (4, .int l4)]) ok dX2_takesFar_152 (by decide +kernel) hE rfl (by decide) (fun _ => rfl) (fun v19 hE => ?_)
  refine zg_goto (tgt := 16) ok dX2_takesFar_155 (by decide) ?_
  refine zg_sub (L' := [(0, va_rf l0), (1, .int l1), (3, .int l3), (4, .int l4), (5, .int v19)]) [1, 2, 3, 4, 0] rfl ?_
  exact hR _ _ hE
set_option maxHeartbeats 8000000 in
theorem gt_f_X2_takesFar_J122 {Xc : zw_X} {Q : zw_H → Prop} {X : String → Nat → zw_H → Prop} (hl : (zw_l Xc).stackTraces = false) (ok : zw_ok Xc cX2_takesFar "MultipoleLineModel" yX2_takesFar.name 11) (tab : zw_tab Xc []) (fin : zw_fin Xc (Option.none : Option Jvm.ClassFile.FieldType) (zq_V Q) X 0 0) (hRm : zw_rm Xc = rm_X2_takesFar) {kc ks : Nat} (hb : kc ≤ 0 ∧ ks ≤ 0) {R : Int32 → zw_H → Prop} {l0 : Option Nat} {l1 : Int32} {l3 : Int32} {l4 : Int32} (hR : ∀ (l5 : Int32) (h : zw_H), R l5 h → zw_G Xc kc ks 11 h 16 [(0, va_rf l0), (1, .int l1), (3, .int l3), (4, .int l4), (5, .int l5)] []) {k158 : zw_H → Prop} (hk158 : ∀  (h : zw_H), k158  h → zw_G Xc kc ks 11 h 158 [] [])  {l5 : Int32} {l6 : UInt64} {s0 : Int32} {s1 : Int32} {h : zw_H} (hE : f_X2_takesFar_J122 (zw_Zf Xc).2.2.2 Q X R k158 l0 l1 l3 l4 l5 l6 s0 s1 h) : zw_G Xc kc ks 11 h 122 [(0, va_rf l0), (1, .int l1), (3, .int l3), (4, .int l4), (5, .int l5), (6, .double l6)] [.int s0, .int s1] := by
  unfold f_X2_takesFar_J122 at hE
  refine zg_icmp_ne (tgt := 140) ok dX2_takesFar_122 (by decide) hE (fun hE => ?_) (fun hE => ?_)
  · refine zg_aload_n ok dX2_takesFar_140 rfl 0 rfl ?_
    refine zg_getA ok lf_X2_44 dX2_takesFar_141 hE (fun v16 hE => ?_)
    refine zg_iload ok dX2_takesFar_144 4 rfl ?_
    refine zg_dup2_11 ok dX2_takesFar_146 rfl (zw_rfc _) ?_
    refine zg_dald ok dX2_takesFar_147 hE (fun v17 hE => ?_)
    refine zg_dload ok dX2_takesFar_148 5 rfl ?_
    refine zg_daddE ok dX2_takesFar_150 hE (fun hE => ?_)
    refine zg_letD hE (fun v18 hE => ?_)
    refine zg_dast ok dX2_takesFar_151 hE (fun h7 hE => ?_)
    refine zg_sub (L' := [(0, va_rf l0), (1, .int l1), (3, .int l3), (4, .int l4), (5, .int l5)]) [0, 1, 2, 3, 4] rfl ?_
    exact gt_f_X2_takesFar_J152 hl ok tab fin hRm hb hR hk158 hE
  · refine zg_aload_n ok dX2_takesFar_125 rfl 0 rfl ?_
    refine zg_getA ok lf_X2_44 dX2_takesFar_126 hE (fun v20 hE => ?_)
    refine zg_iload ok dX2_takesFar_129 4 rfl ?_
    refine zg_dup2_11 ok dX2_takesFar_131 rfl (zw_rfc _) ?_
    refine zg_dald ok dX2_takesFar_132 hE (fun v21 hE => ?_)
    refine zg_dload ok dX2_takesFar_133 5 rfl ?_
    refine zg_dsubE ok dX2_takesFar_135 hE (fun hE => ?_)
    refine zg_letD hE (fun v22 hE => ?_)
    refine zg_dast ok dX2_takesFar_136 hE (fun h8 hE => ?_)
    refine zg_goto (tgt := 152) ok dX2_takesFar_137 (by decide) ?_
    refine zg_sub (L' := [(0, va_rf l0), (1, .int l1), (3, .int l3), (4, .int l4), (5, .int l5)]) [0, 1, 2, 3, 4] rfl ?_
    exact gt_f_X2_takesFar_J152 hl ok tab fin hRm hb hR hk158 hE
set_option maxHeartbeats 8000000 in
theorem gt_f_X2_takesFar_J110 {Xc : zw_X} {Q : zw_H → Prop} {X : String → Nat → zw_H → Prop} (hl : (zw_l Xc).stackTraces = false) (ok : zw_ok Xc cX2_takesFar "MultipoleLineModel" yX2_takesFar.name 11) (tab : zw_tab Xc []) (fin : zw_fin Xc (Option.none : Option Jvm.ClassFile.FieldType) (zq_V Q) X 0 0) (hRm : zw_rm Xc = rm_X2_takesFar) {kc ks : Nat} (hb : kc ≤ 0 ∧ ks ≤ 0) {R : Int32 → zw_H → Prop} {l0 : Option Nat} {l1 : Int32} {l3 : Int32} {l4 : Int32} (hR : ∀ (l5 : Int32) (h : zw_H), R l5 h → zw_G Xc kc ks 11 h 16 [(0, va_rf l0), (1, .int l1), (3, .int l3), (4, .int l4), (5, .int l5)] []) {k158 : zw_H → Prop} (hk158 : ∀  (h : zw_H), k158  h → zw_G Xc kc ks 11 h 158 [] [])  {l5 : Int32} {l6 : UInt64} {s0 : Int32} {h : zw_H} (hE : f_X2_takesFar_J110 (zw_Zf Xc).2.2.2 Q X R k158 l0 l1 l3 l4 l5 l6 s0 h) : zw_G Xc kc ks 11 h 110 [(0, va_rf l0), (1, .int l1), (3, .int l3), (4, .int l4), (5, .int l5), (6, .double l6)] [.int s0] := by
  unfold f_X2_takesFar_J110 at hE
  refine zg_iload ok dX2_takesFar_110 4 rfl ?_
  refine zg_iconst (v := 2) ok dX2_takesFar_112 (by decide) ?_
  refine zg_iremE ok dX2_takesFar_113 hE (fun hE => ?_)
  refine zg_if_ne (tgt := 121) ok dX2_takesFar_114 (by decide) hE (fun hE => ?_) (fun hE => ?_)
  · refine zg_iconst (v := 0) ok dX2_takesFar_121 (by decide) ?_
    exact gt_f_X2_takesFar_J122 hl ok tab fin hRm hb hR hk158 hE
  · refine zg_iconst (v := 1) ok dX2_takesFar_117 (by decide) ?_
    refine zg_goto (tgt := 122) ok dX2_takesFar_118 (by decide) ?_
    exact gt_f_X2_takesFar_J122 hl ok tab fin hRm hb hR hk158 hE
set_option maxHeartbeats 8000000 in
theorem gt_f_X2_takesFar_B16 {Xc : zw_X} {Q : zw_H → Prop} {X : String → Nat → zw_H → Prop} (hl : (zw_l Xc).stackTraces = false) (ok : zw_ok Xc cX2_takesFar "MultipoleLineModel" yX2_takesFar.name 11) (tab : zw_tab Xc []) (fin : zw_fin Xc (Option.none : Option Jvm.ClassFile.FieldType) (zq_V Q) X 0 0) (hRm : zw_rm Xc = rm_X2_takesFar) {kc ks : Nat} (hb : kc ≤ 0 ∧ ks ≤ 0) {R : Int32 → zw_H → Prop} {l0 : Option Nat} {l1 : Int32} {l3 : Int32} {l4 : Int32} (hR : ∀ (l5 : Int32) (h : zw_H), R l5 h → zw_G Xc kc ks 11 h 16 [(0, va_rf l0), (1, .int l1), (3, .int l3), (4, .int l4), (5, .int l5)] []) {k158 : zw_H → Prop} (hk158 : ∀  (h : zw_H), k158  h → zw_G Xc kc ks 11 h 158 [] [])  {l5 : Int32} {h : zw_H} (hE : f_X2_takesFar_B16 (zw_Zf Xc).2.2.2 Q X k158 l0 l1 l3 l4 R l5 h) : zw_G Xc kc ks 11 h 16 [(0, va_rf l0), (1, .int l1), (3, .int l3), (4, .int l4), (5, .int l5)] [] := by
  unfold f_X2_takesFar_B16 at hE
  refine zg_iload ok dX2_takesFar_16 4 rfl ?_
  refine zg_aload_n ok dX2_takesFar_18 rfl 0 rfl ?_
  refine zg_getA ok lf_X2_9 dX2_takesFar_19 hE (fun v4 hE => ?_)
  refine zg_iconst (v := 4) ok dX2_takesFar_22 (by decide) ?_
  refine zg_iald ok dX2_takesFar_23 hE (fun v5 hE => ?_)
  refine zg_icmp_gt (tgt := 158) ok dX2_takesFar_24 (by decide) hE (fun hE => ?_) (fun hE => ?_)
  · refine zg_sub (L' := []) [] rfl ?_
    exact hk158 _ hE
  · refine zg_dconst0 ok dX2_takesFar_27 ?_
    refine zg_dstore (L' := [(6, .double FP.dconst0), (0, va_rf l0), (1, .int l1), (3, .int l3), (4, .int l4), (5, .int l5)]) ok dX2_takesFar_28 (by decide) rfl ?_
    refine zg_dconst1 ok dX2_takesFar_30 ?_
    refine zg_iload ok dX2_takesFar_31 4 rfl ?_
    refine zg_i2d ok dX2_takesFar_33 ?_
    refine zg_iload ok dX2_takesFar_34 5 rfl ?_
    refine zg_iconst (v := 1) ok dX2_takesFar_36 (by decide) ?_
    refine zg_iadd ok dX2_takesFar_37 ?_
    refine zg_callS (vs := [zD FP.dconst1, zD (FP.i2d l4), zI (l5 + 1)]) (rest := []) (rm := rm_X2_times) ok hRm lk_X2_318 dX2_takesFar_38 hE (fun hE => mt_X2_times hl hE) rfl (Nat.le_of_ble_eq_true rfl) ⟨⟨Nat.le_of_ble_eq_true rfl, Nat.le_of_ble_eq_true rfl⟩, (by show kc + 0 ≤ 0; omega), (by show ks + 0 ≤ 0; omega)⟩ (zg_retD (fun v6 h3 hE => ?_)) (zg_xok ok tab fin ⟨(by show kc + 0 ≤ 0; omega), (by show ks + 0 ≤ 0; omega)⟩)
    refine zg_cost (kc2 := kc) (ks2 := ks) ⟨(by show kc + 0 = kc; omega), (by show ks + 0 = ks; omega)⟩ ?_
    refine zg_dstore (L' := [(8, .double v6), (6, .double FP.dconst0), (0, va_rf l0), (1, .int l1), (3, .int l3), (4, .int l4), (5, .int l5)]) ok dX2_takesFar_41 (by decide) rfl ?_
    refine zg_iconst (v := 0) ok dX2_takesFar_43 (by decide) ?_
    refine zg_istore (L' := [(10, .int 0), (8, .double v6), (6, .double FP.dconst0), (0, va_rf l0), (1, .int l1), (3, .int l3), (4, .int l4), (5, .int l5)]) ok dX2_takesFar_44 (by decide) rfl ?_
    refine zg_sub (L' := [(0, va_rf l0), (1, .int l1), (3, .int l3), (4, .int l4), (5, .int l5), (6, .double FP.dconst0), (8, .double v6), (10, .int 0)]) [3, 4, 5, 6, 7, 2, 1, 0] rfl ?_
    refine gt_f_X2_takesFar_L46 hl ok tab fin hRm ⟨(by omega), (by omega)⟩ ?_ _ _ _ _ _ hE
    · intro v15 h6 hE
      refine zg_iload ok dX2_takesFar_100 3 rfl ?_
      refine zg_if_ge (tgt := 109) ok dX2_takesFar_102 (by decide) hE (fun hE => ?_) (fun hE => ?_)
      · refine zg_iconst (v := 0) ok dX2_takesFar_109 (by decide) ?_
        exact gt_f_X2_takesFar_J110 hl ok tab fin hRm hb hR hk158 hE
      · refine zg_iconst (v := 1) ok dX2_takesFar_105 (by decide) ?_
        refine zg_goto (tgt := 110) ok dX2_takesFar_106 (by decide) ?_
        exact gt_f_X2_takesFar_J110 hl ok tab fin hRm hb hR hk158 hE
theorem gt_f_X2_takesFar_L16 {Xc : zw_X} {Q : zw_H → Prop} {X : String → Nat → zw_H → Prop} (hl : (zw_l Xc).stackTraces = false) (ok : zw_ok Xc cX2_takesFar "MultipoleLineModel" yX2_takesFar.name 11) (tab : zw_tab Xc []) (fin : zw_fin Xc (Option.none : Option Jvm.ClassFile.FieldType) (zq_V Q) X 0 0) (hRm : zw_rm Xc = rm_X2_takesFar) {kc ks : Nat} (hb : kc ≤ 0 ∧ ks ≤ 0) {l0 : Option Nat} {l1 : Int32} {l3 : Int32} {l4 : Int32} {k158 : zw_H → Prop} (hk158 : ∀  (h : zw_H), k158  h → zw_G Xc kc ks 11 h 158 [] [])  : ∀ (n9 : Nat) (l5 : Int32) (h : zw_H), zl2 (f_X2_takesFar_B16 (zw_Zf Xc).2.2.2 Q X k158 l0 l1 l3 l4) n9 l5 h → zw_G Xc kc ks 11 h 16 [(0, va_rf l0), (1, .int l1), (3, .int l3), (4, .int l4), (5, .int l5)] [] := by
  intro n9
  induction n9 with
  | zero => intro l5 h hE; exact hE.elim
  | succ n9 ih => intro l5 h hE; exact gt_f_X2_takesFar_B16 hl ok tab fin hRm hb ih hk158 hE
set_option maxHeartbeats 8000000 in
theorem mt_X2_takesFar {l : Launch} (hl : l.stackTraces = false) {Z : zw_Z} {a0 : Option Nat} {a1 : Int32} {a2 : Int32} {a3 : Int32} {h : zw_H} {Q : zw_H → Prop} {X : String → Nat → zw_H → Prop} (hE : f_X2_takesFar Z.2.2.2 a0 a1 a2 a3 h Q X) : zw_Met l Z yX2_takesFar (ws_ yX2_takesFar cX2_takesFar 11 (Option.none : Option Jvm.ClassFile.FieldType)) rm_X2_takesFar [zA a0, zI a1, zI a2, zI a3] h (zq_V Q) X := by
  refine zg_start (own := "MultipoleLineModel") (by decide +kernel) rfl (Nat.le_of_ble_eq_true rfl) hl (fun Xc ok tab fin hRm hXl hXZ => ?_)
  subst hXl
  subst hXZ
  unfold f_X2_takesFar at hE
  refine zg_iload_n ok dX2_takesFar_0 rfl 1 rfl ?_
  refine zg_iload_n ok dX2_takesFar_1 rfl 2 rfl ?_
  refine zg_callS (vs := [zI a1, zI a2]) (rest := []) (rm := rm_X2_centre) ok hRm lk_X2_226 dX2_takesFar_2 hE (fun hE => mt_X2_centre hl hE) rfl (Nat.le_of_ble_eq_true rfl) ⟨⟨Nat.le_of_ble_eq_true rfl, Nat.le_of_ble_eq_true rfl⟩, Nat.le_of_ble_eq_true rfl, Nat.le_of_ble_eq_true rfl⟩ (zg_retI (fun v1 h1 hE => ?_)) (zg_xok ok tab fin ⟨Nat.le_of_ble_eq_true rfl, Nat.le_of_ble_eq_true rfl⟩)
  refine zg_cost (kc2 := 0) (ks2 := 0) ⟨rfl, rfl⟩ ?_
  refine zg_iload_n ok dX2_takesFar_5 rfl 1 rfl ?_
  refine zg_iload_n ok dX2_takesFar_6 rfl 3 rfl ?_
  refine zg_callS (vs := [zI a1, zI a3]) (rest := [.int v1]) (rm := rm_X2_centre) ok hRm lk_X2_226 dX2_takesFar_7 hE (fun hE => mt_X2_centre hl hE) rfl (Nat.le_of_ble_eq_true rfl) ⟨⟨Nat.le_of_ble_eq_true rfl, Nat.le_of_ble_eq_true rfl⟩, Nat.le_of_ble_eq_true rfl, Nat.le_of_ble_eq_true rfl⟩ (zg_retI (fun v2 h2 hE => ?_)) (zg_xok ok tab fin ⟨Nat.le_of_ble_eq_true rfl, Nat.le_of_ble_eq_true rfl⟩)
  refine zg_cost (kc2 := 0) (ks2 := 0) ⟨rfl, rfl⟩ ?_
  refine zg_isub ok dX2_takesFar_10 ?_
  refine zg_letI hE (fun v3 hE => ?_)
  refine zg_istore (L' := [(4, .int v3), (0, va_rf a0), (1, .int a1), (2, .int a2), (3, .int a3)]) ok dX2_takesFar_11 (by decide) rfl ?_
  refine zg_iconst (v := 0) ok dX2_takesFar_13 (by decide) ?_
  refine zg_istore (L' := [(5, .int 0), (4, .int v3), (0, va_rf a0), (1, .int a1), (2, .int a2), (3, .int a3)]) ok dX2_takesFar_14 (by decide) rfl ?_
  refine zg_sub (L' := [(0, va_rf a0), (1, .int a1), (3, .int a3), (4, .int v3), (5, .int 0)]) [2, 3, 5, 1, 0] rfl ?_
  refine gt_f_X2_takesFar_L16 hl ok tab fin hRm ⟨Nat.le_of_ble_eq_true rfl, Nat.le_of_ble_eq_true rfl⟩ ?_ _ _ _ hE
  · intro h9 hE
    exact zg_vret ok fin dX2_takesFar_158 ⟨Nat.le_of_ble_eq_true rfl, Nat.le_of_ble_eq_true rfl⟩ hE
set_option maxHeartbeats 8000000 in
theorem gt_f_X2_laysLocal_B2 {Xc : zw_X} {Q : zw_H → Prop} {X : String → Nat → zw_H → Prop} (hl : (zw_l Xc).stackTraces = false) (ok : zw_ok Xc cX2_laysLocal "MultipoleLineModel" yX2_laysLocal.name 6) (tab : zw_tab Xc []) (fin : zw_fin Xc (Option.none : Option Jvm.ClassFile.FieldType) (zq_V Q) X 0 0) (hRm : zw_rm Xc = rm_X2_laysLocal) {kc ks : Nat} (hb : kc ≤ 0 ∧ ks ≤ 0) {R : Int32 → zw_H → Prop} {l0 : Option Nat} {l1 : Int32} {l2 : Int32} (hR : ∀ (l3 : Int32) (h : zw_H), R l3 h → zw_G Xc kc ks 6 h 2 [(0, va_rf l0), (1, .int l1), (2, .int l2), (3, .int l3)] []) {k20 : zw_H → Prop} (hk20 : ∀  (h : zw_H), k20  h → zw_G Xc kc ks 6 h 20 [(0, va_rf l0), (1, .int l1), (2, .int l2)] [])  {l3 : Int32} {h : zw_H} (hE : f_X2_laysLocal_B2 (zw_Zf Xc).2.2.2 Q X k20 l0 l1 l2 R l3 h) : zw_G Xc kc ks 6 h 2 [(0, va_rf l0), (1, .int l1), (2, .int l2), (3, .int l3)] [] := by
  unfold f_X2_laysLocal_B2 at hE
  refine zg_iload_n ok dX2_laysLocal_2 rfl 3 rfl ?_
  refine zg_iconst (v := 4) ok dX2_laysLocal_3 (by decide) ?_
  refine zg_icmp_gt (tgt := 20) ok dX2_laysLocal_4 (by decide) hE (fun hE => ?_) (fun hE => ?_)
  · refine zg_sub (L' := [(0, va_rf l0), (1, .int l1), (2, .int l2)]) [0, 1, 2] rfl ?_
    exact hk20 _ hE
  · refine zg_aload_n ok dX2_laysLocal_7 rfl 0 rfl ?_
    refine zg_getA ok lf_X2_44 dX2_laysLocal_8 hE (fun v1 hE => ?_)
    refine zg_iload_n ok dX2_laysLocal_11 rfl 3 rfl ?_
    refine zg_dconst0 ok dX2_laysLocal_12 ?_
    refine zg_dast ok dX2_laysLocal_13 hE (fun h1 hE => ?_)
    refine zg_iincL (k := 3) (L' := fun v2 => [(3, .int v2), (0, va_rf l0), (1, .int l1), (2, .int l2)]) ok dX2_laysLocal_14 (by decide +kernel) hE rfl (by decide) (fun _ => rfl) (fun v2 hE => ?_)
    refine zg_goto (tgt := 2) ok dX2_laysLocal_17 (by decide) ?_
    refine zg_sub (L' := [(0, va_rf l0), (1, .int l1), (2, .int l2), (3, .int v2)]) [1, 2, 3, 0] rfl ?_
    exact hR _ _ hE
theorem gt_f_X2_laysLocal_L2 {Xc : zw_X} {Q : zw_H → Prop} {X : String → Nat → zw_H → Prop} (hl : (zw_l Xc).stackTraces = false) (ok : zw_ok Xc cX2_laysLocal "MultipoleLineModel" yX2_laysLocal.name 6) (tab : zw_tab Xc []) (fin : zw_fin Xc (Option.none : Option Jvm.ClassFile.FieldType) (zq_V Q) X 0 0) (hRm : zw_rm Xc = rm_X2_laysLocal) {kc ks : Nat} (hb : kc ≤ 0 ∧ ks ≤ 0) {l0 : Option Nat} {l1 : Int32} {l2 : Int32} {k20 : zw_H → Prop} (hk20 : ∀  (h : zw_H), k20  h → zw_G Xc kc ks 6 h 20 [(0, va_rf l0), (1, .int l1), (2, .int l2)] [])  : ∀ (n9 : Nat) (l3 : Int32) (h : zw_H), zl2 (f_X2_laysLocal_B2 (zw_Zf Xc).2.2.2 Q X k20 l0 l1 l2) n9 l3 h → zw_G Xc kc ks 6 h 2 [(0, va_rf l0), (1, .int l1), (2, .int l2), (3, .int l3)] [] := by
  intro n9
  induction n9 with
  | zero => intro l3 h hE; exact hE.elim
  | succ n9 ih => intro l3 h hE; exact gt_f_X2_laysLocal_B2 hl ok tab fin hRm hb ih hk20 hE
set_option maxHeartbeats 8000000 in
theorem gt_f_X2_laysLocal_B37 {Xc : zw_X} {Q : zw_H → Prop} {X : String → Nat → zw_H → Prop} (hl : (zw_l Xc).stackTraces = false) (ok : zw_ok Xc cX2_laysLocal "MultipoleLineModel" yX2_laysLocal.name 6) (tab : zw_tab Xc []) (fin : zw_fin Xc (Option.none : Option Jvm.ClassFile.FieldType) (zq_V Q) X 0 0) (hRm : zw_rm Xc = rm_X2_laysLocal) {kc ks : Nat} (hb : kc ≤ 0 ∧ ks ≤ 0) {R : Int32 → zw_H → Prop} {l0 : Option Nat} {l1 : Int32} {l2 : Int32} {l3 : Int32} {l4 : Int32} (hR : ∀ (l5 : Int32) (h : zw_H), R l5 h → zw_G Xc kc ks 6 h 37 [(0, va_rf l0), (1, .int l1), (2, .int l2), (3, .int l3), (4, .int l4), (5, .int l5)] []) {k63 : zw_H → Prop} (hk63 : ∀  (h : zw_H), k63  h → zw_G Xc kc ks 6 h 63 [(0, va_rf l0), (1, .int l1), (2, .int l2), (3, .int l3), (4, .int l4)] [])  {l5 : Int32} {h : zw_H} (hE : f_X2_laysLocal_B37 (zw_Zf Xc).2.2.2 Q X k63 l0 l1 l2 l3 l4 R l5 h) : zw_G Xc kc ks 6 h 37 [(0, va_rf l0), (1, .int l1), (2, .int l2), (3, .int l3), (4, .int l4), (5, .int l5)] [] := by
  unfold f_X2_laysLocal_B37 at hE
  refine zg_iload ok dX2_laysLocal_37 5 rfl ?_
  refine zg_iconst (v := 4) ok dX2_laysLocal_39 (by decide) ?_
  refine zg_icmp_gt (tgt := 63) ok dX2_laysLocal_40 (by decide) hE (fun hE => ?_) (fun hE => ?_)
  · refine zg_sub (L' := [(0, va_rf l0), (1, .int l1), (2, .int l2), (3, .int l3), (4, .int l4)]) [0, 1, 2, 3, 4] rfl ?_
    exact hk63 _ hE
  · refine zg_aload_n ok dX2_laysLocal_43 rfl 0 rfl ?_
    refine zg_getA ok lf_X2_48 dX2_laysLocal_44 hE (fun v4 hE => ?_)
    refine zg_iload ok dX2_laysLocal_47 5 rfl ?_
    refine zg_aload_n ok dX2_laysLocal_49 rfl 0 rfl ?_
    refine zg_getA ok lf_X2_44 dX2_laysLocal_50 hE (fun v5 hE => ?_)
    refine zg_iload ok dX2_laysLocal_53 5 rfl ?_
    refine zg_dald ok dX2_laysLocal_55 hE (fun v6 hE => ?_)
    refine zg_dast ok dX2_laysLocal_56 hE (fun h3 hE => ?_)
    refine zg_iincL (k := 5) (L' := fun v7 => [(5, .int v7), (0, va_rf l0), (1, .int l1), (2, .int l2), (3, .int l3), (4, .int l4)]) ok dX2_laysLocal_57 (by decide +kernel) hE rfl (by decide) (fun _ => rfl) (fun v7 hE => ?_)
    refine zg_goto (tgt := 37) ok dX2_laysLocal_60 (by decide) ?_
    refine zg_sub (L' := [(0, va_rf l0), (1, .int l1), (2, .int l2), (3, .int l3), (4, .int l4), (5, .int v7)]) [1, 2, 3, 4, 5, 0] rfl ?_
    exact hR _ _ hE
theorem gt_f_X2_laysLocal_L37 {Xc : zw_X} {Q : zw_H → Prop} {X : String → Nat → zw_H → Prop} (hl : (zw_l Xc).stackTraces = false) (ok : zw_ok Xc cX2_laysLocal "MultipoleLineModel" yX2_laysLocal.name 6) (tab : zw_tab Xc []) (fin : zw_fin Xc (Option.none : Option Jvm.ClassFile.FieldType) (zq_V Q) X 0 0) (hRm : zw_rm Xc = rm_X2_laysLocal) {kc ks : Nat} (hb : kc ≤ 0 ∧ ks ≤ 0) {l0 : Option Nat} {l1 : Int32} {l2 : Int32} {l3 : Int32} {l4 : Int32} {k63 : zw_H → Prop} (hk63 : ∀  (h : zw_H), k63  h → zw_G Xc kc ks 6 h 63 [(0, va_rf l0), (1, .int l1), (2, .int l2), (3, .int l3), (4, .int l4)] [])  : ∀ (n9 : Nat) (l5 : Int32) (h : zw_H), zl2 (f_X2_laysLocal_B37 (zw_Zf Xc).2.2.2 Q X k63 l0 l1 l2 l3 l4) n9 l5 h → zw_G Xc kc ks 6 h 37 [(0, va_rf l0), (1, .int l1), (2, .int l2), (3, .int l3), (4, .int l4), (5, .int l5)] [] := by
  intro n9
  induction n9 with
  | zero => intro l5 h hE; exact hE.elim
  | succ n9 ih => intro l5 h hE; exact gt_f_X2_laysLocal_B37 hl ok tab fin hRm hb ih hk63 hE
set_option maxHeartbeats 8000000 in
theorem gt_f_X2_laysLocal_B66 {Xc : zw_X} {Q : zw_H → Prop} {X : String → Nat → zw_H → Prop} (hl : (zw_l Xc).stackTraces = false) (ok : zw_ok Xc cX2_laysLocal "MultipoleLineModel" yX2_laysLocal.name 6) (tab : zw_tab Xc []) (fin : zw_fin Xc (Option.none : Option Jvm.ClassFile.FieldType) (zq_V Q) X 0 0) (hRm : zw_rm Xc = rm_X2_laysLocal) {kc ks : Nat} (hb : kc ≤ 0 ∧ ks ≤ 0) {R : Int32 → zw_H → Prop} {l0 : Option Nat} {l1 : Int32} {l2 : Int32} {l3 : Int32} {l4 : Int32} (hR : ∀ (l5 : Int32) (h : zw_H), R l5 h → zw_G Xc kc ks 6 h 66 [(0, va_rf l0), (1, .int l1), (2, .int l2), (3, .int l3), (4, .int l4), (5, .int l5)] []) {k86 : zw_H → Prop} (hk86 : ∀  (h : zw_H), k86  h → zw_G Xc kc ks 6 h 86 [(0, va_rf l0), (1, .int l1), (2, .int l2), (3, .int l3), (4, .int l4)] [])  {l5 : Int32} {h : zw_H} (hE : f_X2_laysLocal_B66 (zw_Zf Xc).2.2.2 Q X k86 l0 l1 l2 l3 l4 R l5 h) : zw_G Xc kc ks 6 h 66 [(0, va_rf l0), (1, .int l1), (2, .int l2), (3, .int l3), (4, .int l4), (5, .int l5)] [] := by
  unfold f_X2_laysLocal_B66 at hE
  refine zg_iload ok dX2_laysLocal_66 5 rfl ?_
  refine zg_iconst (v := 4) ok dX2_laysLocal_68 (by decide) ?_
  refine zg_icmp_gt (tgt := 86) ok dX2_laysLocal_69 (by decide) hE (fun hE => ?_) (fun hE => ?_)
  · refine zg_sub (L' := [(0, va_rf l0), (1, .int l1), (2, .int l2), (3, .int l3), (4, .int l4)]) [0, 1, 2, 3, 4] rfl ?_
    exact hk86 _ hE
  · refine zg_aload_n ok dX2_laysLocal_72 rfl 0 rfl ?_
    refine zg_getA ok lf_X2_44 dX2_laysLocal_73 hE (fun v8 hE => ?_)
    refine zg_iload ok dX2_laysLocal_76 5 rfl ?_
    refine zg_dconst0 ok dX2_laysLocal_78 ?_
    refine zg_dast ok dX2_laysLocal_79 hE (fun h5 hE => ?_)
    refine zg_iincL (k := 5) (L' := fun v9 => [(5, .int v9), (0, va_rf l0), (1, .int l1), (2, .int l2), (3, .int l3), (4, .int l4)]) ok dX2_laysLocal_80 (by decide +kernel) hE rfl (by decide) (fun _ => rfl) (fun v9 hE => ?_)
    refine zg_goto (tgt := 66) ok dX2_laysLocal_83 (by decide) ?_
    refine zg_sub (L' := [(0, va_rf l0), (1, .int l1), (2, .int l2), (3, .int l3), (4, .int l4), (5, .int v9)]) [1, 2, 3, 4, 5, 0] rfl ?_
    exact hR _ _ hE
theorem gt_f_X2_laysLocal_L66 {Xc : zw_X} {Q : zw_H → Prop} {X : String → Nat → zw_H → Prop} (hl : (zw_l Xc).stackTraces = false) (ok : zw_ok Xc cX2_laysLocal "MultipoleLineModel" yX2_laysLocal.name 6) (tab : zw_tab Xc []) (fin : zw_fin Xc (Option.none : Option Jvm.ClassFile.FieldType) (zq_V Q) X 0 0) (hRm : zw_rm Xc = rm_X2_laysLocal) {kc ks : Nat} (hb : kc ≤ 0 ∧ ks ≤ 0) {l0 : Option Nat} {l1 : Int32} {l2 : Int32} {l3 : Int32} {l4 : Int32} {k86 : zw_H → Prop} (hk86 : ∀  (h : zw_H), k86  h → zw_G Xc kc ks 6 h 86 [(0, va_rf l0), (1, .int l1), (2, .int l2), (3, .int l3), (4, .int l4)] [])  : ∀ (n9 : Nat) (l5 : Int32) (h : zw_H), zl2 (f_X2_laysLocal_B66 (zw_Zf Xc).2.2.2 Q X k86 l0 l1 l2 l3 l4) n9 l5 h → zw_G Xc kc ks 6 h 66 [(0, va_rf l0), (1, .int l1), (2, .int l2), (3, .int l3), (4, .int l4), (5, .int l5)] [] := by
  intro n9
  induction n9 with
  | zero => intro l5 h hE; exact hE.elim
  | succ n9 ih => intro l5 h hE; exact gt_f_X2_laysLocal_B66 hl ok tab fin hRm hb ih hk86 hE
set_option maxHeartbeats 8000000 in
theorem gt_f_X2_laysLocal_J130 {Xc : zw_X} {Q : zw_H → Prop} {X : String → Nat → zw_H → Prop} (hl : (zw_l Xc).stackTraces = false) (ok : zw_ok Xc cX2_laysLocal "MultipoleLineModel" yX2_laysLocal.name 6) (tab : zw_tab Xc []) (fin : zw_fin Xc (Option.none : Option Jvm.ClassFile.FieldType) (zq_V Q) X 0 0) (hRm : zw_rm Xc = rm_X2_laysLocal) {kc ks : Nat} (hb : kc ≤ 0 ∧ ks ≤ 0) {R : Int32 → zw_H → Prop} {l0 : Option Nat} {l1 : Int32} {l2 : Int32} {l3 : Int32} {l4 : Int32} (hR : ∀ (l5 : Int32) (h : zw_H), R l5 h → zw_G Xc kc ks 6 h 101 [(0, va_rf l0), (1, .int l1), (2, .int l2), (3, .int l3), (4, .int l4), (5, .int l5)] []) {k136 : zw_H → Prop} (hk136 : ∀  (h : zw_H), k136  h → zw_G Xc kc ks 6 h 136 [(0, va_rf l0), (1, .int l1), (2, .int l2), (3, .int l3)] [])  {l5 : Int32}  {h : zw_H} (hE : f_X2_laysLocal_J130 (zw_Zf Xc).2.2.2 Q X R k136 l0 l1 l2 l3 l4 l5 h) : zw_G Xc kc ks 6 h 130 [(0, va_rf l0), (1, .int l1), (2, .int l2), (3, .int l3), (4, .int l4), (5, .int l5)] [] := by
  unfold f_X2_laysLocal_J130 at hE
  refine zg_iincL (k := 5) (L' := fun v11 => [(5, .int v11), (0, va_rf l0), (1, .int l1), (2, .int l2), (3, .int l3), (4, .int l4)]) ok dX2_laysLocal_130 (by decide +kernel) hE rfl (by decide) (fun _ => rfl) (fun v11 hE => ?_)
  refine zg_goto (tgt := 101) ok dX2_laysLocal_133 (by decide) ?_
  refine zg_sub (L' := [(0, va_rf l0), (1, .int l1), (2, .int l2), (3, .int l3), (4, .int l4), (5, .int v11)]) [1, 2, 3, 4, 5, 0] rfl ?_
  exact hR _ _ hE
set_option maxHeartbeats 8000000 in
theorem gt_f_X2_laysLocal_B101 {Xc : zw_X} {Q : zw_H → Prop} {X : String → Nat → zw_H → Prop} (hl : (zw_l Xc).stackTraces = false) (ok : zw_ok Xc cX2_laysLocal "MultipoleLineModel" yX2_laysLocal.name 6) (tab : zw_tab Xc []) (fin : zw_fin Xc (Option.none : Option Jvm.ClassFile.FieldType) (zq_V Q) X 0 0) (hRm : zw_rm Xc = rm_X2_laysLocal) {kc ks : Nat} (hb : kc ≤ 0 ∧ ks ≤ 0) {R : Int32 → zw_H → Prop} {l0 : Option Nat} {l1 : Int32} {l2 : Int32} {l3 : Int32} {l4 : Int32} (hR : ∀ (l5 : Int32) (h : zw_H), R l5 h → zw_G Xc kc ks 6 h 101 [(0, va_rf l0), (1, .int l1), (2, .int l2), (3, .int l3), (4, .int l4), (5, .int l5)] []) {k136 : zw_H → Prop} (hk136 : ∀  (h : zw_H), k136  h → zw_G Xc kc ks 6 h 136 [(0, va_rf l0), (1, .int l1), (2, .int l2), (3, .int l3)] [])  {l5 : Int32} {h : zw_H} (hE : f_X2_laysLocal_B101 (zw_Zf Xc).2.2.2 Q X k136 l0 l1 l2 l3 l4 R l5 h) : zw_G Xc kc ks 6 h 101 [(0, va_rf l0), (1, .int l1), (2, .int l2), (3, .int l3), (4, .int l4), (5, .int l5)] [] := by
  unfold f_X2_laysLocal_B101 at hE
  refine zg_iload ok dX2_laysLocal_101 5 rfl ?_
  refine zg_iconst (v := 1) ok dX2_laysLocal_103 (by decide) ?_
  refine zg_iload_n ok dX2_laysLocal_104 rfl 3 rfl ?_
  refine zg_ishl ok dX2_laysLocal_105 ?_
  refine zg_icmp_ge (tgt := 136) ok dX2_laysLocal_106 (by decide) hE (fun hE => ?_) (fun hE => ?_)
  · refine zg_sub (L' := [(0, va_rf l0), (1, .int l1), (2, .int l2), (3, .int l3)]) [0, 1, 2, 3] rfl ?_
    exact hk136 _ hE
  · refine zg_aload_n ok dX2_laysLocal_109 rfl 0 rfl ?_
    refine zg_iload_n ok dX2_laysLocal_110 rfl 3 rfl ?_
    refine zg_iload ok dX2_laysLocal_111 5 rfl ?_
    refine zg_iload ok dX2_laysLocal_113 4 rfl ?_
    refine zg_callV (vs := [zI l3, zI l5, zI l4]) (rest := []) (rm := rm_X2_isFar) ok hRm lk_X2_272 dX2_laysLocal_115 hE (fun hE => mt_X2_isFar hl hE) rfl (Nat.le_of_ble_eq_true rfl) ⟨⟨Nat.le_of_ble_eq_true rfl, Nat.le_of_ble_eq_true rfl⟩, (by show kc + 0 ≤ 0; omega), (by show ks + 0 ≤ 0; omega)⟩ (zg_retI (fun v10 h7 hE => ?_)) (zg_xok ok tab fin ⟨(by show kc + 0 ≤ 0; omega), (by show ks + 0 ≤ 0; omega)⟩)
    refine zg_cost (kc2 := kc) (ks2 := ks) ⟨(by show kc + 0 = kc; omega), (by show ks + 0 = ks; omega)⟩ ?_
    refine zg_if_eq (tgt := 130) ok dX2_laysLocal_118 (by decide) hE (fun hE => ?_) (fun hE => ?_)
    · exact gt_f_X2_laysLocal_J130 hl ok tab fin hRm hb hR hk136 hE
    · refine zg_aload_n ok dX2_laysLocal_121 rfl 0 rfl ?_
      refine zg_iload_n ok dX2_laysLocal_122 rfl 3 rfl ?_
      refine zg_iload ok dX2_laysLocal_123 4 rfl ?_
      refine zg_iload ok dX2_laysLocal_125 5 rfl ?_
      refine zg_callV (vs := [zI l3, zI l4, zI l5]) (rest := []) (rm := rm_X2_takesFar) ok hRm lk_X2_326 dX2_laysLocal_127 hE (fun hE => mt_X2_takesFar hl hE) rfl (Nat.le_of_ble_eq_true rfl) ⟨⟨Nat.le_of_ble_eq_true rfl, Nat.le_of_ble_eq_true rfl⟩, (by show kc + 0 ≤ 0; omega), (by show ks + 0 ≤ 0; omega)⟩ (zg_retV (fun h8 hE => ?_)) (zg_xok ok tab fin ⟨(by show kc + 0 ≤ 0; omega), (by show ks + 0 ≤ 0; omega)⟩)
      refine zg_cost (kc2 := kc) (ks2 := ks) ⟨(by show kc + 0 = kc; omega), (by show ks + 0 = ks; omega)⟩ ?_
      exact gt_f_X2_laysLocal_J130 hl ok tab fin hRm hb hR hk136 hE
theorem gt_f_X2_laysLocal_L101 {Xc : zw_X} {Q : zw_H → Prop} {X : String → Nat → zw_H → Prop} (hl : (zw_l Xc).stackTraces = false) (ok : zw_ok Xc cX2_laysLocal "MultipoleLineModel" yX2_laysLocal.name 6) (tab : zw_tab Xc []) (fin : zw_fin Xc (Option.none : Option Jvm.ClassFile.FieldType) (zq_V Q) X 0 0) (hRm : zw_rm Xc = rm_X2_laysLocal) {kc ks : Nat} (hb : kc ≤ 0 ∧ ks ≤ 0) {l0 : Option Nat} {l1 : Int32} {l2 : Int32} {l3 : Int32} {l4 : Int32} {k136 : zw_H → Prop} (hk136 : ∀  (h : zw_H), k136  h → zw_G Xc kc ks 6 h 136 [(0, va_rf l0), (1, .int l1), (2, .int l2), (3, .int l3)] [])  : ∀ (n9 : Nat) (l5 : Int32) (h : zw_H), zl2 (f_X2_laysLocal_B101 (zw_Zf Xc).2.2.2 Q X k136 l0 l1 l2 l3 l4) n9 l5 h → zw_G Xc kc ks 6 h 101 [(0, va_rf l0), (1, .int l1), (2, .int l2), (3, .int l3), (4, .int l4), (5, .int l5)] [] := by
  intro n9
  induction n9 with
  | zero => intro l5 h hE; exact hE.elim
  | succ n9 ih => intro l5 h hE; exact gt_f_X2_laysLocal_B101 hl ok tab fin hRm hb ih hk136 hE
set_option maxHeartbeats 8000000 in
theorem gt_f_X2_laysLocal_J98 {Xc : zw_X} {Q : zw_H → Prop} {X : String → Nat → zw_H → Prop} (hl : (zw_l Xc).stackTraces = false) (ok : zw_ok Xc cX2_laysLocal "MultipoleLineModel" yX2_laysLocal.name 6) (tab : zw_tab Xc []) (fin : zw_fin Xc (Option.none : Option Jvm.ClassFile.FieldType) (zq_V Q) X 0 0) (hRm : zw_rm Xc = rm_X2_laysLocal) {kc ks : Nat} (hb : kc ≤ 0 ∧ ks ≤ 0) {R : Int32 → zw_H → Prop} {l0 : Option Nat} {l1 : Int32} {l2 : Int32} (hR : ∀ (l3 : Int32) (h : zw_H), R l3 h → zw_G Xc kc ks 6 h 22 [(0, va_rf l0), (1, .int l1), (2, .int l2), (3, .int l3)] []) {k142 : zw_H → Prop} (hk142 : ∀  (h : zw_H), k142  h → zw_G Xc kc ks 6 h 142 [] [])  {l3 : Int32} {l4 : Int32}  {h : zw_H} (hE : f_X2_laysLocal_J98 (zw_Zf Xc).2.2.2 Q X R k142 l0 l1 l2 l3 l4 h) : zw_G Xc kc ks 6 h 98 [(0, va_rf l0), (1, .int l1), (2, .int l2), (3, .int l3), (4, .int l4)] [] := by
  unfold f_X2_laysLocal_J98 at hE
  refine zg_iconst (v := 0) ok dX2_laysLocal_98 (by decide) ?_
  refine zg_istore (L' := [(5, .int 0), (0, va_rf l0), (1, .int l1), (2, .int l2), (3, .int l3), (4, .int l4)]) ok dX2_laysLocal_99 (by decide) rfl ?_
  refine zg_sub (L' := [(0, va_rf l0), (1, .int l1), (2, .int l2), (3, .int l3), (4, .int l4), (5, .int 0)]) [1, 2, 3, 4, 5, 0] rfl ?_
  refine gt_f_X2_laysLocal_L101 hl ok tab fin hRm ⟨(by omega), (by omega)⟩ ?_ _ _ _ hE
  · intro h9 hE
    refine zg_iincL (k := 3) (L' := fun v12 => [(3, .int v12), (0, va_rf l0), (1, .int l1), (2, .int l2)]) ok dX2_laysLocal_136 (by decide +kernel) hE rfl (by decide) (fun _ => rfl) (fun v12 hE => ?_)
    refine zg_goto (tgt := 22) ok dX2_laysLocal_139 (by decide) ?_
    refine zg_sub (L' := [(0, va_rf l0), (1, .int l1), (2, .int l2), (3, .int v12)]) [1, 2, 3, 0] rfl ?_
    exact hR _ _ hE
set_option maxHeartbeats 8000000 in
theorem gt_f_X2_laysLocal_B22 {Xc : zw_X} {Q : zw_H → Prop} {X : String → Nat → zw_H → Prop} (hl : (zw_l Xc).stackTraces = false) (ok : zw_ok Xc cX2_laysLocal "MultipoleLineModel" yX2_laysLocal.name 6) (tab : zw_tab Xc []) (fin : zw_fin Xc (Option.none : Option Jvm.ClassFile.FieldType) (zq_V Q) X 0 0) (hRm : zw_rm Xc = rm_X2_laysLocal) {kc ks : Nat} (hb : kc ≤ 0 ∧ ks ≤ 0) {R : Int32 → zw_H → Prop} {l0 : Option Nat} {l1 : Int32} {l2 : Int32} (hR : ∀ (l3 : Int32) (h : zw_H), R l3 h → zw_G Xc kc ks 6 h 22 [(0, va_rf l0), (1, .int l1), (2, .int l2), (3, .int l3)] []) {k142 : zw_H → Prop} (hk142 : ∀  (h : zw_H), k142  h → zw_G Xc kc ks 6 h 142 [] [])  {l3 : Int32} {h : zw_H} (hE : f_X2_laysLocal_B22 (zw_Zf Xc).2.2.2 Q X k142 l0 l1 l2 R l3 h) : zw_G Xc kc ks 6 h 22 [(0, va_rf l0), (1, .int l1), (2, .int l2), (3, .int l3)] [] := by
  unfold f_X2_laysLocal_B22 at hE
  refine zg_iload_n ok dX2_laysLocal_22 rfl 3 rfl ?_
  refine zg_iload_n ok dX2_laysLocal_23 rfl 1 rfl ?_
  refine zg_icmp_gt (tgt := 142) ok dX2_laysLocal_24 (by decide) hE (fun hE => ?_) (fun hE => ?_)
  · refine zg_sub (L' := []) [] rfl ?_
    exact hk142 _ hE
  · refine zg_iload_n ok dX2_laysLocal_27 rfl 2 rfl ?_
    refine zg_iload_n ok dX2_laysLocal_28 rfl 1 rfl ?_
    refine zg_iload_n ok dX2_laysLocal_29 rfl 3 rfl ?_
    refine zg_isub ok dX2_laysLocal_30 ?_
    refine zg_ishr ok dX2_laysLocal_31 ?_
    refine zg_letI hE (fun v3 hE => ?_)
    refine zg_istore (L' := [(4, .int v3), (0, va_rf l0), (1, .int l1), (2, .int l2), (3, .int l3)]) ok dX2_laysLocal_32 (by decide) rfl ?_
    refine zg_iconst (v := 0) ok dX2_laysLocal_34 (by decide) ?_
    refine zg_istore (L' := [(5, .int 0), (4, .int v3), (0, va_rf l0), (1, .int l1), (2, .int l2), (3, .int l3)]) ok dX2_laysLocal_35 (by decide) rfl ?_
    refine zg_sub (L' := [(0, va_rf l0), (1, .int l1), (2, .int l2), (3, .int l3), (4, .int v3), (5, .int 0)]) [2, 3, 4, 5, 1, 0] rfl ?_
    refine gt_f_X2_laysLocal_L37 hl ok tab fin hRm ⟨(by omega), (by omega)⟩ ?_ _ _ _ hE
    · intro h4 hE
      refine zg_iconst (v := 0) ok dX2_laysLocal_63 (by decide) ?_
      refine zg_istore (L' := [(5, .int 0), (0, va_rf l0), (1, .int l1), (2, .int l2), (3, .int l3), (4, .int v3)]) ok dX2_laysLocal_64 (by decide) rfl ?_
      refine zg_sub (L' := [(0, va_rf l0), (1, .int l1), (2, .int l2), (3, .int l3), (4, .int v3), (5, .int 0)]) [1, 2, 3, 4, 5, 0] rfl ?_
      refine gt_f_X2_laysLocal_L66 hl ok tab fin hRm ⟨(by omega), (by omega)⟩ ?_ _ _ _ hE
      · intro h6 hE
        refine zg_iload_n ok dX2_laysLocal_86 rfl 3 rfl ?_
        refine zg_iconst (v := 2) ok dX2_laysLocal_87 (by decide) ?_
        refine zg_icmp_le (tgt := 98) ok dX2_laysLocal_88 (by decide) hE (fun hE => ?_) (fun hE => ?_)
        · exact gt_f_X2_laysLocal_J98 hl ok tab fin hRm hb hR hk142 hE
        · refine zg_aload_n ok dX2_laysLocal_91 rfl 0 rfl ?_
          refine zg_iload_n ok dX2_laysLocal_92 rfl 3 rfl ?_
          refine zg_iload ok dX2_laysLocal_93 4 rfl ?_
          refine zg_callV (vs := [zI l3, zI v3]) (rest := []) (rm := rm_X2_takesAbove) ok hRm lk_X2_322 dX2_laysLocal_95 hE (fun hE => mt_X2_takesAbove hl hE) rfl (Nat.le_of_ble_eq_true rfl) ⟨⟨Nat.le_of_ble_eq_true rfl, Nat.le_of_ble_eq_true rfl⟩, (by show kc + 0 ≤ 0; omega), (by show ks + 0 ≤ 0; omega)⟩ (zg_retV (fun h10 hE => ?_)) (zg_xok ok tab fin ⟨(by show kc + 0 ≤ 0; omega), (by show ks + 0 ≤ 0; omega)⟩)
          refine zg_cost (kc2 := kc) (ks2 := ks) ⟨(by show kc + 0 = kc; omega), (by show ks + 0 = ks; omega)⟩ ?_
          exact gt_f_X2_laysLocal_J98 hl ok tab fin hRm hb hR hk142 hE
theorem gt_f_X2_laysLocal_L22 {Xc : zw_X} {Q : zw_H → Prop} {X : String → Nat → zw_H → Prop} (hl : (zw_l Xc).stackTraces = false) (ok : zw_ok Xc cX2_laysLocal "MultipoleLineModel" yX2_laysLocal.name 6) (tab : zw_tab Xc []) (fin : zw_fin Xc (Option.none : Option Jvm.ClassFile.FieldType) (zq_V Q) X 0 0) (hRm : zw_rm Xc = rm_X2_laysLocal) {kc ks : Nat} (hb : kc ≤ 0 ∧ ks ≤ 0) {l0 : Option Nat} {l1 : Int32} {l2 : Int32} {k142 : zw_H → Prop} (hk142 : ∀  (h : zw_H), k142  h → zw_G Xc kc ks 6 h 142 [] [])  : ∀ (n9 : Nat) (l3 : Int32) (h : zw_H), zl2 (f_X2_laysLocal_B22 (zw_Zf Xc).2.2.2 Q X k142 l0 l1 l2) n9 l3 h → zw_G Xc kc ks 6 h 22 [(0, va_rf l0), (1, .int l1), (2, .int l2), (3, .int l3)] [] := by
  intro n9
  induction n9 with
  | zero => intro l3 h hE; exact hE.elim
  | succ n9 ih => intro l3 h hE; exact gt_f_X2_laysLocal_B22 hl ok tab fin hRm hb ih hk142 hE
set_option maxHeartbeats 8000000 in
theorem mt_X2_laysLocal {l : Launch} (hl : l.stackTraces = false) {Z : zw_Z} {a0 : Option Nat} {a1 : Int32} {a2 : Int32} {h : zw_H} {Q : zw_H → Prop} {X : String → Nat → zw_H → Prop} (hE : f_X2_laysLocal Z.2.2.2 a0 a1 a2 h Q X) : zw_Met l Z yX2_laysLocal (ws_ yX2_laysLocal cX2_laysLocal 6 (Option.none : Option Jvm.ClassFile.FieldType)) rm_X2_laysLocal [zA a0, zI a1, zI a2] h (zq_V Q) X := by
  refine zg_start (own := "MultipoleLineModel") (by decide +kernel) rfl (Nat.le_of_ble_eq_true rfl) hl (fun Xc ok tab fin hRm hXl hXZ => ?_)
  subst hXl
  subst hXZ
  unfold f_X2_laysLocal at hE
  refine zg_iconst (v := 0) ok dX2_laysLocal_0 (by decide) ?_
  refine zg_istore_n (L' := [(3, .int 0), (0, va_rf a0), (1, .int a1), (2, .int a2)]) ok dX2_laysLocal_1 rfl (by decide) rfl ?_
  refine zg_sub (L' := [(0, va_rf a0), (1, .int a1), (2, .int a2), (3, .int 0)]) [1, 2, 3, 0] rfl ?_
  refine gt_f_X2_laysLocal_L2 hl ok tab fin hRm ⟨Nat.le_of_ble_eq_true rfl, Nat.le_of_ble_eq_true rfl⟩ ?_ _ _ _ hE
  · intro h2 hE
    refine zg_iconst (v := 2) ok dX2_laysLocal_20 (by decide) ?_
    refine zg_istore_n (L' := [(3, .int 2), (0, va_rf a0), (1, .int a1), (2, .int a2)]) ok dX2_laysLocal_21 rfl (by decide) rfl ?_
    refine zg_sub (L' := [(0, va_rf a0), (1, .int a1), (2, .int a2), (3, .int 2)]) [1, 2, 3, 0] rfl ?_
    refine gt_f_X2_laysLocal_L22 hl ok tab fin hRm ⟨Nat.le_of_ble_eq_true rfl, Nat.le_of_ble_eq_true rfl⟩ ?_ _ _ _ hE
    · intro h11 hE
      exact zg_vret ok fin dX2_laysLocal_142 ⟨Nat.le_of_ble_eq_true rfl, Nat.le_of_ble_eq_true rfl⟩ hE
set_option maxHeartbeats 8000000 in
theorem gt_f_X2_localEntry_J24 {Xc : zw_X} {Q : UInt64 → zw_H → Prop} {X : String → Nat → zw_H → Prop} (hl : (zw_l Xc).stackTraces = false) (ok : zw_ok Xc cX2_localEntry "MultipoleLineModel" yX2_localEntry.name 4) (tab : zw_tab Xc []) (fin : zw_fin Xc (Option.some Jvm.ClassFile.FieldType.double) (zq_D Q) X 0 0) (hRm : zw_rm Xc = rm_X2_localEntry)  {l0 : Option Nat} {l1 : Int32} {l2 : Int32} {l3 : Int32} {s0 : Int32} {s1 : Int32} {s2 : Option Nat} {h : zw_H} (hE : f_X2_localEntry_J24 (zw_Zf Xc).2.2.2 Q X  l0 l1 l2 l3 s0 s1 s2 h) : zw_G Xc 0 0 4 h 24 [(0, va_rf l0), (1, .int l1), (2, .int l2), (3, .int l3)] [.int s0, .int s1, va_rf s2] := by
  unfold f_X2_localEntry_J24 at hE
  refine zg_iload_n ok dX2_localEntry_24 rfl 3 rfl ?_
  refine zg_iconst (v := 0) ok dX2_localEntry_25 (by decide) ?_
  refine zg_aload_n ok dX2_localEntry_26 rfl 0 rfl ?_
  refine zg_getA ok lf_X2_9 dX2_localEntry_27 hE (fun v2 hE => ?_)
  refine zg_iconst (v := 4) ok dX2_localEntry_30 (by decide) ?_
  refine zg_iald ok dX2_localEntry_31 hE (fun v3 hE => ?_)
  refine zg_callS (vs := [zI l3, zI 0, zI v3]) (rest := [.int s0, .int s1, va_rf s2]) (rm := rm_X2_in) ok hRm lk_X2_77 dX2_localEntry_32 hE (fun hE => mt_X2_in hl hE) rfl (Nat.le_of_ble_eq_true rfl) ⟨⟨Nat.le_of_ble_eq_true rfl, Nat.le_of_ble_eq_true rfl⟩, Nat.le_of_ble_eq_true rfl, Nat.le_of_ble_eq_true rfl⟩ (zg_retI (fun v4 h1 hE => ?_)) (zg_xok ok tab fin ⟨Nat.le_of_ble_eq_true rfl, Nat.le_of_ble_eq_true rfl⟩)
  refine zg_cost (kc2 := 0) (ks2 := 0) ⟨rfl, rfl⟩ ?_
  refine zg_callV (vs := [zI s1, zI s0, zI v4]) (rest := []) (rm := rm_X2_may) ok hRm lk_X2_60 dX2_localEntry_35 hE (fun hE => mt_X2_may hl hE) rfl (Nat.le_of_ble_eq_true rfl) ⟨⟨Nat.le_of_ble_eq_true rfl, Nat.le_of_ble_eq_true rfl⟩, Nat.le_of_ble_eq_true rfl, Nat.le_of_ble_eq_true rfl⟩ (zg_retI (fun v5 h2 hE => ?_)) (zg_xok ok tab fin ⟨Nat.le_of_ble_eq_true rfl, Nat.le_of_ble_eq_true rfl⟩)
  refine zg_cost (kc2 := 0) (ks2 := 0) ⟨rfl, rfl⟩ ?_
  refine zg_if_ne (tgt := 43) ok dX2_localEntry_38 (by decide) hE (fun hE => ?_) (fun hE => ?_)
  · refine zg_aload_n ok dX2_localEntry_43 rfl 0 rfl ?_
    refine zg_iload_n ok dX2_localEntry_44 rfl 1 rfl ?_
    refine zg_iload_n ok dX2_localEntry_45 rfl 2 rfl ?_
    refine zg_callV (vs := [zI l1, zI l2]) (rest := []) (rm := rm_X2_laysLocal) ok hRm lk_X2_329 dX2_localEntry_46 hE (fun hE => mt_X2_laysLocal hl hE) rfl (Nat.le_of_ble_eq_true rfl) ⟨⟨Nat.le_of_ble_eq_true rfl, Nat.le_of_ble_eq_true rfl⟩, Nat.le_of_ble_eq_true rfl, Nat.le_of_ble_eq_true rfl⟩ (zg_retV (fun h3 hE => ?_)) (zg_xok ok tab fin ⟨Nat.le_of_ble_eq_true rfl, Nat.le_of_ble_eq_true rfl⟩)
    refine zg_cost (kc2 := 0) (ks2 := 0) ⟨rfl, rfl⟩ ?_
    refine zg_aload_n ok dX2_localEntry_49 rfl 0 rfl ?_
    refine zg_getA ok lf_X2_44 dX2_localEntry_50 hE (fun v6 hE => ?_)
    refine zg_iload_n ok dX2_localEntry_53 rfl 3 rfl ?_
    refine zg_dald ok dX2_localEntry_54 hE (fun v7 hE => ?_)
    exact zg_dret ok fin dX2_localEntry_55 ⟨Nat.le_of_ble_eq_true rfl, Nat.le_of_ble_eq_true rfl⟩ hE
  · refine zg_dconst0 ok dX2_localEntry_41 ?_
    exact zg_dret ok fin dX2_localEntry_42 ⟨Nat.le_of_ble_eq_true rfl, Nat.le_of_ble_eq_true rfl⟩ hE
set_option maxHeartbeats 8000000 in
theorem gt_f_X2_localEntry_J23 {Xc : zw_X} {Q : UInt64 → zw_H → Prop} {X : String → Nat → zw_H → Prop} (hl : (zw_l Xc).stackTraces = false) (ok : zw_ok Xc cX2_localEntry "MultipoleLineModel" yX2_localEntry.name 4) (tab : zw_tab Xc []) (fin : zw_fin Xc (Option.some Jvm.ClassFile.FieldType.double) (zq_D Q) X 0 0) (hRm : zw_rm Xc = rm_X2_localEntry)  {l0 : Option Nat} {l1 : Int32} {l2 : Int32} {l3 : Int32} {s0 : Int32} {s1 : Option Nat} {h : zw_H} (hE : f_X2_localEntry_J23 (zw_Zf Xc).2.2.2 Q X  l0 l1 l2 l3 s0 s1 h) : zw_G Xc 0 0 4 h 23 [(0, va_rf l0), (1, .int l1), (2, .int l2), (3, .int l3)] [.int s0, va_rf s1] := by
  unfold f_X2_localEntry_J23 at hE
  refine zg_iconst (v := 0) ok dX2_localEntry_23 (by decide) ?_
  exact gt_f_X2_localEntry_J24 hl ok tab fin hRm  hE
set_option maxHeartbeats 8000000 in
theorem mt_X2_localEntry {l : Launch} (hl : l.stackTraces = false) {Z : zw_Z} {a0 : Option Nat} {a1 : Int32} {a2 : Int32} {a3 : Int32} {h : zw_H} {Q : UInt64 → zw_H → Prop} {X : String → Nat → zw_H → Prop} (hE : f_X2_localEntry Z.2.2.2 a0 a1 a2 a3 h Q X) : zw_Met l Z yX2_localEntry (ws_ yX2_localEntry cX2_localEntry 4 (Option.some Jvm.ClassFile.FieldType.double)) rm_X2_localEntry [zA a0, zI a1, zI a2, zI a3] h (zq_D Q) X := by
  refine zg_start (own := "MultipoleLineModel") (by decide +kernel) rfl (Nat.le_of_ble_eq_true rfl) hl (fun Xc ok tab fin hRm hXl hXZ => ?_)
  subst hXl
  subst hXZ
  unfold f_X2_localEntry at hE
  refine zg_aload_n ok dX2_localEntry_0 rfl 0 rfl ?_
  refine zg_aload_n ok dX2_localEntry_1 rfl 0 rfl ?_
  refine zg_getI ok lf_X2_156 dX2_localEntry_2 hE (fun v1 hE => ?_)
  refine zg_iload_n ok dX2_localEntry_5 rfl 1 rfl ?_
  refine zg_iconst (v := 2) ok dX2_localEntry_6 (by decide) ?_
  refine zg_icmp_lt (tgt := 23) ok dX2_localEntry_7 (by decide) hE (fun hE => ?_) (fun hE => ?_)
  · exact gt_f_X2_localEntry_J23 hl ok tab fin hRm  hE
  · refine zg_aload_n ok dX2_localEntry_10 rfl 0 rfl ?_
    refine zg_iload_n ok dX2_localEntry_11 rfl 1 rfl ?_
    refine zg_iload_n ok dX2_localEntry_12 rfl 2 rfl ?_
    refine zg_callV (vs := [zI a1, zI a2]) (rest := [.int v1, va_rf a0]) (rm := rm_X2_isBox) ok hRm lk_X2_222 dX2_localEntry_13 hE (fun hE => mt_X2_isBox hl hE) rfl (Nat.le_of_ble_eq_true rfl) ⟨⟨Nat.le_of_ble_eq_true rfl, Nat.le_of_ble_eq_true rfl⟩, Nat.le_of_ble_eq_true rfl, Nat.le_of_ble_eq_true rfl⟩ (zg_retI (fun v8 h4 hE => ?_)) (zg_xok ok tab fin ⟨Nat.le_of_ble_eq_true rfl, Nat.le_of_ble_eq_true rfl⟩)
    refine zg_cost (kc2 := 0) (ks2 := 0) ⟨rfl, rfl⟩ ?_
    refine zg_if_eq (tgt := 23) ok dX2_localEntry_16 (by decide) hE (fun hE => ?_) (fun hE => ?_)
    · exact gt_f_X2_localEntry_J23 hl ok tab fin hRm  hE
    · refine zg_iconst (v := 1) ok dX2_localEntry_19 (by decide) ?_
      refine zg_goto (tgt := 24) ok dX2_localEntry_20 (by decide) ?_
      exact gt_f_X2_localEntry_J24 hl ok tab fin hRm  hE
set_option maxHeartbeats 8000000 in
theorem gt_f_X2_localSum_B37 {Xc : zw_X} {Q : UInt64 → zw_H → Prop} {X : String → Nat → zw_H → Prop} (hl : (zw_l Xc).stackTraces = false) (ok : zw_ok Xc cX2_localSum "MultipoleLineModel" yX2_localSum.name 6) (tab : zw_tab Xc []) (fin : zw_fin Xc (Option.some Jvm.ClassFile.FieldType.double) (zq_D Q) X 0 0) (hRm : zw_rm Xc = rm_X2_localSum) {kc ks : Nat} (hb : kc ≤ 0 ∧ ks ≤ 0) {R : UInt64 → Int32 → zw_H → Prop} {l0 : Option Nat} {l1 : Int32} {l2 : Int32} (hR : ∀ (l3 : UInt64) (l5 : Int32) (h : zw_H), R l3 l5 h → zw_G Xc kc ks 6 h 37 [(0, va_rf l0), (1, .int l1), (2, .int l2), (3, .double l3), (5, .int l5)] []) {k84 : UInt64 → zw_H → Prop} (hk84 : ∀ (l3 : UInt64) (h : zw_H), k84 l3 h → zw_G Xc kc ks 6 h 84 [(3, .double l3)] [])  {l3 : UInt64} {l5 : Int32} {h : zw_H} (hE : f_X2_localSum_B37 (zw_Zf Xc).2.2.2 Q X k84 l0 l1 l2 R l3 l5 h) : zw_G Xc kc ks 6 h 37 [(0, va_rf l0), (1, .int l1), (2, .int l2), (3, .double l3), (5, .int l5)] [] := by
  unfold f_X2_localSum_B37 at hE
  refine zg_iload ok dX2_localSum_37 4 rfl ?_
  refine zg_aload_n ok dX2_localSum_39 rfl 0 rfl ?_
  refine zg_getA ok lf_X2_9 dX2_localSum_40 hE (fun v7 hE => ?_)
  refine zg_iconst (v := 4) ok dX2_localSum_43 (by decide) ?_
  refine zg_iald ok dX2_localSum_44 hE (fun v8 hE => ?_)
  refine zg_icmp_gt (tgt := 84) ok dX2_localSum_45 (by decide) hE (fun hE => ?_) (fun hE => ?_)
  · refine zg_sub (L' := [(3, .double l3)]) [3] rfl ?_
    exact hk84 _ _ hE
  · refine zg_dload_n ok dX2_localSum_48 rfl 3 rfl ?_
    refine zg_aload_n ok dX2_localSum_49 rfl 0 rfl ?_
    refine zg_getA ok lf_X2_44 dX2_localSum_50 hE (fun v9 hE => ?_)
    refine zg_iload ok dX2_localSum_53 4 rfl ?_
    refine zg_dald ok dX2_localSum_55 hE (fun v10 hE => ?_)
    refine zg_dconst1 ok dX2_localSum_56 ?_
    refine zg_iload_n ok dX2_localSum_57 rfl 1 rfl ?_
    refine zg_aload_n ok dX2_localSum_58 rfl 0 rfl ?_
    refine zg_getA ok lf_X2_9 dX2_localSum_59 hE (fun v11 hE => ?_)
    refine zg_iconst (v := 3) ok dX2_localSum_62 (by decide) ?_
    refine zg_iald ok dX2_localSum_63 hE (fun v12 hE => ?_)
    refine zg_iload_n ok dX2_localSum_64 rfl 2 rfl ?_
    refine zg_callS (vs := [zI v12, zI l2]) (rest := [.int l1, .double FP.dconst1, .double v10, .double l3]) (rm := rm_X2_centre) ok hRm lk_X2_226 dX2_localSum_65 hE (fun hE => mt_X2_centre hl hE) rfl (Nat.le_of_ble_eq_true rfl) ⟨⟨Nat.le_of_ble_eq_true rfl, Nat.le_of_ble_eq_true rfl⟩, (by show kc + 0 ≤ 0; omega), (by show ks + 0 ≤ 0; omega)⟩ (zg_retI (fun v13 h4 hE => ?_)) (zg_xok ok tab fin ⟨(by show kc + 0 ≤ 0; omega), (by show ks + 0 ≤ 0; omega)⟩)
    refine zg_cost (kc2 := kc) (ks2 := ks) ⟨(by show kc + 0 = kc; omega), (by show ks + 0 = ks; omega)⟩ ?_
    refine zg_isub ok dX2_localSum_68 ?_
    refine zg_i2d ok dX2_localSum_69 ?_
    refine zg_iload ok dX2_localSum_70 4 rfl ?_
    refine zg_callS (vs := [zD FP.dconst1, zD (FP.i2d (l1 - v13)), zI l5]) (rest := [.double v10, .double l3]) (rm := rm_X2_times) ok hRm lk_X2_318 dX2_localSum_72 hE (fun hE => mt_X2_times hl hE) rfl (Nat.le_of_ble_eq_true rfl) ⟨⟨Nat.le_of_ble_eq_true rfl, Nat.le_of_ble_eq_true rfl⟩, (by show kc + 0 ≤ 0; omega), (by show ks + 0 ≤ 0; omega)⟩ (zg_retD (fun v14 h5 hE => ?_)) (zg_xok ok tab fin ⟨(by show kc + 0 ≤ 0; omega), (by show ks + 0 ≤ 0; omega)⟩)
    refine zg_cost (kc2 := kc) (ks2 := ks) ⟨(by show kc + 0 = kc; omega), (by show ks + 0 = ks; omega)⟩ ?_
    refine zg_dmulE ok dX2_localSum_75 hE (fun hE => ?_)
    refine zg_letD hE (fun v15 hE => ?_)
    refine zg_daddE ok dX2_localSum_76 hE (fun hE => ?_)
    refine zg_letD hE (fun v16 hE => ?_)
    refine zg_dstore_n (L' := [(3, .double v16), (0, va_rf l0), (1, .int l1), (2, .int l2), (5, .int l5)]) ok dX2_localSum_77 rfl (by decide) rfl ?_
    refine zg_iincL (k := 4) (L' := fun v17 => [(5, .int v17), (3, .double v16), (0, va_rf l0), (1, .int l1), (2, .int l2)]) ok dX2_localSum_78 (by decide +kernel) hE rfl (by decide) (fun _ => rfl) (fun v17 hE => ?_)
    refine zg_goto (tgt := 37) ok dX2_localSum_81 (by decide) ?_
    refine zg_sub (L' := [(0, va_rf l0), (1, .int l1), (2, .int l2), (3, .double v16), (5, .int v17)]) [2, 3, 4, 1, 0] rfl ?_
    exact hR _ _ _ hE
theorem gt_f_X2_localSum_L37 {Xc : zw_X} {Q : UInt64 → zw_H → Prop} {X : String → Nat → zw_H → Prop} (hl : (zw_l Xc).stackTraces = false) (ok : zw_ok Xc cX2_localSum "MultipoleLineModel" yX2_localSum.name 6) (tab : zw_tab Xc []) (fin : zw_fin Xc (Option.some Jvm.ClassFile.FieldType.double) (zq_D Q) X 0 0) (hRm : zw_rm Xc = rm_X2_localSum) {kc ks : Nat} (hb : kc ≤ 0 ∧ ks ≤ 0) {l0 : Option Nat} {l1 : Int32} {l2 : Int32} {k84 : UInt64 → zw_H → Prop} (hk84 : ∀ (l3 : UInt64) (h : zw_H), k84 l3 h → zw_G Xc kc ks 6 h 84 [(3, .double l3)] [])  : ∀ (n9 : Nat) (l3 : UInt64) (l5 : Int32) (h : zw_H), zl3 (f_X2_localSum_B37 (zw_Zf Xc).2.2.2 Q X k84 l0 l1 l2) n9 l3 l5 h → zw_G Xc kc ks 6 h 37 [(0, va_rf l0), (1, .int l1), (2, .int l2), (3, .double l3), (5, .int l5)] [] := by
  intro n9
  induction n9 with
  | zero => intro l3 l5 h hE; exact hE.elim
  | succ n9 ih => intro l3 l5 h hE; exact gt_f_X2_localSum_B37 hl ok tab fin hRm hb ih hk84 hE
set_option maxHeartbeats 8000000 in
theorem mt_X2_localSum {l : Launch} (hl : l.stackTraces = false) {Z : zw_Z} {a0 : Option Nat} {a1 : Int32} {h : zw_H} {Q : UInt64 → zw_H → Prop} {X : String → Nat → zw_H → Prop} (hE : f_X2_localSum Z.2.2.2 a0 a1 h Q X) : zw_Met l Z yX2_localSum (ws_ yX2_localSum cX2_localSum 6 (Option.some Jvm.ClassFile.FieldType.double)) rm_X2_localSum [zA a0, zI a1] h (zq_D Q) X := by
  refine zg_start (own := "MultipoleLineModel") (by decide +kernel) rfl (Nat.le_of_ble_eq_true rfl) hl (fun Xc ok tab fin hRm hXl hXZ => ?_)
  subst hXl
  subst hXZ
  unfold f_X2_localSum at hE
  refine zg_aload_n ok dX2_localSum_0 rfl 0 rfl ?_
  refine zg_iload_n ok dX2_localSum_1 rfl 1 rfl ?_
  refine zg_callV (vs := [zI a1]) (rest := []) (rm := rm_X2_mayPoint) ok hRm lk_X2_216 dX2_localSum_2 hE (fun hE => mt_X2_mayPoint hl hE) rfl (Nat.le_of_ble_eq_true rfl) ⟨⟨Nat.le_of_ble_eq_true rfl, Nat.le_of_ble_eq_true rfl⟩, Nat.le_of_ble_eq_true rfl, Nat.le_of_ble_eq_true rfl⟩ (zg_retI (fun v1 h1 hE => ?_)) (zg_xok ok tab fin ⟨Nat.le_of_ble_eq_true rfl, Nat.le_of_ble_eq_true rfl⟩)
  refine zg_cost (kc2 := 0) (ks2 := 0) ⟨rfl, rfl⟩ ?_
  refine zg_if_ne (tgt := 10) ok dX2_localSum_5 (by decide) hE (fun hE => ?_) (fun hE => ?_)
  · refine zg_aload_n ok dX2_localSum_10 rfl 0 rfl ?_
    refine zg_getA ok lf_X2_9 dX2_localSum_11 hE (fun v2 hE => ?_)
    refine zg_iconst (v := 3) ok dX2_localSum_14 (by decide) ?_
    refine zg_iald ok dX2_localSum_15 hE (fun v3 hE => ?_)
    refine zg_iload_n ok dX2_localSum_16 rfl 1 rfl ?_
    refine zg_callS (vs := [zI v3, zI a1]) (rest := []) (rm := rm_X2_boxOf) ok hRm lk_X2_178 dX2_localSum_17 hE (fun hE => mt_X2_boxOf hl hE) rfl (Nat.le_of_ble_eq_true rfl) ⟨⟨Nat.le_of_ble_eq_true rfl, Nat.le_of_ble_eq_true rfl⟩, Nat.le_of_ble_eq_true rfl, Nat.le_of_ble_eq_true rfl⟩ (zg_retI (fun v4 h2 hE => ?_)) (zg_xok ok tab fin ⟨Nat.le_of_ble_eq_true rfl, Nat.le_of_ble_eq_true rfl⟩)
    refine zg_cost (kc2 := 0) (ks2 := 0) ⟨rfl, rfl⟩ ?_
    refine zg_istore_n (L' := [(2, .int v4), (0, va_rf a0), (1, .int a1)]) ok dX2_localSum_20 rfl (by decide) rfl ?_
    refine zg_aload_n ok dX2_localSum_21 rfl 1 rfl ?_
    refine zg_aload_n ok dX2_localSum_22 rfl 1 rfl ?_
    refine zg_getA ok lf_X2_9 dX2_localSum_23 hE (fun v5 hE => ?_)
    refine zg_iconst (v := 3) ok dX2_localSum_26 (by decide) ?_
    refine zg_iald ok dX2_localSum_27 hE (fun v6 hE => ?_)
    refine zg_iload_n ok dX2_localSum_28 rfl 0 rfl ?_
    refine zg_callV (vs := [zI v6, zI v4]) (rest := []) (rm := rm_X2_laysLocal) ok hRm lk_X2_329 dX2_localSum_29 hE (fun hE => mt_X2_laysLocal hl hE) rfl (Nat.le_of_ble_eq_true rfl) ⟨⟨Nat.le_of_ble_eq_true rfl, Nat.le_of_ble_eq_true rfl⟩, Nat.le_of_ble_eq_true rfl, Nat.le_of_ble_eq_true rfl⟩ (zg_retV (fun h3 hE => ?_)) (zg_xok ok tab fin ⟨Nat.le_of_ble_eq_true rfl, Nat.le_of_ble_eq_true rfl⟩)
    refine zg_cost (kc2 := 0) (ks2 := 0) ⟨rfl, rfl⟩ ?_
    refine zg_dconst0 ok dX2_localSum_32 ?_
    refine zg_dstore_n (L' := [(3, .double FP.dconst0), (2, .int v4), (0, va_rf a0), (1, .int a1)]) ok dX2_localSum_33 rfl (by decide) rfl ?_
    refine zg_iconst (v := 0) ok dX2_localSum_34 (by decide) ?_
    refine zg_istore (L' := [(5, .int 0), (3, .double FP.dconst0), (2, .int v4), (0, va_rf a0), (1, .int a1)]) ok dX2_localSum_35 (by decide) rfl ?_
    refine zg_sub (L' := [(0, va_rf a0), (1, .int a1), (2, .int v4), (3, .double FP.dconst0), (5, .int 0)]) [3, 4, 2, 1, 0] rfl ?_
    refine gt_f_X2_localSum_L37 hl ok tab fin hRm ⟨Nat.le_of_ble_eq_true rfl, Nat.le_of_ble_eq_true rfl⟩ ?_ _ _ _ _ hE
    · intro v18 h6 hE
      refine zg_dload_n ok dX2_localSum_84 rfl 0 rfl ?_
      exact zg_dret ok fin dX2_localSum_85 ⟨Nat.le_of_ble_eq_true rfl, Nat.le_of_ble_eq_true rfl⟩ hE
  · refine zg_dconst0 ok dX2_localSum_8 ?_
    exact zg_dret ok fin dX2_localSum_9 ⟨Nat.le_of_ble_eq_true rfl, Nat.le_of_ble_eq_true rfl⟩ hE
set_option maxHeartbeats 8000000 in
theorem gt_f_X2_pullOf_J91 {Xc : zw_X} {Q : UInt64 → zw_H → Prop} {X : String → Nat → zw_H → Prop} (hl : (zw_l Xc).stackTraces = false) (ok : zw_ok Xc cX2_pullOf "MultipoleLineModel" yX2_pullOf.name 9) (tab : zw_tab Xc []) (fin : zw_fin Xc (Option.some Jvm.ClassFile.FieldType.double) (zq_D Q) X 0 0) (hRm : zw_rm Xc = rm_X2_pullOf) {kc ks : Nat} (hb : kc ≤ 0 ∧ ks ≤ 0) {R : UInt64 → Int32 → zw_H → Prop} {l0 : Option Nat} {l1 : Int32} {l2 : Int32} (hR : ∀ (l3 : UInt64) (l5 : Int32) (h : zw_H), R l3 l5 h → zw_G Xc kc ks 9 h 5 [(0, va_rf l0), (1, .int l1), (2, .int l2), (3, .double l3), (5, .int l5)] []) {k97 : UInt64 → zw_H → Prop} (hk97 : ∀ (l3 : UInt64) (h : zw_H), k97 l3 h → zw_G Xc kc ks 9 h 97 [(3, .double l3)] [])  {l3 : UInt64} {l5 : Int32}  {h : zw_H} (hE : f_X2_pullOf_J91 (zw_Zf Xc).2.2.2 Q X R k97 l0 l1 l2 l3 l5 h) : zw_G Xc kc ks 9 h 91 [(0, va_rf l0), (1, .int l1), (2, .int l2), (3, .double l3), (5, .int l5)] [] := by
  unfold f_X2_pullOf_J91 at hE
  refine zg_iincL (k := 4) (L' := fun v5 => [(5, .int v5), (0, va_rf l0), (1, .int l1), (2, .int l2), (3, .double l3)]) ok dX2_pullOf_91 (by decide +kernel) hE rfl (by decide) (fun _ => rfl) (fun v5 hE => ?_)
  refine zg_goto (tgt := 5) ok dX2_pullOf_94 (by decide) ?_
  refine zg_sub (L' := [(0, va_rf l0), (1, .int l1), (2, .int l2), (3, .double l3), (5, .int v5)]) [1, 2, 3, 4, 0] rfl ?_
  exact hR _ _ _ hE
set_option maxHeartbeats 8000000 in
theorem gt_f_X2_pullOf_J90 {Xc : zw_X} {Q : UInt64 → zw_H → Prop} {X : String → Nat → zw_H → Prop} (hl : (zw_l Xc).stackTraces = false) (ok : zw_ok Xc cX2_pullOf "MultipoleLineModel" yX2_pullOf.name 9) (tab : zw_tab Xc []) (fin : zw_fin Xc (Option.some Jvm.ClassFile.FieldType.double) (zq_D Q) X 0 0) (hRm : zw_rm Xc = rm_X2_pullOf) {kc ks : Nat} (hb : kc ≤ 0 ∧ ks ≤ 0) {R : UInt64 → Int32 → zw_H → Prop} {l0 : Option Nat} {l1 : Int32} {l2 : Int32} (hR : ∀ (l3 : UInt64) (l5 : Int32) (h : zw_H), R l3 l5 h → zw_G Xc kc ks 9 h 5 [(0, va_rf l0), (1, .int l1), (2, .int l2), (3, .double l3), (5, .int l5)] []) {k97 : UInt64 → zw_H → Prop} (hk97 : ∀ (l3 : UInt64) (h : zw_H), k97 l3 h → zw_G Xc kc ks 9 h 97 [(3, .double l3)] [])  {l5 : Int32} {s0 : UInt64} {h : zw_H} (hE : f_X2_pullOf_J90 (zw_Zf Xc).2.2.2 Q X R k97 l0 l1 l2 l5 s0 h) : zw_G Xc kc ks 9 h 90 [(0, va_rf l0), (1, .int l1), (2, .int l2), (5, .int l5)] [.double s0] := by
  unfold f_X2_pullOf_J90 at hE
  refine zg_dstore_n (L' := [(3, .double s0), (0, va_rf l0), (1, .int l1), (2, .int l2), (5, .int l5)]) ok dX2_pullOf_90 rfl (by decide) rfl ?_
  refine zg_sub (L' := [(0, va_rf l0), (1, .int l1), (2, .int l2), (3, .double s0), (5, .int l5)]) [1, 2, 3, 0, 4] rfl ?_
  exact gt_f_X2_pullOf_J91 hl ok tab fin hRm hb hR hk97 hE
set_option maxHeartbeats 8000000 in
theorem gt_f_X2_pullOf_J51 {Xc : zw_X} {Q : UInt64 → zw_H → Prop} {X : String → Nat → zw_H → Prop} (hl : (zw_l Xc).stackTraces = false) (ok : zw_ok Xc cX2_pullOf "MultipoleLineModel" yX2_pullOf.name 9) (tab : zw_tab Xc []) (fin : zw_fin Xc (Option.some Jvm.ClassFile.FieldType.double) (zq_D Q) X 0 0) (hRm : zw_rm Xc = rm_X2_pullOf) {kc ks : Nat} (hb : kc ≤ 0 ∧ ks ≤ 0) {R : UInt64 → Int32 → zw_H → Prop} {l0 : Option Nat} {l1 : Int32} {l2 : Int32} (hR : ∀ (l3 : UInt64) (l5 : Int32) (h : zw_H), R l3 l5 h → zw_G Xc kc ks 9 h 5 [(0, va_rf l0), (1, .int l1), (2, .int l2), (3, .double l3), (5, .int l5)] []) {k97 : UInt64 → zw_H → Prop} (hk97 : ∀ (l3 : UInt64) (h : zw_H), k97 l3 h → zw_G Xc kc ks 9 h 97 [(3, .double l3)] [])  {l3 : UInt64} {l5 : Int32} {l6 : Int32}  {h : zw_H} (hE : f_X2_pullOf_J51 (zw_Zf Xc).2.2.2 Q X R k97 l0 l1 l2 l3 l5 l6 h) : zw_G Xc kc ks 9 h 51 [(0, va_rf l0), (1, .int l1), (2, .int l2), (3, .double l3), (5, .int l5), (6, .int l6)] [] := by
  unfold f_X2_pullOf_J51 at hE
  refine zg_aload_n ok dX2_pullOf_51 rfl 0 rfl ?_
  refine zg_iload ok dX2_pullOf_52 4 rfl ?_
  refine zg_iconst (v := 1) ok dX2_pullOf_54 (by decide) ?_
  refine zg_callV (vs := [zI l5, zI 1]) (rest := []) (rm := rm_X2_of) ok hRm lk_X2_163 dX2_pullOf_55 hE (fun hE => mt_X2_of hl hE) rfl (Nat.le_of_ble_eq_true rfl) ⟨⟨Nat.le_of_ble_eq_true rfl, Nat.le_of_ble_eq_true rfl⟩, (by show kc + 0 ≤ 0; omega), (by show ks + 0 ≤ 0; omega)⟩ (zg_retI (fun v6 h3 hE => ?_)) (zg_xok ok tab fin ⟨(by show kc + 0 ≤ 0; omega), (by show ks + 0 ≤ 0; omega)⟩)
  refine zg_cost (kc2 := kc) (ks2 := ks) ⟨(by show kc + 0 = kc; omega), (by show ks + 0 = ks; omega)⟩ ?_
  refine zg_i2d ok dX2_pullOf_58 ?_
  refine zg_iload ok dX2_pullOf_59 5 rfl ?_
  refine zg_iload ok dX2_pullOf_61 5 rfl ?_
  refine zg_imul ok dX2_pullOf_63 ?_
  refine zg_i2d ok dX2_pullOf_64 ?_
  refine zg_ddivE ok dX2_pullOf_65 hE (fun hE => ?_)
  refine zg_letD hE (fun v7 hE => ?_)
  refine zg_dstore (L' := [(7, .double v7), (0, va_rf l0), (1, .int l1), (2, .int l2), (3, .double l3), (5, .int l5), (6, .int l6)]) ok dX2_pullOf_66 (by decide) rfl ?_
  refine zg_aload_n ok dX2_pullOf_68 rfl 1 rfl ?_
  refine zg_iload ok dX2_pullOf_69 5 rfl ?_
  refine zg_iconst (v := 0) ok dX2_pullOf_71 (by decide) ?_
  refine zg_callV (vs := [zI l5, zI 0]) (rest := []) (rm := rm_X2_of) ok hRm lk_X2_163 dX2_pullOf_72 hE (fun hE => mt_X2_of hl hE) rfl (Nat.le_of_ble_eq_true rfl) ⟨⟨Nat.le_of_ble_eq_true rfl, Nat.le_of_ble_eq_true rfl⟩, (by show kc + 0 ≤ 0; omega), (by show ks + 0 ≤ 0; omega)⟩ (zg_retI (fun v8 h4 hE => ?_)) (zg_xok ok tab fin ⟨(by show kc + 0 ≤ 0; omega), (by show ks + 0 ≤ 0; omega)⟩)
  refine zg_cost (kc2 := kc) (ks2 := ks) ⟨(by show kc + 0 = kc; omega), (by show ks + 0 = ks; omega)⟩ ?_
  refine zg_iload_n ok dX2_pullOf_75 rfl 2 rfl ?_
  refine zg_icmp_le (tgt := 86) ok dX2_pullOf_76 (by decide) hE (fun hE => ?_) (fun hE => ?_)
  · refine zg_dload_n ok dX2_pullOf_86 rfl 4 rfl ?_
    refine zg_dload ok dX2_pullOf_87 0 rfl ?_
    refine zg_dsubE ok dX2_pullOf_89 hE (fun hE => ?_)
    refine zg_letD hE (fun v9 hE => ?_)
    refine zg_sub (L' := [(0, va_rf l0), (1, .int l1), (2, .int l2), (5, .int l5)]) [1, 2, 3, 5] rfl ?_
    exact gt_f_X2_pullOf_J90 hl ok tab fin hRm hb hR hk97 hE
  · refine zg_dload_n ok dX2_pullOf_79 rfl 4 rfl ?_
    refine zg_dload ok dX2_pullOf_80 0 rfl ?_
    refine zg_daddE ok dX2_pullOf_82 hE (fun hE => ?_)
    refine zg_letD hE (fun v10 hE => ?_)
    refine zg_goto (tgt := 90) ok dX2_pullOf_83 (by decide) ?_
    refine zg_sub (L' := [(0, va_rf l0), (1, .int l1), (2, .int l2), (5, .int l5)]) [1, 2, 3, 5] rfl ?_
    exact gt_f_X2_pullOf_J90 hl ok tab fin hRm hb hR hk97 hE
set_option maxHeartbeats 8000000 in
theorem gt_f_X2_pullOf_B5 {Xc : zw_X} {Q : UInt64 → zw_H → Prop} {X : String → Nat → zw_H → Prop} (hl : (zw_l Xc).stackTraces = false) (ok : zw_ok Xc cX2_pullOf "MultipoleLineModel" yX2_pullOf.name 9) (tab : zw_tab Xc []) (fin : zw_fin Xc (Option.some Jvm.ClassFile.FieldType.double) (zq_D Q) X 0 0) (hRm : zw_rm Xc = rm_X2_pullOf) {kc ks : Nat} (hb : kc ≤ 0 ∧ ks ≤ 0) {R : UInt64 → Int32 → zw_H → Prop} {l0 : Option Nat} {l1 : Int32} {l2 : Int32} (hR : ∀ (l3 : UInt64) (l5 : Int32) (h : zw_H), R l3 l5 h → zw_G Xc kc ks 9 h 5 [(0, va_rf l0), (1, .int l1), (2, .int l2), (3, .double l3), (5, .int l5)] []) {k97 : UInt64 → zw_H → Prop} (hk97 : ∀ (l3 : UInt64) (h : zw_H), k97 l3 h → zw_G Xc kc ks 9 h 97 [(3, .double l3)] [])  {l3 : UInt64} {l5 : Int32} {h : zw_H} (hE : f_X2_pullOf_B5 (zw_Zf Xc).2.2.2 Q X k97 l0 l1 l2 R l3 l5 h) : zw_G Xc kc ks 9 h 5 [(0, va_rf l0), (1, .int l1), (2, .int l2), (3, .double l3), (5, .int l5)] [] := by
  unfold f_X2_pullOf_B5 at hE
  refine zg_iload ok dX2_pullOf_5 4 rfl ?_
  refine zg_aload_n ok dX2_pullOf_7 rfl 0 rfl ?_
  refine zg_getA ok lf_X2_9 dX2_pullOf_8 hE (fun v1 hE => ?_)
  refine zg_iconst (v := 0) ok dX2_pullOf_11 (by decide) ?_
  refine zg_iald ok dX2_pullOf_12 hE (fun v2 hE => ?_)
  refine zg_icmp_ge (tgt := 97) ok dX2_pullOf_13 (by decide) hE (fun hE => ?_) (fun hE => ?_)
  · refine zg_sub (L' := [(3, .double l3)]) [3] rfl ?_
    exact hk97 _ _ hE
  · refine zg_aload_n ok dX2_pullOf_16 rfl 0 rfl ?_
    refine zg_iload ok dX2_pullOf_17 4 rfl ?_
    refine zg_iconst (v := 0) ok dX2_pullOf_19 (by decide) ?_
    refine zg_callV (vs := [zI l5, zI 0]) (rest := []) (rm := rm_X2_of) ok hRm lk_X2_163 dX2_pullOf_20 hE (fun hE => mt_X2_of hl hE) rfl (Nat.le_of_ble_eq_true rfl) ⟨⟨Nat.le_of_ble_eq_true rfl, Nat.le_of_ble_eq_true rfl⟩, (by show kc + 0 ≤ 0; omega), (by show ks + 0 ≤ 0; omega)⟩ (zg_retI (fun v3 h1 hE => ?_)) (zg_xok ok tab fin ⟨(by show kc + 0 ≤ 0; omega), (by show ks + 0 ≤ 0; omega)⟩)
    refine zg_cost (kc2 := kc) (ks2 := ks) ⟨(by show kc + 0 = kc; omega), (by show ks + 0 = ks; omega)⟩ ?_
    refine zg_iload_n ok dX2_pullOf_23 rfl 1 rfl ?_
    refine zg_callS (vs := [zI v3, zI l1]) (rest := []) (rm := rm_X2_far) ok hRm lk_X2_187 dX2_pullOf_24 hE (fun hE => mt_X2_far hl hE) rfl (Nat.le_of_ble_eq_true rfl) ⟨⟨Nat.le_of_ble_eq_true rfl, Nat.le_of_ble_eq_true rfl⟩, (by show kc + 0 ≤ 0; omega), (by show ks + 0 ≤ 0; omega)⟩ (zg_retI (fun v4 h2 hE => ?_)) (zg_xok ok tab fin ⟨(by show kc + 0 ≤ 0; omega), (by show ks + 0 ≤ 0; omega)⟩)
    refine zg_cost (kc2 := kc) (ks2 := ks) ⟨(by show kc + 0 = kc; omega), (by show ks + 0 = ks; omega)⟩ ?_
    refine zg_istore (L' := [(6, .int v4), (0, va_rf l0), (1, .int l1), (2, .int l2), (3, .double l3), (5, .int l5)]) ok dX2_pullOf_27 (by decide) rfl ?_
    refine zg_iload ok dX2_pullOf_29 0 rfl ?_
    refine zg_if_eq (tgt := 91) ok dX2_pullOf_31 (by decide) hE (fun hE => ?_) (fun hE => ?_)
    · refine zg_sub (L' := [(0, va_rf l0), (1, .int l1), (2, .int l2), (3, .double l3), (5, .int l5)]) [1, 2, 3, 4, 5] rfl ?_
      exact gt_f_X2_pullOf_J91 hl ok tab fin hRm hb hR hk97 hE
    · refine zg_iload_n ok dX2_pullOf_34 rfl 3 rfl ?_
      refine zg_if_ne (tgt := 51) ok dX2_pullOf_35 (by decide) hE (fun hE => ?_) (fun hE => ?_)
      · refine zg_sub (L' := [(0, va_rf l0), (1, .int l1), (2, .int l2), (3, .double l3), (5, .int l5), (6, .int v4)]) [1, 2, 3, 4, 5, 0] rfl ?_
        exact gt_f_X2_pullOf_J51 hl ok tab fin hRm hb hR hk97 hE
      · refine zg_aload_n ok dX2_pullOf_38 rfl 1 rfl ?_
        refine zg_iload ok dX2_pullOf_39 5 rfl ?_
        refine zg_iload_n ok dX2_pullOf_41 rfl 2 rfl ?_
        refine zg_callV (vs := [zI l5, zI l1]) (rest := []) (rm := rm_X2_isNear) ok hRm lk_X2_263 dX2_pullOf_42 hE (fun hE => mt_X2_isNear hl hE) rfl (Nat.le_of_ble_eq_true rfl) ⟨⟨Nat.le_of_ble_eq_true rfl, Nat.le_of_ble_eq_true rfl⟩, (by show kc + 0 ≤ 0; omega), (by show ks + 0 ≤ 0; omega)⟩ (zg_retI (fun v11 h5 hE => ?_)) (zg_xok ok tab fin ⟨(by show kc + 0 ≤ 0; omega), (by show ks + 0 ≤ 0; omega)⟩)
        refine zg_cost (kc2 := kc) (ks2 := ks) ⟨(by show kc + 0 = kc; omega), (by show ks + 0 = ks; omega)⟩ ?_
        refine zg_if_ne (tgt := 51) ok dX2_pullOf_45 (by decide) hE (fun hE => ?_) (fun hE => ?_)
        · refine zg_sub (L' := [(0, va_rf l0), (1, .int l1), (2, .int l2), (3, .double l3), (5, .int l5), (6, .int v4)]) [1, 2, 3, 4, 5, 0] rfl ?_
          exact gt_f_X2_pullOf_J51 hl ok tab fin hRm hb hR hk97 hE
        · refine zg_goto (tgt := 91) ok dX2_pullOf_48 (by decide) ?_
          refine zg_sub (L' := [(0, va_rf l0), (1, .int l1), (2, .int l2), (3, .double l3), (5, .int l5)]) [1, 2, 3, 4, 5] rfl ?_
          exact gt_f_X2_pullOf_J91 hl ok tab fin hRm hb hR hk97 hE
theorem gt_f_X2_pullOf_L5 {Xc : zw_X} {Q : UInt64 → zw_H → Prop} {X : String → Nat → zw_H → Prop} (hl : (zw_l Xc).stackTraces = false) (ok : zw_ok Xc cX2_pullOf "MultipoleLineModel" yX2_pullOf.name 9) (tab : zw_tab Xc []) (fin : zw_fin Xc (Option.some Jvm.ClassFile.FieldType.double) (zq_D Q) X 0 0) (hRm : zw_rm Xc = rm_X2_pullOf) {kc ks : Nat} (hb : kc ≤ 0 ∧ ks ≤ 0) {l0 : Option Nat} {l1 : Int32} {l2 : Int32} {k97 : UInt64 → zw_H → Prop} (hk97 : ∀ (l3 : UInt64) (h : zw_H), k97 l3 h → zw_G Xc kc ks 9 h 97 [(3, .double l3)] [])  : ∀ (n9 : Nat) (l3 : UInt64) (l5 : Int32) (h : zw_H), zl3 (f_X2_pullOf_B5 (zw_Zf Xc).2.2.2 Q X k97 l0 l1 l2) n9 l3 l5 h → zw_G Xc kc ks 9 h 5 [(0, va_rf l0), (1, .int l1), (2, .int l2), (3, .double l3), (5, .int l5)] [] := by
  intro n9
  induction n9 with
  | zero => intro l3 l5 h hE; exact hE.elim
  | succ n9 ih => intro l3 l5 h hE; exact gt_f_X2_pullOf_B5 hl ok tab fin hRm hb ih hk97 hE
set_option maxHeartbeats 8000000 in
theorem mt_X2_pullOf {l : Launch} (hl : l.stackTraces = false) {Z : zw_Z} {a0 : Option Nat} {a1 : Int32} {a2 : Int32} {h : zw_H} {Q : UInt64 → zw_H → Prop} {X : String → Nat → zw_H → Prop} (hE : f_X2_pullOf Z.2.2.2 a0 a1 a2 h Q X) : zw_Met l Z yX2_pullOf (ws_ yX2_pullOf cX2_pullOf 9 (Option.some Jvm.ClassFile.FieldType.double)) rm_X2_pullOf [zA a0, zI a1, zI a2] h (zq_D Q) X := by
  refine zg_start (own := "MultipoleLineModel") (by decide +kernel) rfl (Nat.le_of_ble_eq_true rfl) hl (fun Xc ok tab fin hRm hXl hXZ => ?_)
  subst hXl
  subst hXZ
  unfold f_X2_pullOf at hE
  refine zg_dconst0 ok dX2_pullOf_0 ?_
  refine zg_dstore_n (L' := [(3, .double FP.dconst0), (0, va_rf a0), (1, .int a1), (2, .int a2)]) ok dX2_pullOf_1 rfl (by decide) rfl ?_
  refine zg_iconst (v := 0) ok dX2_pullOf_2 (by decide) ?_
  refine zg_istore (L' := [(5, .int 0), (3, .double FP.dconst0), (0, va_rf a0), (1, .int a1), (2, .int a2)]) ok dX2_pullOf_3 (by decide) rfl ?_
  refine zg_sub (L' := [(0, va_rf a0), (1, .int a1), (2, .int a2), (3, .double FP.dconst0), (5, .int 0)]) [2, 3, 4, 1, 0] rfl ?_
  refine gt_f_X2_pullOf_L5 hl ok tab fin hRm ⟨Nat.le_of_ble_eq_true rfl, Nat.le_of_ble_eq_true rfl⟩ ?_ _ _ _ _ hE
  · intro v12 h6 hE
    refine zg_dload_n ok dX2_pullOf_97 rfl 0 rfl ?_
    exact zg_dret ok fin dX2_pullOf_98 ⟨Nat.le_of_ble_eq_true rfl, Nat.le_of_ble_eq_true rfl⟩ hE
set_option maxHeartbeats 8000000 in
theorem mt_X2_pullPlain {l : Launch} (hl : l.stackTraces = false) {Z : zw_Z} {a0 : Option Nat} {a1 : Int32} {h : zw_H} {Q : UInt64 → zw_H → Prop} {X : String → Nat → zw_H → Prop} (hE : f_X2_pullPlain Z.2.2.2 a0 a1 h Q X) : zw_Met l Z yX2_pullPlain (ws_ yX2_pullPlain cX2_pullPlain 2 (Option.some Jvm.ClassFile.FieldType.double)) rm_X2_pullPlain [zA a0, zI a1] h (zq_D Q) X := by
  refine zg_start (own := "MultipoleLineModel") (by decide +kernel) rfl (Nat.le_of_ble_eq_true rfl) hl (fun Xc ok tab fin hRm hXl hXZ => ?_)
  subst hXl
  subst hXZ
  unfold f_X2_pullPlain at hE
  refine zg_aload_n ok dX2_pullPlain_0 rfl 0 rfl ?_
  refine zg_iload_n ok dX2_pullPlain_1 rfl 1 rfl ?_
  refine zg_callV (vs := [zI a1]) (rest := []) (rm := rm_X2_mayPoint) ok hRm lk_X2_216 dX2_pullPlain_2 hE (fun hE => mt_X2_mayPoint hl hE) rfl (Nat.le_of_ble_eq_true rfl) ⟨⟨Nat.le_of_ble_eq_true rfl, Nat.le_of_ble_eq_true rfl⟩, Nat.le_of_ble_eq_true rfl, Nat.le_of_ble_eq_true rfl⟩ (zg_retI (fun v1 h1 hE => ?_)) (zg_xok ok tab fin ⟨Nat.le_of_ble_eq_true rfl, Nat.le_of_ble_eq_true rfl⟩)
  refine zg_cost (kc2 := 0) (ks2 := 0) ⟨rfl, rfl⟩ ?_
  refine zg_if_eq (tgt := 17) ok dX2_pullPlain_5 (by decide) hE (fun hE => ?_) (fun hE => ?_)
  · refine zg_dconst0 ok dX2_pullPlain_17 ?_
    exact zg_dret ok fin dX2_pullPlain_18 ⟨Nat.le_of_ble_eq_true rfl, Nat.le_of_ble_eq_true rfl⟩ hE
  · refine zg_aload_n ok dX2_pullPlain_8 rfl 0 rfl ?_
    refine zg_iload_n ok dX2_pullPlain_9 rfl 1 rfl ?_
    refine zg_iconst (v := 1) ok dX2_pullPlain_10 (by decide) ?_
    refine zg_callV (vs := [zI a1, zI 1]) (rest := []) (rm := rm_X2_pullOf) ok hRm lk_X2_335 dX2_pullPlain_11 hE (fun hE => mt_X2_pullOf hl hE) rfl (Nat.le_of_ble_eq_true rfl) ⟨⟨Nat.le_of_ble_eq_true rfl, Nat.le_of_ble_eq_true rfl⟩, Nat.le_of_ble_eq_true rfl, Nat.le_of_ble_eq_true rfl⟩ (zg_retD (fun v2 h2 hE => ?_)) (zg_xok ok tab fin ⟨Nat.le_of_ble_eq_true rfl, Nat.le_of_ble_eq_true rfl⟩)
    refine zg_cost (kc2 := 0) (ks2 := 0) ⟨rfl, rfl⟩ ?_
    refine zg_goto (tgt := 18) ok dX2_pullPlain_14 (by decide) ?_
    exact zg_dret ok fin dX2_pullPlain_18 ⟨Nat.le_of_ble_eq_true rfl, Nat.le_of_ble_eq_true rfl⟩ hE
set_option maxHeartbeats 8000000 in
theorem gt_f_X2_pullBy_B15 {Xc : zw_X} {Q : UInt64 → zw_H → Prop} {X : String → Nat → zw_H → Prop} (hl : (zw_l Xc).stackTraces = false) (ok : zw_ok Xc cX2_pullBy "MultipoleLineModel" yX2_pullBy.name 9) (tab : zw_tab Xc []) (fin : zw_fin Xc (Option.some Jvm.ClassFile.FieldType.double) (zq_D Q) X 0 0) (hRm : zw_rm Xc = rm_X2_pullBy) {kc ks : Nat} (hb : kc ≤ 0 ∧ ks ≤ 0) {R : UInt64 → UInt64 → Int32 → zw_H → Prop} {l0 : Option Nat} {l1 : Int32} {l2 : Int32} {l3 : Int32} (hR : ∀ (l4 : UInt64) (l6 : UInt64) (l8 : Int32) (h : zw_H), R l4 l6 l8 h → zw_G Xc kc ks 9 h 15 [(0, va_rf l0), (1, .int l1), (2, .int l2), (3, .int l3), (4, .double l4), (6, .double l6), (8, .int l8)] []) {k62 : UInt64 → zw_H → Prop} (hk62 : ∀ (l4 : UInt64) (h : zw_H), k62 l4 h → zw_G Xc kc ks 9 h 62 [(4, .double l4)] [])  {l4 : UInt64} {l6 : UInt64} {l8 : Int32} {h : zw_H} (hE : f_X2_pullBy_B15 (zw_Zf Xc).2.2.2 Q X k62 l0 l1 l2 l3 R l4 l6 l8 h) : zw_G Xc kc ks 9 h 15 [(0, va_rf l0), (1, .int l1), (2, .int l2), (3, .int l3), (4, .double l4), (6, .double l6), (8, .int l8)] [] := by
  unfold f_X2_pullBy_B15 at hE
  refine zg_iload ok dX2_pullBy_15 6 rfl ?_
  refine zg_aload_n ok dX2_pullBy_17 rfl 0 rfl ?_
  refine zg_getA ok lf_X2_9 dX2_pullBy_18 hE (fun v2 hE => ?_)
  refine zg_iconst (v := 4) ok dX2_pullBy_21 (by decide) ?_
  refine zg_iald ok dX2_pullBy_22 hE (fun v3 hE => ?_)
  refine zg_icmp_gt (tgt := 62) ok dX2_pullBy_23 (by decide) hE (fun hE => ?_) (fun hE => ?_)
  · refine zg_sub (L' := [(4, .double l4)]) [4] rfl ?_
    exact hk62 _ _ hE
  · refine zg_dload ok dX2_pullBy_26 4 rfl ?_
    refine zg_iload ok dX2_pullBy_28 6 rfl ?_
    refine zg_iconst (v := 1) ok dX2_pullBy_30 (by decide) ?_
    refine zg_iadd ok dX2_pullBy_31 ?_
    refine zg_i2l ok dX2_pullBy_32 ?_
    refine zg_aload_n ok dX2_pullBy_33 rfl 0 rfl ?_
    refine zg_iload_n ok dX2_pullBy_34 rfl 1 rfl ?_
    refine zg_iload_n ok dX2_pullBy_35 rfl 2 rfl ?_
    refine zg_iload ok dX2_pullBy_36 6 rfl ?_
    refine zg_callV (vs := [zI l1, zI l2, zI l8]) (rest := [.long ((l8 + 1).toInt64), .double l4]) (rm := rm_X2_momentOf) ok hRm lk_X2_243 dX2_pullBy_38 hE (fun hE => mt_X2_momentOf hl hE) rfl (Nat.le_of_ble_eq_true rfl) ⟨⟨Nat.le_of_ble_eq_true rfl, Nat.le_of_ble_eq_true rfl⟩, (by show kc + 0 ≤ 0; omega), (by show ks + 0 ≤ 0; omega)⟩ (zg_retJ (fun v4 h2 hE => ?_)) (zg_xok ok tab fin ⟨(by show kc + 0 ≤ 0; omega), (by show ks + 0 ≤ 0; omega)⟩)
    refine zg_cost (kc2 := kc) (ks2 := ks) ⟨(by show kc + 0 = kc; omega), (by show ks + 0 = ks; omega)⟩ ?_
    refine zg_lmul ok dX2_pullBy_41 ?_
    refine zg_l2d ok dX2_pullBy_42 ?_
    refine zg_dload ok dX2_pullBy_43 5 rfl ?_
    refine zg_ddivE ok dX2_pullBy_45 hE (fun hE => ?_)
    refine zg_letD hE (fun v5 hE => ?_)
    refine zg_daddE ok dX2_pullBy_46 hE (fun hE => ?_)
    refine zg_letD hE (fun v6 hE => ?_)
    refine zg_dstore (L' := [(4, .double v6), (0, va_rf l0), (1, .int l1), (2, .int l2), (3, .int l3), (6, .double l6), (8, .int l8)]) ok dX2_pullBy_47 (by decide) rfl ?_
    refine zg_dload ok dX2_pullBy_49 5 rfl ?_
    refine zg_iload_n ok dX2_pullBy_51 rfl 4 rfl ?_
    refine zg_i2d ok dX2_pullBy_52 ?_
    refine zg_dmulE ok dX2_pullBy_53 hE (fun hE => ?_)
    refine zg_letD hE (fun v7 hE => ?_)
    refine zg_dstore (L' := [(6, .double v7), (4, .double v6), (0, va_rf l0), (1, .int l1), (2, .int l2), (3, .int l3), (8, .int l8)]) ok dX2_pullBy_54 (by decide) rfl ?_
    refine zg_iincL (k := 6) (L' := fun v8 => [(8, .int v8), (6, .double v7), (4, .double v6), (0, va_rf l0), (1, .int l1), (2, .int l2), (3, .int l3)]) ok dX2_pullBy_56 (by decide +kernel) hE rfl (by decide) (fun _ => rfl) (fun v8 hE => ?_)
    refine zg_goto (tgt := 15) ok dX2_pullBy_59 (by decide) ?_
    refine zg_sub (L' := [(0, va_rf l0), (1, .int l1), (2, .int l2), (3, .int l3), (4, .double v6), (6, .double v7), (8, .int v8)]) [3, 4, 5, 6, 2, 1, 0] rfl ?_
    exact hR _ _ _ _ hE
theorem gt_f_X2_pullBy_L15 {Xc : zw_X} {Q : UInt64 → zw_H → Prop} {X : String → Nat → zw_H → Prop} (hl : (zw_l Xc).stackTraces = false) (ok : zw_ok Xc cX2_pullBy "MultipoleLineModel" yX2_pullBy.name 9) (tab : zw_tab Xc []) (fin : zw_fin Xc (Option.some Jvm.ClassFile.FieldType.double) (zq_D Q) X 0 0) (hRm : zw_rm Xc = rm_X2_pullBy) {kc ks : Nat} (hb : kc ≤ 0 ∧ ks ≤ 0) {l0 : Option Nat} {l1 : Int32} {l2 : Int32} {l3 : Int32} {k62 : UInt64 → zw_H → Prop} (hk62 : ∀ (l4 : UInt64) (h : zw_H), k62 l4 h → zw_G Xc kc ks 9 h 62 [(4, .double l4)] [])  : ∀ (n9 : Nat) (l4 : UInt64) (l6 : UInt64) (l8 : Int32) (h : zw_H), zl4 (f_X2_pullBy_B15 (zw_Zf Xc).2.2.2 Q X k62 l0 l1 l2 l3) n9 l4 l6 l8 h → zw_G Xc kc ks 9 h 15 [(0, va_rf l0), (1, .int l1), (2, .int l2), (3, .int l3), (4, .double l4), (6, .double l6), (8, .int l8)] [] := by
  intro n9
  induction n9 with
  | zero => intro l4 l6 l8 h hE; exact hE.elim
  | succ n9 ih => intro l4 l6 l8 h hE; exact gt_f_X2_pullBy_B15 hl ok tab fin hRm hb ih hk62 hE
set_option maxHeartbeats 8000000 in
theorem mt_X2_pullBy {l : Launch} (hl : l.stackTraces = false) {Z : zw_Z} {a0 : Option Nat} {a1 : Int32} {a2 : Int32} {a3 : Int32} {h : zw_H} {Q : UInt64 → zw_H → Prop} {X : String → Nat → zw_H → Prop} (hE : f_X2_pullBy Z.2.2.2 a0 a1 a2 a3 h Q X) : zw_Met l Z yX2_pullBy (ws_ yX2_pullBy cX2_pullBy 9 (Option.some Jvm.ClassFile.FieldType.double)) rm_X2_pullBy [zA a0, zI a1, zI a2, zI a3] h (zq_D Q) X := by
  refine zg_start (own := "MultipoleLineModel") (by decide +kernel) rfl (Nat.le_of_ble_eq_true rfl) hl (fun Xc ok tab fin hRm hXl hXZ => ?_)
  subst hXl
  subst hXZ
  unfold f_X2_pullBy at hE
  refine zg_dconst0 ok dX2_pullBy_0 ?_
  refine zg_dstore (L' := [(4, .double FP.dconst0), (0, va_rf a0), (1, .int a1), (2, .int a2), (3, .int a3)]) ok dX2_pullBy_1 (by decide) rfl ?_
  refine zg_dconst1 ok dX2_pullBy_3 ?_
  refine zg_iload_n ok dX2_pullBy_4 rfl 4 rfl ?_
  refine zg_i2d ok dX2_pullBy_5 ?_
  refine zg_iconst (v := 2) ok dX2_pullBy_6 (by decide) ?_
  refine zg_callS (vs := [zD FP.dconst1, zD (FP.i2d a3), zI 2]) (rest := []) (rm := rm_X2_times) ok hRm lk_X2_318 dX2_pullBy_7 hE (fun hE => mt_X2_times hl hE) rfl (Nat.le_of_ble_eq_true rfl) ⟨⟨Nat.le_of_ble_eq_true rfl, Nat.le_of_ble_eq_true rfl⟩, Nat.le_of_ble_eq_true rfl, Nat.le_of_ble_eq_true rfl⟩ (zg_retD (fun v1 h1 hE => ?_)) (zg_xok ok tab fin ⟨Nat.le_of_ble_eq_true rfl, Nat.le_of_ble_eq_true rfl⟩)
  refine zg_cost (kc2 := 0) (ks2 := 0) ⟨rfl, rfl⟩ ?_
  refine zg_dstore (L' := [(6, .double v1), (4, .double FP.dconst0), (0, va_rf a0), (1, .int a1), (2, .int a2), (3, .int a3)]) ok dX2_pullBy_10 (by decide) rfl ?_
  refine zg_iconst (v := 0) ok dX2_pullBy_12 (by decide) ?_
  refine zg_istore (L' := [(8, .int 0), (6, .double v1), (4, .double FP.dconst0), (0, va_rf a0), (1, .int a1), (2, .int a2), (3, .int a3)]) ok dX2_pullBy_13 (by decide) rfl ?_
  refine zg_sub (L' := [(0, va_rf a0), (1, .int a1), (2, .int a2), (3, .int a3), (4, .double FP.dconst0), (6, .double v1), (8, .int 0)]) [3, 4, 5, 6, 2, 1, 0] rfl ?_
  refine gt_f_X2_pullBy_L15 hl ok tab fin hRm ⟨Nat.le_of_ble_eq_true rfl, Nat.le_of_ble_eq_true rfl⟩ ?_ _ _ _ _ _ hE
  · intro v9 h3 hE
    refine zg_dload ok dX2_pullBy_62 0 rfl ?_
    exact zg_dret ok fin dX2_pullBy_64 ⟨Nat.le_of_ble_eq_true rfl, Nat.le_of_ble_eq_true rfl⟩ hE
set_option maxHeartbeats 8000000 in
theorem gt_f_X2_farPull_J78 {Xc : zw_X} {Q : UInt64 → zw_H → Prop} {X : String → Nat → zw_H → Prop} (hl : (zw_l Xc).stackTraces = false) (ok : zw_ok Xc cX2_farPull "MultipoleLineModel" yX2_farPull.name 8) (tab : zw_tab Xc []) (fin : zw_fin Xc (Option.some Jvm.ClassFile.FieldType.double) (zq_D Q) X 0 0) (hRm : zw_rm Xc = rm_X2_farPull) {kc ks : Nat} (hb : kc ≤ 0 ∧ ks ≤ 0) {R : UInt64 → Int32 → zw_H → Prop} {l0 : Option Nat} {l1 : Int32} (hR : ∀ (l2 : UInt64) (l4 : Int32) (h : zw_H), R l2 l4 h → zw_G Xc kc ks 8 h 10 [(0, va_rf l0), (1, .int l1), (2, .double l2), (4, .int l4)] []) {k85 : UInt64 → zw_H → Prop} (hk85 : ∀ (l2 : UInt64) (h : zw_H), k85 l2 h → zw_G Xc kc ks 8 h 85 [(2, .double l2)] [])  {l4 : Int32} {s0 : UInt64} {h : zw_H} (hE : f_X2_farPull_J78 (zw_Zf Xc).2.2.2 Q X R k85 l0 l1 l4 s0 h) : zw_G Xc kc ks 8 h 78 [(0, va_rf l0), (1, .int l1), (4, .int l4)] [.double s0] := by
  unfold f_X2_farPull_J78 at hE
  refine zg_dstore_n (L' := [(2, .double s0), (0, va_rf l0), (1, .int l1), (4, .int l4)]) ok dX2_farPull_78 rfl (by decide) rfl ?_
  refine zg_iincL (k := 3) (L' := fun v14 => [(4, .int v14), (2, .double s0), (0, va_rf l0), (1, .int l1)]) ok dX2_farPull_79 (by decide +kernel) hE rfl (by decide) (fun _ => rfl) (fun v14 hE => ?_)
  refine zg_goto (tgt := 10) ok dX2_farPull_82 (by decide) ?_
  refine zg_sub (L' := [(0, va_rf l0), (1, .int l1), (2, .double s0), (4, .int v14)]) [2, 3, 1, 0] rfl ?_
  exact hR _ _ _ hE
set_option maxHeartbeats 8000000 in
theorem gt_f_X2_farPull_B10 {Xc : zw_X} {Q : UInt64 → zw_H → Prop} {X : String → Nat → zw_H → Prop} (hl : (zw_l Xc).stackTraces = false) (ok : zw_ok Xc cX2_farPull "MultipoleLineModel" yX2_farPull.name 8) (tab : zw_tab Xc []) (fin : zw_fin Xc (Option.some Jvm.ClassFile.FieldType.double) (zq_D Q) X 0 0) (hRm : zw_rm Xc = rm_X2_farPull) {kc ks : Nat} (hb : kc ≤ 0 ∧ ks ≤ 0) {R : UInt64 → Int32 → zw_H → Prop} {l0 : Option Nat} {l1 : Int32} (hR : ∀ (l2 : UInt64) (l4 : Int32) (h : zw_H), R l2 l4 h → zw_G Xc kc ks 8 h 10 [(0, va_rf l0), (1, .int l1), (2, .double l2), (4, .int l4)] []) {k85 : UInt64 → zw_H → Prop} (hk85 : ∀ (l2 : UInt64) (h : zw_H), k85 l2 h → zw_G Xc kc ks 8 h 85 [(2, .double l2)] [])  {l2 : UInt64} {l4 : Int32} {h : zw_H} (hE : f_X2_farPull_B10 (zw_Zf Xc).2.2.2 Q X k85 l0 l1 R l2 l4 h) : zw_G Xc kc ks 8 h 10 [(0, va_rf l0), (1, .int l1), (2, .double l2), (4, .int l4)] [] := by
  unfold f_X2_farPull_B10 at hE
  refine zg_iload ok dX2_farPull_10 3 rfl ?_
  refine zg_aload_n ok dX2_farPull_12 rfl 0 rfl ?_
  refine zg_getI ok lf_X2_269 dX2_farPull_13 hE (fun v1 hE => ?_)
  refine zg_icmp_ge (tgt := 85) ok dX2_farPull_16 (by decide) hE (fun hE => ?_) (fun hE => ?_)
  · refine zg_sub (L' := [(2, .double l2)]) [2] rfl ?_
    exact hk85 _ _ hE
  · refine zg_iload_n ok dX2_farPull_19 rfl 1 rfl ?_
    refine zg_aload_n ok dX2_farPull_20 rfl 0 rfl ?_
    refine zg_getA ok lf_X2_38 dX2_farPull_21 hE (fun v2 hE => ?_)
    refine zg_iload ok dX2_farPull_24 3 rfl ?_
    refine zg_iald ok dX2_farPull_26 hE (fun v3 hE => ?_)
    refine zg_aload_n ok dX2_farPull_27 rfl 0 rfl ?_
    refine zg_getA ok lf_X2_41 dX2_farPull_28 hE (fun v4 hE => ?_)
    refine zg_iload ok dX2_farPull_31 3 rfl ?_
    refine zg_iald ok dX2_farPull_33 hE (fun v5 hE => ?_)
    refine zg_callS (vs := [zI v3, zI v5]) (rest := [.int l1]) (rm := rm_X2_centre) ok hRm lk_X2_226 dX2_farPull_34 hE (fun hE => mt_X2_centre hl hE) rfl (Nat.le_of_ble_eq_true rfl) ⟨⟨Nat.le_of_ble_eq_true rfl, Nat.le_of_ble_eq_true rfl⟩, (by show kc + 0 ≤ 0; omega), (by show ks + 0 ≤ 0; omega)⟩ (zg_retI (fun v6 h2 hE => ?_)) (zg_xok ok tab fin ⟨(by show kc + 0 ≤ 0; omega), (by show ks + 0 ≤ 0; omega)⟩)
    refine zg_cost (kc2 := kc) (ks2 := ks) ⟨(by show kc + 0 = kc; omega), (by show ks + 0 = ks; omega)⟩ ?_
    refine zg_isub ok dX2_farPull_37 ?_
    refine zg_letI hE (fun v7 hE => ?_)
    refine zg_istore (L' := [(5, .int v7), (0, va_rf l0), (1, .int l1), (2, .double l2), (4, .int l4)]) ok dX2_farPull_38 (by decide) rfl ?_
    refine zg_aload_n ok dX2_farPull_40 rfl 1 rfl ?_
    refine zg_aload_n ok dX2_farPull_41 rfl 1 rfl ?_
    refine zg_getA ok lf_X2_38 dX2_farPull_42 hE (fun v8 hE => ?_)
    refine zg_iload ok dX2_farPull_45 4 rfl ?_
    refine zg_iald ok dX2_farPull_47 hE (fun v9 hE => ?_)
    refine zg_aload_n ok dX2_farPull_48 rfl 1 rfl ?_
    refine zg_getA ok lf_X2_41 dX2_farPull_49 hE (fun v10 hE => ?_)
    refine zg_iload ok dX2_farPull_52 4 rfl ?_
    refine zg_iald ok dX2_farPull_54 hE (fun v11 hE => ?_)
    refine zg_iload ok dX2_farPull_55 0 rfl ?_
    refine zg_callV (vs := [zI v9, zI v11, zI v7]) (rest := []) (rm := rm_X2_pullBy) ok hRm lk_X2_332 dX2_farPull_57 hE (fun hE => mt_X2_pullBy hl hE) rfl (Nat.le_of_ble_eq_true rfl) ⟨⟨Nat.le_of_ble_eq_true rfl, Nat.le_of_ble_eq_true rfl⟩, (by show kc + 0 ≤ 0; omega), (by show ks + 0 ≤ 0; omega)⟩ (zg_retD (fun v12 h3 hE => ?_)) (zg_xok ok tab fin ⟨(by show kc + 0 ≤ 0; omega), (by show ks + 0 ≤ 0; omega)⟩)
    refine zg_cost (kc2 := kc) (ks2 := ks) ⟨(by show kc + 0 = kc; omega), (by show ks + 0 = ks; omega)⟩ ?_
    refine zg_dstore (L' := [(6, .double v12), (5, .int v7), (0, va_rf l0), (1, .int l1), (2, .double l2), (4, .int l4)]) ok dX2_farPull_60 (by decide) rfl ?_
    refine zg_iload ok dX2_farPull_62 1 rfl ?_
    refine zg_if_le (tgt := 74) ok dX2_farPull_64 (by decide) hE (fun hE => ?_) (fun hE => ?_)
    · refine zg_dload_n ok dX2_farPull_74 rfl 4 rfl ?_
      refine zg_dload ok dX2_farPull_75 0 rfl ?_
      refine zg_daddE ok dX2_farPull_77 hE (fun hE => ?_)
      refine zg_letD hE (fun v13 hE => ?_)
      refine zg_sub (L' := [(0, va_rf l0), (1, .int l1), (4, .int l4)]) [2, 3, 5] rfl ?_
      exact gt_f_X2_farPull_J78 hl ok tab fin hRm hb hR hk85 hE
    · refine zg_dload_n ok dX2_farPull_67 rfl 4 rfl ?_
      refine zg_dload ok dX2_farPull_68 0 rfl ?_
      refine zg_dsubE ok dX2_farPull_70 hE (fun hE => ?_)
      refine zg_letD hE (fun v15 hE => ?_)
      refine zg_goto (tgt := 78) ok dX2_farPull_71 (by decide) ?_
      refine zg_sub (L' := [(0, va_rf l0), (1, .int l1), (4, .int l4)]) [2, 3, 5] rfl ?_
      exact gt_f_X2_farPull_J78 hl ok tab fin hRm hb hR hk85 hE
theorem gt_f_X2_farPull_L10 {Xc : zw_X} {Q : UInt64 → zw_H → Prop} {X : String → Nat → zw_H → Prop} (hl : (zw_l Xc).stackTraces = false) (ok : zw_ok Xc cX2_farPull "MultipoleLineModel" yX2_farPull.name 8) (tab : zw_tab Xc []) (fin : zw_fin Xc (Option.some Jvm.ClassFile.FieldType.double) (zq_D Q) X 0 0) (hRm : zw_rm Xc = rm_X2_farPull) {kc ks : Nat} (hb : kc ≤ 0 ∧ ks ≤ 0) {l0 : Option Nat} {l1 : Int32} {k85 : UInt64 → zw_H → Prop} (hk85 : ∀ (l2 : UInt64) (h : zw_H), k85 l2 h → zw_G Xc kc ks 8 h 85 [(2, .double l2)] [])  : ∀ (n9 : Nat) (l2 : UInt64) (l4 : Int32) (h : zw_H), zl3 (f_X2_farPull_B10 (zw_Zf Xc).2.2.2 Q X k85 l0 l1) n9 l2 l4 h → zw_G Xc kc ks 8 h 10 [(0, va_rf l0), (1, .int l1), (2, .double l2), (4, .int l4)] [] := by
  intro n9
  induction n9 with
  | zero => intro l2 l4 h hE; exact hE.elim
  | succ n9 ih => intro l2 l4 h hE; exact gt_f_X2_farPull_B10 hl ok tab fin hRm hb ih hk85 hE
set_option maxHeartbeats 8000000 in
theorem mt_X2_farPull {l : Launch} (hl : l.stackTraces = false) {Z : zw_Z} {a0 : Option Nat} {a1 : Int32} {h : zw_H} {Q : UInt64 → zw_H → Prop} {X : String → Nat → zw_H → Prop} (hE : f_X2_farPull Z.2.2.2 a0 a1 h Q X) : zw_Met l Z yX2_farPull (ws_ yX2_farPull cX2_farPull 8 (Option.some Jvm.ClassFile.FieldType.double)) rm_X2_farPull [zA a0, zI a1] h (zq_D Q) X := by
  refine zg_start (own := "MultipoleLineModel") (by decide +kernel) rfl (Nat.le_of_ble_eq_true rfl) hl (fun Xc ok tab fin hRm hXl hXZ => ?_)
  subst hXl
  subst hXZ
  unfold f_X2_farPull at hE
  refine zg_aload_n ok dX2_farPull_0 rfl 0 rfl ?_
  refine zg_iload_n ok dX2_farPull_1 rfl 1 rfl ?_
  refine zg_callV (vs := [zI a1]) (rest := []) (rm := rm_X2_laysFar) ok hRm lk_X2_275 dX2_farPull_2 hE (fun hE => mt_X2_laysFar hl hE) rfl (Nat.le_of_ble_eq_true rfl) ⟨⟨Nat.le_of_ble_eq_true rfl, Nat.le_of_ble_eq_true rfl⟩, Nat.le_of_ble_eq_true rfl, Nat.le_of_ble_eq_true rfl⟩ (zg_retV (fun h1 hE => ?_)) (zg_xok ok tab fin ⟨Nat.le_of_ble_eq_true rfl, Nat.le_of_ble_eq_true rfl⟩)
  refine zg_cost (kc2 := 0) (ks2 := 0) ⟨rfl, rfl⟩ ?_
  refine zg_dconst0 ok dX2_farPull_5 ?_
  refine zg_dstore_n (L' := [(2, .double FP.dconst0), (0, va_rf a0), (1, .int a1)]) ok dX2_farPull_6 rfl (by decide) rfl ?_
  refine zg_iconst (v := 0) ok dX2_farPull_7 (by decide) ?_
  refine zg_istore (L' := [(4, .int 0), (2, .double FP.dconst0), (0, va_rf a0), (1, .int a1)]) ok dX2_farPull_8 (by decide) rfl ?_
  refine zg_sub (L' := [(0, va_rf a0), (1, .int a1), (2, .double FP.dconst0), (4, .int 0)]) [2, 3, 1, 0] rfl ?_
  refine gt_f_X2_farPull_L10 hl ok tab fin hRm ⟨Nat.le_of_ble_eq_true rfl, Nat.le_of_ble_eq_true rfl⟩ ?_ _ _ _ _ hE
  · intro v16 h4 hE
    refine zg_dload_n ok dX2_farPull_85 rfl 0 rfl ?_
    exact zg_dret ok fin dX2_farPull_86 ⟨Nat.le_of_ble_eq_true rfl, Nat.le_of_ble_eq_true rfl⟩ hE
set_option maxHeartbeats 8000000 in
theorem mt_X2_pullFar {l : Launch} (hl : l.stackTraces = false) {Z : zw_Z} {a0 : Option Nat} {a1 : Int32} {h : zw_H} {Q : UInt64 → zw_H → Prop} {X : String → Nat → zw_H → Prop} (hE : f_X2_pullFar Z.2.2.2 a0 a1 h Q X) : zw_Met l Z yX2_pullFar (ws_ yX2_pullFar cX2_pullFar 2 (Option.some Jvm.ClassFile.FieldType.double)) rm_X2_pullFar [zA a0, zI a1] h (zq_D Q) X := by
  refine zg_start (own := "MultipoleLineModel") (by decide +kernel) rfl (Nat.le_of_ble_eq_true rfl) hl (fun Xc ok tab fin hRm hXl hXZ => ?_)
  subst hXl
  subst hXZ
  unfold f_X2_pullFar at hE
  refine zg_aload_n ok dX2_pullFar_0 rfl 0 rfl ?_
  refine zg_iload_n ok dX2_pullFar_1 rfl 1 rfl ?_
  refine zg_callV (vs := [zI a1]) (rest := []) (rm := rm_X2_mayPoint) ok hRm lk_X2_216 dX2_pullFar_2 hE (fun hE => mt_X2_mayPoint hl hE) rfl (Nat.le_of_ble_eq_true rfl) ⟨⟨Nat.le_of_ble_eq_true rfl, Nat.le_of_ble_eq_true rfl⟩, Nat.le_of_ble_eq_true rfl, Nat.le_of_ble_eq_true rfl⟩ (zg_retI (fun v1 h1 hE => ?_)) (zg_xok ok tab fin ⟨Nat.le_of_ble_eq_true rfl, Nat.le_of_ble_eq_true rfl⟩)
  refine zg_cost (kc2 := 0) (ks2 := 0) ⟨rfl, rfl⟩ ?_
  refine zg_if_eq (tgt := 16) ok dX2_pullFar_5 (by decide) hE (fun hE => ?_) (fun hE => ?_)
  · refine zg_dconst0 ok dX2_pullFar_16 ?_
    exact zg_dret ok fin dX2_pullFar_17 ⟨Nat.le_of_ble_eq_true rfl, Nat.le_of_ble_eq_true rfl⟩ hE
  · refine zg_aload_n ok dX2_pullFar_8 rfl 0 rfl ?_
    refine zg_iload_n ok dX2_pullFar_9 rfl 1 rfl ?_
    refine zg_callV (vs := [zI a1]) (rest := []) (rm := rm_X2_farPull) ok hRm lk_X2_339 dX2_pullFar_10 hE (fun hE => mt_X2_farPull hl hE) rfl (Nat.le_of_ble_eq_true rfl) ⟨⟨Nat.le_of_ble_eq_true rfl, Nat.le_of_ble_eq_true rfl⟩, Nat.le_of_ble_eq_true rfl, Nat.le_of_ble_eq_true rfl⟩ (zg_retD (fun v2 h2 hE => ?_)) (zg_xok ok tab fin ⟨Nat.le_of_ble_eq_true rfl, Nat.le_of_ble_eq_true rfl⟩)
    refine zg_cost (kc2 := 0) (ks2 := 0) ⟨rfl, rfl⟩ ?_
    refine zg_goto (tgt := 17) ok dX2_pullFar_13 (by decide) ?_
    exact zg_dret ok fin dX2_pullFar_17 ⟨Nat.le_of_ble_eq_true rfl, Nat.le_of_ble_eq_true rfl⟩ hE
set_option maxHeartbeats 8000000 in
theorem mt_X2_pullAll {l : Launch} (hl : l.stackTraces = false) {Z : zw_Z} {a0 : Option Nat} {a1 : Int32} {h : zw_H} {Q : UInt64 → zw_H → Prop} {X : String → Nat → zw_H → Prop} (hE : f_X2_pullAll Z.2.2.2 a0 a1 h Q X) : zw_Met l Z yX2_pullAll (ws_ yX2_pullAll cX2_pullAll 2 (Option.some Jvm.ClassFile.FieldType.double)) rm_X2_pullAll [zA a0, zI a1] h (zq_D Q) X := by
  refine zg_start (own := "MultipoleLineModel") (by decide +kernel) rfl (Nat.le_of_ble_eq_true rfl) hl (fun Xc ok tab fin hRm hXl hXZ => ?_)
  subst hXl
  subst hXZ
  unfold f_X2_pullAll at hE
  refine zg_aload_n ok dX2_pullAll_0 rfl 0 rfl ?_
  refine zg_iload_n ok dX2_pullAll_1 rfl 1 rfl ?_
  refine zg_iconst (v := 0) ok dX2_pullAll_2 (by decide) ?_
  refine zg_callV (vs := [zI a1, zI 0]) (rest := []) (rm := rm_X2_pullOf) ok hRm lk_X2_335 dX2_pullAll_3 hE (fun hE => mt_X2_pullOf hl hE) rfl (Nat.le_of_ble_eq_true rfl) ⟨⟨Nat.le_of_ble_eq_true rfl, Nat.le_of_ble_eq_true rfl⟩, Nat.le_of_ble_eq_true rfl, Nat.le_of_ble_eq_true rfl⟩ (zg_retD (fun v1 h1 hE => ?_)) (zg_xok ok tab fin ⟨Nat.le_of_ble_eq_true rfl, Nat.le_of_ble_eq_true rfl⟩)
  refine zg_cost (kc2 := 0) (ks2 := 0) ⟨rfl, rfl⟩ ?_
  refine zg_aload_n ok dX2_pullAll_6 rfl 0 rfl ?_
  refine zg_iload_n ok dX2_pullAll_7 rfl 1 rfl ?_
  refine zg_callV (vs := [zI a1]) (rest := [.double v1]) (rm := rm_X2_farPull) ok hRm lk_X2_339 dX2_pullAll_8 hE (fun hE => mt_X2_farPull hl hE) rfl (Nat.le_of_ble_eq_true rfl) ⟨⟨Nat.le_of_ble_eq_true rfl, Nat.le_of_ble_eq_true rfl⟩, Nat.le_of_ble_eq_true rfl, Nat.le_of_ble_eq_true rfl⟩ (zg_retD (fun v2 h2 hE => ?_)) (zg_xok ok tab fin ⟨Nat.le_of_ble_eq_true rfl, Nat.le_of_ble_eq_true rfl⟩)
  refine zg_cost (kc2 := 0) (ks2 := 0) ⟨rfl, rfl⟩ ?_
  refine zg_daddE ok dX2_pullAll_11 hE (fun hE => ?_)
  refine zg_letD hE (fun v3 hE => ?_)
  exact zg_dret ok fin dX2_pullAll_12 ⟨Nat.le_of_ble_eq_true rfl, Nat.le_of_ble_eq_true rfl⟩ hE
set_option maxHeartbeats 8000000 in
theorem mt_X2_pull {l : Launch} (hl : l.stackTraces = false) {Z : zw_Z} {a0 : Option Nat} {a1 : Int32} {h : zw_H} {Q : UInt64 → zw_H → Prop} {X : String → Nat → zw_H → Prop} (hE : f_X2_pull Z.2.2.2 a0 a1 h Q X) : zw_Met l Z yX2_pull (ws_ yX2_pull cX2_pull 2 (Option.some Jvm.ClassFile.FieldType.double)) rm_X2_pull [zA a0, zI a1] h (zq_D Q) X := by
  refine zg_start (own := "MultipoleLineModel") (by decide +kernel) rfl (Nat.le_of_ble_eq_true rfl) hl (fun Xc ok tab fin hRm hXl hXZ => ?_)
  subst hXl
  subst hXZ
  unfold f_X2_pull at hE
  refine zg_aload_n ok dX2_pull_0 rfl 0 rfl ?_
  refine zg_iload_n ok dX2_pull_1 rfl 1 rfl ?_
  refine zg_callV (vs := [zI a1]) (rest := []) (rm := rm_X2_mayPoint) ok hRm lk_X2_216 dX2_pull_2 hE (fun hE => mt_X2_mayPoint hl hE) rfl (Nat.le_of_ble_eq_true rfl) ⟨⟨Nat.le_of_ble_eq_true rfl, Nat.le_of_ble_eq_true rfl⟩, Nat.le_of_ble_eq_true rfl, Nat.le_of_ble_eq_true rfl⟩ (zg_retI (fun v1 h1 hE => ?_)) (zg_xok ok tab fin ⟨Nat.le_of_ble_eq_true rfl, Nat.le_of_ble_eq_true rfl⟩)
  refine zg_cost (kc2 := 0) (ks2 := 0) ⟨rfl, rfl⟩ ?_
  refine zg_if_eq (tgt := 16) ok dX2_pull_5 (by decide) hE (fun hE => ?_) (fun hE => ?_)
  · refine zg_dconst0 ok dX2_pull_16 ?_
    exact zg_dret ok fin dX2_pull_17 ⟨Nat.le_of_ble_eq_true rfl, Nat.le_of_ble_eq_true rfl⟩ hE
  · refine zg_aload_n ok dX2_pull_8 rfl 0 rfl ?_
    refine zg_iload_n ok dX2_pull_9 rfl 1 rfl ?_
    refine zg_callV (vs := [zI a1]) (rest := []) (rm := rm_X2_pullAll) ok hRm lk_X2_342 dX2_pull_10 hE (fun hE => mt_X2_pullAll hl hE) rfl (Nat.le_of_ble_eq_true rfl) ⟨⟨Nat.le_of_ble_eq_true rfl, Nat.le_of_ble_eq_true rfl⟩, Nat.le_of_ble_eq_true rfl, Nat.le_of_ble_eq_true rfl⟩ (zg_retD (fun v2 h2 hE => ?_)) (zg_xok ok tab fin ⟨Nat.le_of_ble_eq_true rfl, Nat.le_of_ble_eq_true rfl⟩)
    refine zg_cost (kc2 := 0) (ks2 := 0) ⟨rfl, rfl⟩ ?_
    refine zg_goto (tgt := 17) ok dX2_pull_13 (by decide) ?_
    exact zg_dret ok fin dX2_pull_17 ⟨Nat.le_of_ble_eq_true rfl, Nat.le_of_ble_eq_true rfl⟩ hE
set_option maxHeartbeats 8000000 in
theorem gt_f_X2_nearestZero_J104 {Xc : zw_X} {Q : Int32 → zw_H → Prop} {X : String → Nat → zw_H → Prop} (hl : (zw_l Xc).stackTraces = false) (ok : zw_ok Xc cX2_nearestZero "MultipoleLineModel" yX2_nearestZero.name 9) (tab : zw_tab Xc []) (fin : zw_fin Xc (Option.some Jvm.ClassFile.FieldType.int) (zq_I Q) X 0 0) (hRm : zw_rm Xc = rm_X2_nearestZero) {kc ks : Nat} (hb : kc ≤ 0 ∧ ks ≤ 0) {R : Int32 → UInt64 → Int32 → zw_H → Prop} {l0 : Option Nat} {l1 : Int32} (hR : ∀ (l2 : Int32) (l3 : UInt64) (l5 : Int32) (h : zw_H), R l2 l3 l5 h → zw_G Xc kc ks 9 h 22 [(0, va_rf l0), (1, .int l1), (2, .int l2), (3, .double l3), (5, .int l5)] []) {k110 : Int32 → zw_H → Prop} (hk110 : ∀ (l2 : Int32) (h : zw_H), k110 l2 h → zw_G Xc kc ks 9 h 110 [(2, .int l2)] [])  {l2 : Int32} {l3 : UInt64} {l5 : Int32}  {h : zw_H} (hE : f_X2_nearestZero_J104 (zw_Zf Xc).2.2.2 Q X R k110 l0 l1 l2 l3 l5 h) : zw_G Xc kc ks 9 h 104 [(0, va_rf l0), (1, .int l1), (2, .int l2), (3, .double l3), (5, .int l5)] [] := by
  unfold f_X2_nearestZero_J104 at hE
  refine zg_iincL (k := 4) (L' := fun v4 => [(5, .int v4), (0, va_rf l0), (1, .int l1), (2, .int l2), (3, .double l3)]) ok dX2_nearestZero_104 (by decide +kernel) hE rfl (by decide) (fun _ => rfl) (fun v4 hE => ?_)
  refine zg_goto (tgt := 22) ok dX2_nearestZero_107 (by decide) ?_
  refine zg_sub (L' := [(0, va_rf l0), (1, .int l1), (2, .int l2), (3, .double l3), (5, .int v4)]) [1, 2, 3, 4, 0] rfl ?_
  exact hR _ _ _ _ hE
set_option maxHeartbeats 8000000 in
theorem gt_f_X2_nearestZero_J101 {Xc : zw_X} {Q : Int32 → zw_H → Prop} {X : String → Nat → zw_H → Prop} (hl : (zw_l Xc).stackTraces = false) (ok : zw_ok Xc cX2_nearestZero "MultipoleLineModel" yX2_nearestZero.name 9) (tab : zw_tab Xc []) (fin : zw_fin Xc (Option.some Jvm.ClassFile.FieldType.int) (zq_I Q) X 0 0) (hRm : zw_rm Xc = rm_X2_nearestZero) {kc ks : Nat} (hb : kc ≤ 0 ∧ ks ≤ 0) {R : Int32 → UInt64 → Int32 → zw_H → Prop} {l0 : Option Nat} {l1 : Int32} (hR : ∀ (l2 : Int32) (l3 : UInt64) (l5 : Int32) (h : zw_H), R l2 l3 l5 h → zw_G Xc kc ks 9 h 22 [(0, va_rf l0), (1, .int l1), (2, .int l2), (3, .double l3), (5, .int l5)] []) {k110 : Int32 → zw_H → Prop} (hk110 : ∀ (l2 : Int32) (h : zw_H), k110 l2 h → zw_G Xc kc ks 9 h 110 [(2, .int l2)] [])  {l3 : UInt64} {l5 : Int32}  {h : zw_H} (hE : f_X2_nearestZero_J101 (zw_Zf Xc).2.2.2 Q X R k110 l0 l1 l3 l5 h) : zw_G Xc kc ks 9 h 101 [(0, va_rf l0), (1, .int l1), (3, .double l3), (5, .int l5)] [] := by
  unfold f_X2_nearestZero_J101 at hE
  refine zg_iload ok dX2_nearestZero_101 3 rfl ?_
  refine zg_istore_n (L' := [(2, .int l5), (0, va_rf l0), (1, .int l1), (3, .double l3), (5, .int l5)]) ok dX2_nearestZero_103 rfl (by decide) rfl ?_
  refine zg_sub (L' := [(0, va_rf l0), (1, .int l1), (2, .int l5), (3, .double l3), (5, .int l5)]) [1, 2, 0, 3, 4] rfl ?_
  exact gt_f_X2_nearestZero_J104 hl ok tab fin hRm hb hR hk110 hE
set_option maxHeartbeats 8000000 in
theorem gt_f_X2_nearestZero_J72 {Xc : zw_X} {Q : Int32 → zw_H → Prop} {X : String → Nat → zw_H → Prop} (hl : (zw_l Xc).stackTraces = false) (ok : zw_ok Xc cX2_nearestZero "MultipoleLineModel" yX2_nearestZero.name 9) (tab : zw_tab Xc []) (fin : zw_fin Xc (Option.some Jvm.ClassFile.FieldType.int) (zq_I Q) X 0 0) (hRm : zw_rm Xc = rm_X2_nearestZero) {kc ks : Nat} (hb : kc ≤ 0 ∧ ks ≤ 0) {R : Int32 → UInt64 → Int32 → zw_H → Prop} {l0 : Option Nat} {l1 : Int32} (hR : ∀ (l2 : Int32) (l3 : UInt64) (l5 : Int32) (h : zw_H), R l2 l3 l5 h → zw_G Xc kc ks 9 h 22 [(0, va_rf l0), (1, .int l1), (2, .int l2), (3, .double l3), (5, .int l5)] []) {k110 : Int32 → zw_H → Prop} (hk110 : ∀ (l2 : Int32) (h : zw_H), k110 l2 h → zw_G Xc kc ks 9 h 110 [(2, .int l2)] [])  {l2 : Int32} {l5 : Int32} {l6 : UInt64} {s0 : Int32} {h : zw_H} (hE : f_X2_nearestZero_J72 (zw_Zf Xc).2.2.2 Q X R k110 l0 l1 l2 l5 l6 s0 h) : zw_G Xc kc ks 9 h 72 [(0, va_rf l0), (1, .int l1), (2, .int l2), (5, .int l5), (6, .double l6)] [.int s0] := by
  unfold f_X2_nearestZero_J72 at hE
  refine zg_istore (L' := [(8, .int s0), (0, va_rf l0), (1, .int l1), (2, .int l2), (5, .int l5), (6, .double l6)]) ok dX2_nearestZero_72 (by decide) rfl ?_
  refine zg_dload ok dX2_nearestZero_74 5 rfl ?_
  refine zg_dstore_n (L' := [(3, .double l6), (8, .int s0), (0, va_rf l0), (1, .int l1), (2, .int l2), (5, .int l5), (6, .double l6)]) ok dX2_nearestZero_76 rfl (by decide) rfl ?_
  refine zg_iload ok dX2_nearestZero_77 1 rfl ?_
  refine zg_if_eq (tgt := 104) ok dX2_nearestZero_79 (by decide) hE (fun hE => ?_) (fun hE => ?_)
  · refine zg_sub (L' := [(0, va_rf l0), (1, .int l1), (2, .int l2), (3, .double l6), (5, .int l5)]) [2, 3, 4, 0, 5] rfl ?_
    exact gt_f_X2_nearestZero_J104 hl ok tab fin hRm hb hR hk110 hE
  · refine zg_iload_n ok dX2_nearestZero_82 rfl 4 rfl ?_
    refine zg_iconst (v := (-1)) ok dX2_nearestZero_83 (by decide) ?_
    refine zg_icmp_eq (tgt := 101) ok dX2_nearestZero_84 (by decide) hE (fun hE => ?_) (fun hE => ?_)
    · refine zg_sub (L' := [(0, va_rf l0), (1, .int l1), (3, .double l6), (5, .int l5)]) [2, 3, 0, 5] rfl ?_
      exact gt_f_X2_nearestZero_J101 hl ok tab fin hRm hb hR hk110 hE
    · refine zg_iload ok dX2_nearestZero_87 5 rfl ?_
      refine zg_iload_n ok dX2_nearestZero_89 rfl 3 rfl ?_
      refine zg_callS (vs := [zI l5, zI l1]) (rest := []) (rm := rm_X2_far) ok hRm lk_X2_187 dX2_nearestZero_90 hE (fun hE => mt_X2_far hl hE) rfl (Nat.le_of_ble_eq_true rfl) ⟨⟨Nat.le_of_ble_eq_true rfl, Nat.le_of_ble_eq_true rfl⟩, (by show kc + 0 ≤ 0; omega), (by show ks + 0 ≤ 0; omega)⟩ (zg_retI (fun v5 h4 hE => ?_)) (zg_xok ok tab fin ⟨(by show kc + 0 ≤ 0; omega), (by show ks + 0 ≤ 0; omega)⟩)
      refine zg_cost (kc2 := kc) (ks2 := ks) ⟨(by show kc + 0 = kc; omega), (by show ks + 0 = ks; omega)⟩ ?_
      refine zg_iload_n ok dX2_nearestZero_93 rfl 4 rfl ?_
      refine zg_iload_n ok dX2_nearestZero_94 rfl 3 rfl ?_
      refine zg_callS (vs := [zI l2, zI l1]) (rest := [.int v5]) (rm := rm_X2_far) ok hRm lk_X2_187 dX2_nearestZero_95 hE (fun hE => mt_X2_far hl hE) rfl (Nat.le_of_ble_eq_true rfl) ⟨⟨Nat.le_of_ble_eq_true rfl, Nat.le_of_ble_eq_true rfl⟩, (by show kc + 0 ≤ 0; omega), (by show ks + 0 ≤ 0; omega)⟩ (zg_retI (fun v6 h5 hE => ?_)) (zg_xok ok tab fin ⟨(by show kc + 0 ≤ 0; omega), (by show ks + 0 ≤ 0; omega)⟩)
      refine zg_cost (kc2 := kc) (ks2 := ks) ⟨(by show kc + 0 = kc; omega), (by show ks + 0 = ks; omega)⟩ ?_
      refine zg_icmp_ge (tgt := 104) ok dX2_nearestZero_98 (by decide) hE (fun hE => ?_) (fun hE => ?_)
      · refine zg_sub (L' := [(0, va_rf l0), (1, .int l1), (2, .int l2), (3, .double l6), (5, .int l5)]) [2, 3, 4, 0, 5] rfl ?_
        exact gt_f_X2_nearestZero_J104 hl ok tab fin hRm hb hR hk110 hE
      · refine zg_sub (L' := [(0, va_rf l0), (1, .int l1), (3, .double l6), (5, .int l5)]) [2, 3, 0, 5] rfl ?_
        exact gt_f_X2_nearestZero_J101 hl ok tab fin hRm hb hR hk110 hE
set_option maxHeartbeats 8000000 in
theorem gt_f_X2_nearestZero_J64 {Xc : zw_X} {Q : Int32 → zw_H → Prop} {X : String → Nat → zw_H → Prop} (hl : (zw_l Xc).stackTraces = false) (ok : zw_ok Xc cX2_nearestZero "MultipoleLineModel" yX2_nearestZero.name 9) (tab : zw_tab Xc []) (fin : zw_fin Xc (Option.some Jvm.ClassFile.FieldType.int) (zq_I Q) X 0 0) (hRm : zw_rm Xc = rm_X2_nearestZero) {kc ks : Nat} (hb : kc ≤ 0 ∧ ks ≤ 0) {R : Int32 → UInt64 → Int32 → zw_H → Prop} {l0 : Option Nat} {l1 : Int32} (hR : ∀ (l2 : Int32) (l3 : UInt64) (l5 : Int32) (h : zw_H), R l2 l3 l5 h → zw_G Xc kc ks 9 h 22 [(0, va_rf l0), (1, .int l1), (2, .int l2), (3, .double l3), (5, .int l5)] []) {k110 : Int32 → zw_H → Prop} (hk110 : ∀ (l2 : Int32) (h : zw_H), k110 l2 h → zw_G Xc kc ks 9 h 110 [(2, .int l2)] [])  {l2 : Int32} {l5 : Int32} {l6 : UInt64} {s0 : Int32} {s1 : Int32} {h : zw_H} (hE : f_X2_nearestZero_J64 (zw_Zf Xc).2.2.2 Q X R k110 l0 l1 l2 l5 l6 s0 s1 h) : zw_G Xc kc ks 9 h 64 [(0, va_rf l0), (1, .int l1), (2, .int l2), (5, .int l5), (6, .double l6)] [.int s0, .int s1] := by
  unfold f_X2_nearestZero_J64 at hE
  refine zg_icmp_eq (tgt := 71) ok dX2_nearestZero_64 (by decide) hE (fun hE => ?_) (fun hE => ?_)
  · refine zg_iconst (v := 0) ok dX2_nearestZero_71 (by decide) ?_
    exact gt_f_X2_nearestZero_J72 hl ok tab fin hRm hb hR hk110 hE
  · refine zg_iconst (v := 1) ok dX2_nearestZero_67 (by decide) ?_
    refine zg_goto (tgt := 72) ok dX2_nearestZero_68 (by decide) ?_
    exact gt_f_X2_nearestZero_J72 hl ok tab fin hRm hb hR hk110 hE
set_option maxHeartbeats 8000000 in
theorem gt_f_X2_nearestZero_J52 {Xc : zw_X} {Q : Int32 → zw_H → Prop} {X : String → Nat → zw_H → Prop} (hl : (zw_l Xc).stackTraces = false) (ok : zw_ok Xc cX2_nearestZero "MultipoleLineModel" yX2_nearestZero.name 9) (tab : zw_tab Xc []) (fin : zw_fin Xc (Option.some Jvm.ClassFile.FieldType.int) (zq_I Q) X 0 0) (hRm : zw_rm Xc = rm_X2_nearestZero) {kc ks : Nat} (hb : kc ≤ 0 ∧ ks ≤ 0) {R : Int32 → UInt64 → Int32 → zw_H → Prop} {l0 : Option Nat} {l1 : Int32} (hR : ∀ (l2 : Int32) (l3 : UInt64) (l5 : Int32) (h : zw_H), R l2 l3 l5 h → zw_G Xc kc ks 9 h 22 [(0, va_rf l0), (1, .int l1), (2, .int l2), (3, .double l3), (5, .int l5)] []) {k110 : Int32 → zw_H → Prop} (hk110 : ∀ (l2 : Int32) (h : zw_H), k110 l2 h → zw_G Xc kc ks 9 h 110 [(2, .int l2)] [])  {l2 : Int32} {l5 : Int32} {l6 : UInt64} {s0 : Int32} {h : zw_H} (hE : f_X2_nearestZero_J52 (zw_Zf Xc).2.2.2 Q X R k110 l0 l1 l2 l5 l6 s0 h) : zw_G Xc kc ks 9 h 52 [(0, va_rf l0), (1, .int l1), (2, .int l2), (5, .int l5), (6, .double l6)] [.int s0] := by
  unfold f_X2_nearestZero_J52 at hE
  refine zg_dload ok dX2_nearestZero_52 4 rfl ?_
  refine zg_dconst0 ok dX2_nearestZero_54 ?_
  refine zg_dcmp ok dX2_nearestZero_55 ?_
  refine zg_if_le (tgt := 63) ok dX2_nearestZero_56 (by decide) hE (fun hE => ?_) (fun hE => ?_)
  · refine zg_iconst (v := 0) ok dX2_nearestZero_63 (by decide) ?_
    exact gt_f_X2_nearestZero_J64 hl ok tab fin hRm hb hR hk110 hE
  · refine zg_iconst (v := 1) ok dX2_nearestZero_59 (by decide) ?_
    refine zg_goto (tgt := 64) ok dX2_nearestZero_60 (by decide) ?_
    exact gt_f_X2_nearestZero_J64 hl ok tab fin hRm hb hR hk110 hE
set_option maxHeartbeats 8000000 in
theorem gt_f_X2_nearestZero_B22 {Xc : zw_X} {Q : Int32 → zw_H → Prop} {X : String → Nat → zw_H → Prop} (hl : (zw_l Xc).stackTraces = false) (ok : zw_ok Xc cX2_nearestZero "MultipoleLineModel" yX2_nearestZero.name 9) (tab : zw_tab Xc []) (fin : zw_fin Xc (Option.some Jvm.ClassFile.FieldType.int) (zq_I Q) X 0 0) (hRm : zw_rm Xc = rm_X2_nearestZero) {kc ks : Nat} (hb : kc ≤ 0 ∧ ks ≤ 0) {R : Int32 → UInt64 → Int32 → zw_H → Prop} {l0 : Option Nat} {l1 : Int32} (hR : ∀ (l2 : Int32) (l3 : UInt64) (l5 : Int32) (h : zw_H), R l2 l3 l5 h → zw_G Xc kc ks 9 h 22 [(0, va_rf l0), (1, .int l1), (2, .int l2), (3, .double l3), (5, .int l5)] []) {k110 : Int32 → zw_H → Prop} (hk110 : ∀ (l2 : Int32) (h : zw_H), k110 l2 h → zw_G Xc kc ks 9 h 110 [(2, .int l2)] [])  {l2 : Int32} {l3 : UInt64} {l5 : Int32} {h : zw_H} (hE : f_X2_nearestZero_B22 (zw_Zf Xc).2.2.2 Q X k110 l0 l1 R l2 l3 l5 h) : zw_G Xc kc ks 9 h 22 [(0, va_rf l0), (1, .int l1), (2, .int l2), (3, .double l3), (5, .int l5)] [] := by
  unfold f_X2_nearestZero_B22 at hE
  refine zg_iload ok dX2_nearestZero_22 4 rfl ?_
  refine zg_sipush (v := 255) ok dX2_nearestZero_24 (by decide) ?_
  refine zg_icmp_ge (tgt := 110) ok dX2_nearestZero_27 (by decide) hE (fun hE => ?_) (fun hE => ?_)
  · refine zg_sub (L' := [(2, .int l2)]) [2] rfl ?_
    exact hk110 _ _ hE
  · refine zg_aload_n ok dX2_nearestZero_30 rfl 0 rfl ?_
    refine zg_iload ok dX2_nearestZero_31 4 rfl ?_
    refine zg_iconst (v := 1) ok dX2_nearestZero_33 (by decide) ?_
    refine zg_iadd ok dX2_nearestZero_34 ?_
    refine zg_iconst (v := 1) ok dX2_nearestZero_35 (by decide) ?_
    refine zg_callV (vs := [zI (l5 + 1), zI 1]) (rest := []) (rm := rm_X2_pullOf) ok hRm lk_X2_335 dX2_nearestZero_36 hE (fun hE => mt_X2_pullOf hl hE) rfl (Nat.le_of_ble_eq_true rfl) ⟨⟨Nat.le_of_ble_eq_true rfl, Nat.le_of_ble_eq_true rfl⟩, (by show kc + 0 ≤ 0; omega), (by show ks + 0 ≤ 0; omega)⟩ (zg_retD (fun v3 h3 hE => ?_)) (zg_xok ok tab fin ⟨(by show kc + 0 ≤ 0; omega), (by show ks + 0 ≤ 0; omega)⟩)
    refine zg_cost (kc2 := kc) (ks2 := ks) ⟨(by show kc + 0 = kc; omega), (by show ks + 0 = ks; omega)⟩ ?_
    refine zg_dstore (L' := [(6, .double v3), (0, va_rf l0), (1, .int l1), (2, .int l2), (3, .double l3), (5, .int l5)]) ok dX2_nearestZero_39 (by decide) rfl ?_
    refine zg_dload_n ok dX2_nearestZero_41 rfl 4 rfl ?_
    refine zg_dconst0 ok dX2_nearestZero_42 ?_
    refine zg_dcmp ok dX2_nearestZero_43 ?_
    refine zg_if_le (tgt := 51) ok dX2_nearestZero_44 (by decide) hE (fun hE => ?_) (fun hE => ?_)
    · refine zg_iconst (v := 0) ok dX2_nearestZero_51 (by decide) ?_
      refine zg_sub (L' := [(0, va_rf l0), (1, .int l1), (2, .int l2), (5, .int l5), (6, .double v3)]) [1, 2, 3, 5, 0] rfl ?_
      exact gt_f_X2_nearestZero_J52 hl ok tab fin hRm hb hR hk110 hE
    · refine zg_iconst (v := 1) ok dX2_nearestZero_47 (by decide) ?_
      refine zg_goto (tgt := 52) ok dX2_nearestZero_48 (by decide) ?_
      refine zg_sub (L' := [(0, va_rf l0), (1, .int l1), (2, .int l2), (5, .int l5), (6, .double v3)]) [1, 2, 3, 5, 0] rfl ?_
      exact gt_f_X2_nearestZero_J52 hl ok tab fin hRm hb hR hk110 hE
theorem gt_f_X2_nearestZero_L22 {Xc : zw_X} {Q : Int32 → zw_H → Prop} {X : String → Nat → zw_H → Prop} (hl : (zw_l Xc).stackTraces = false) (ok : zw_ok Xc cX2_nearestZero "MultipoleLineModel" yX2_nearestZero.name 9) (tab : zw_tab Xc []) (fin : zw_fin Xc (Option.some Jvm.ClassFile.FieldType.int) (zq_I Q) X 0 0) (hRm : zw_rm Xc = rm_X2_nearestZero) {kc ks : Nat} (hb : kc ≤ 0 ∧ ks ≤ 0) {l0 : Option Nat} {l1 : Int32} {k110 : Int32 → zw_H → Prop} (hk110 : ∀ (l2 : Int32) (h : zw_H), k110 l2 h → zw_G Xc kc ks 9 h 110 [(2, .int l2)] [])  : ∀ (n9 : Nat) (l2 : Int32) (l3 : UInt64) (l5 : Int32) (h : zw_H), zl4 (f_X2_nearestZero_B22 (zw_Zf Xc).2.2.2 Q X k110 l0 l1) n9 l2 l3 l5 h → zw_G Xc kc ks 9 h 22 [(0, va_rf l0), (1, .int l1), (2, .int l2), (3, .double l3), (5, .int l5)] [] := by
  intro n9
  induction n9 with
  | zero => intro l2 l3 l5 h hE; exact hE.elim
  | succ n9 ih => intro l2 l3 l5 h hE; exact gt_f_X2_nearestZero_B22 hl ok tab fin hRm hb ih hk110 hE
set_option maxHeartbeats 8000000 in
theorem mt_X2_nearestZero {l : Launch} (hl : l.stackTraces = false) {Z : zw_Z} {a0 : Option Nat} {a1 : Int32} {h : zw_H} {Q : Int32 → zw_H → Prop} {X : String → Nat → zw_H → Prop} (hE : f_X2_nearestZero Z.2.2.2 a0 a1 h Q X) : zw_Met l Z yX2_nearestZero (ws_ yX2_nearestZero cX2_nearestZero 9 (Option.some Jvm.ClassFile.FieldType.int)) rm_X2_nearestZero [zA a0, zI a1] h (zq_I Q) X := by
  refine zg_start (own := "MultipoleLineModel") (by decide +kernel) rfl (Nat.le_of_ble_eq_true rfl) hl (fun Xc ok tab fin hRm hXl hXZ => ?_)
  subst hXl
  subst hXZ
  unfold f_X2_nearestZero at hE
  refine zg_aload_n ok dX2_nearestZero_0 rfl 0 rfl ?_
  refine zg_iload_n ok dX2_nearestZero_1 rfl 1 rfl ?_
  refine zg_callV (vs := [zI a1]) (rest := []) (rm := rm_X2_mayPoint) ok hRm lk_X2_216 dX2_nearestZero_2 hE (fun hE => mt_X2_mayPoint hl hE) rfl (Nat.le_of_ble_eq_true rfl) ⟨⟨Nat.le_of_ble_eq_true rfl, Nat.le_of_ble_eq_true rfl⟩, Nat.le_of_ble_eq_true rfl, Nat.le_of_ble_eq_true rfl⟩ (zg_retI (fun v1 h1 hE => ?_)) (zg_xok ok tab fin ⟨Nat.le_of_ble_eq_true rfl, Nat.le_of_ble_eq_true rfl⟩)
  refine zg_cost (kc2 := 0) (ks2 := 0) ⟨rfl, rfl⟩ ?_
  refine zg_if_ne (tgt := 10) ok dX2_nearestZero_5 (by decide) hE (fun hE => ?_) (fun hE => ?_)
  · refine zg_iconst (v := (-1)) ok dX2_nearestZero_10 (by decide) ?_
    refine zg_istore_n (L' := [(2, .int (-1)), (0, va_rf a0), (1, .int a1)]) ok dX2_nearestZero_11 rfl (by decide) rfl ?_
    refine zg_aload_n ok dX2_nearestZero_12 rfl 1 rfl ?_
    refine zg_iconst (v := 0) ok dX2_nearestZero_13 (by decide) ?_
    refine zg_iconst (v := 1) ok dX2_nearestZero_14 (by decide) ?_
    refine zg_callV (vs := [zI 0, zI 1]) (rest := []) (rm := rm_X2_pullOf) ok hRm lk_X2_335 dX2_nearestZero_15 hE (fun hE => mt_X2_pullOf hl hE) rfl (Nat.le_of_ble_eq_true rfl) ⟨⟨Nat.le_of_ble_eq_true rfl, Nat.le_of_ble_eq_true rfl⟩, Nat.le_of_ble_eq_true rfl, Nat.le_of_ble_eq_true rfl⟩ (zg_retD (fun v2 h2 hE => ?_)) (zg_xok ok tab fin ⟨Nat.le_of_ble_eq_true rfl, Nat.le_of_ble_eq_true rfl⟩)
    refine zg_cost (kc2 := 0) (ks2 := 0) ⟨rfl, rfl⟩ ?_
    refine zg_dstore_n (L' := [(3, .double v2), (2, .int (-1)), (0, va_rf a0), (1, .int a1)]) ok dX2_nearestZero_18 rfl (by decide) rfl ?_
    refine zg_iconst (v := 0) ok dX2_nearestZero_19 (by decide) ?_
    refine zg_istore (L' := [(5, .int 0), (3, .double v2), (2, .int (-1)), (0, va_rf a0), (1, .int a1)]) ok dX2_nearestZero_20 (by decide) rfl ?_
    refine zg_sub (L' := [(0, va_rf a0), (1, .int a1), (2, .int (-1)), (3, .double v2), (5, .int 0)]) [3, 4, 2, 1, 0] rfl ?_
    refine gt_f_X2_nearestZero_L22 hl ok tab fin hRm ⟨Nat.le_of_ble_eq_true rfl, Nat.le_of_ble_eq_true rfl⟩ ?_ _ _ _ _ _ hE
    · intro v7 h6 hE
      refine zg_iload_n ok dX2_nearestZero_110 rfl 0 rfl ?_
      exact zg_iret ok fin dX2_nearestZero_111 ⟨Nat.le_of_ble_eq_true rfl, Nat.le_of_ble_eq_true rfl⟩ hE
  · refine zg_iconst (v := 0) ok dX2_nearestZero_8 (by decide) ?_
    exact zg_iret ok fin dX2_nearestZero_9 ⟨Nat.le_of_ble_eq_true rfl, Nat.le_of_ble_eq_true rfl⟩ hE
set_option maxHeartbeats 8000000 in
theorem gt_f_X2_moves_J87 {Xc : zw_X} {Q : Int32 → zw_H → Prop} {X : String → Nat → zw_H → Prop} (hl : (zw_l Xc).stackTraces = false) (ok : zw_ok Xc cX2_moves "MultipoleLineModel" yX2_moves.name 6) (tab : zw_tab Xc []) (fin : zw_fin Xc (Option.some Jvm.ClassFile.FieldType.int) (zq_I Q) X 0 0) (hRm : zw_rm Xc = rm_X2_moves)   {s0 : Int32} {h : zw_H} (hE : f_X2_moves_J87 (zw_Zf Xc).2.2.2 Q X  s0 h) : zw_G Xc 0 0 6 h 87 [] [.int s0] := by
  unfold f_X2_moves_J87 at hE
  refine zg_callS (vs := [zI s0]) (rest := []) (rm := rm_X2_one) ok hRm lk_X2_170 dX2_moves_87 hE (fun hE => mt_X2_one hl hE) rfl (Nat.le_of_ble_eq_true rfl) ⟨⟨Nat.le_of_ble_eq_true rfl, Nat.le_of_ble_eq_true rfl⟩, Nat.le_of_ble_eq_true rfl, Nat.le_of_ble_eq_true rfl⟩ (zg_retI (fun v9 h5 hE => ?_)) (zg_xok ok tab fin ⟨Nat.le_of_ble_eq_true rfl, Nat.le_of_ble_eq_true rfl⟩)
  refine zg_cost (kc2 := 0) (ks2 := 0) ⟨rfl, rfl⟩ ?_
  refine zg_ineg ok dX2_moves_90 ?_
  refine zg_goto (tgt := 95) ok dX2_moves_91 (by decide) ?_
  exact zg_iret ok fin dX2_moves_95 ⟨Nat.le_of_ble_eq_true rfl, Nat.le_of_ble_eq_true rfl⟩ hE
set_option maxHeartbeats 8000000 in
theorem gt_f_X2_moves_J60 {Xc : zw_X} {Q : Int32 → zw_H → Prop} {X : String → Nat → zw_H → Prop} (hl : (zw_l Xc).stackTraces = false) (ok : zw_ok Xc cX2_moves "MultipoleLineModel" yX2_moves.name 6) (tab : zw_tab Xc []) (fin : zw_fin Xc (Option.some Jvm.ClassFile.FieldType.int) (zq_I Q) X 0 0) (hRm : zw_rm Xc = rm_X2_moves)   {s0 : Int32} {h : zw_H} (hE : f_X2_moves_J60 (zw_Zf Xc).2.2.2 Q X  s0 h) : zw_G Xc 0 0 6 h 60 [] [.int s0] := by
  unfold f_X2_moves_J60 at hE
  refine zg_callS (vs := [zI s0]) (rest := []) (rm := rm_X2_one) ok hRm lk_X2_170 dX2_moves_60 hE (fun hE => mt_X2_one hl hE) rfl (Nat.le_of_ble_eq_true rfl) ⟨⟨Nat.le_of_ble_eq_true rfl, Nat.le_of_ble_eq_true rfl⟩, Nat.le_of_ble_eq_true rfl, Nat.le_of_ble_eq_true rfl⟩ (zg_retI (fun v11 h7 hE => ?_)) (zg_xok ok tab fin ⟨Nat.le_of_ble_eq_true rfl, Nat.le_of_ble_eq_true rfl⟩)
  refine zg_cost (kc2 := 0) (ks2 := 0) ⟨rfl, rfl⟩ ?_
  exact zg_iret ok fin dX2_moves_63 ⟨Nat.le_of_ble_eq_true rfl, Nat.le_of_ble_eq_true rfl⟩ hE
set_option maxHeartbeats 8000000 in
theorem mt_X2_moves {l : Launch} (hl : l.stackTraces = false) {Z : zw_Z} {a0 : Option Nat} {a1 : Int32} {h : zw_H} {Q : Int32 → zw_H → Prop} {X : String → Nat → zw_H → Prop} (hE : f_X2_moves Z.2.2.2 a0 a1 h Q X) : zw_Met l Z yX2_moves (ws_ yX2_moves cX2_moves 6 (Option.some Jvm.ClassFile.FieldType.int)) rm_X2_moves [zA a0, zI a1] h (zq_I Q) X := by
  refine zg_start (own := "MultipoleLineModel") (by decide +kernel) rfl (Nat.le_of_ble_eq_true rfl) hl (fun Xc ok tab fin hRm hXl hXZ => ?_)
  subst hXl
  subst hXZ
  unfold f_X2_moves at hE
  refine zg_aload_n ok dX2_moves_0 rfl 0 rfl ?_
  refine zg_iload_n ok dX2_moves_1 rfl 1 rfl ?_
  refine zg_iconst (v := 2) ok dX2_moves_2 (by decide) ?_
  refine zg_callV (vs := [zI a1, zI 2]) (rest := []) (rm := rm_X2_of) ok hRm lk_X2_163 dX2_moves_3 hE (fun hE => mt_X2_of hl hE) rfl (Nat.le_of_ble_eq_true rfl) ⟨⟨Nat.le_of_ble_eq_true rfl, Nat.le_of_ble_eq_true rfl⟩, Nat.le_of_ble_eq_true rfl, Nat.le_of_ble_eq_true rfl⟩ (zg_retI (fun v1 h1 hE => ?_)) (zg_xok ok tab fin ⟨Nat.le_of_ble_eq_true rfl, Nat.le_of_ble_eq_true rfl⟩)
  refine zg_cost (kc2 := 0) (ks2 := 0) ⟨rfl, rfl⟩ ?_
  refine zg_iconst (v := 1) ok dX2_moves_6 (by decide) ?_
  refine zg_icmp_ne (tgt := 12) ok dX2_moves_7 (by decide) hE (fun hE => ?_) (fun hE => ?_)
  · refine zg_aload_n ok dX2_moves_12 rfl 0 rfl ?_
    refine zg_aload_n ok dX2_moves_13 rfl 0 rfl ?_
    refine zg_iload_n ok dX2_moves_14 rfl 1 rfl ?_
    refine zg_iconst (v := 0) ok dX2_moves_15 (by decide) ?_
    refine zg_callV (vs := [zI a1, zI 0]) (rest := [va_rf a0]) (rm := rm_X2_of) ok hRm lk_X2_163 dX2_moves_16 hE (fun hE => mt_X2_of hl hE) rfl (Nat.le_of_ble_eq_true rfl) ⟨⟨Nat.le_of_ble_eq_true rfl, Nat.le_of_ble_eq_true rfl⟩, Nat.le_of_ble_eq_true rfl, Nat.le_of_ble_eq_true rfl⟩ (zg_retI (fun v2 h2 hE => ?_)) (zg_xok ok tab fin ⟨Nat.le_of_ble_eq_true rfl, Nat.le_of_ble_eq_true rfl⟩)
    refine zg_cost (kc2 := 0) (ks2 := 0) ⟨rfl, rfl⟩ ?_
    refine zg_callV (vs := [zI v2]) (rest := []) (rm := rm_X2_pullAll) ok hRm lk_X2_342 dX2_moves_19 hE (fun hE => mt_X2_pullAll hl hE) rfl (Nat.le_of_ble_eq_true rfl) ⟨⟨Nat.le_of_ble_eq_true rfl, Nat.le_of_ble_eq_true rfl⟩, Nat.le_of_ble_eq_true rfl, Nat.le_of_ble_eq_true rfl⟩ (zg_retD (fun v3 h3 hE => ?_)) (zg_xok ok tab fin ⟨Nat.le_of_ble_eq_true rfl, Nat.le_of_ble_eq_true rfl⟩)
    refine zg_cost (kc2 := 0) (ks2 := 0) ⟨rfl, rfl⟩ ?_
    refine zg_dstore_n (L' := [(2, .double v3), (0, va_rf a0), (1, .int a1)]) ok dX2_moves_22 rfl (by decide) rfl ?_
    refine zg_aload_n ok dX2_moves_23 rfl 1 rfl ?_
    refine zg_getA ok lf_X2_9 dX2_moves_24 hE (fun v4 hE => ?_)
    refine zg_iconst (v := 5) ok dX2_moves_27 (by decide) ?_
    refine zg_iald ok dX2_moves_28 hE (fun v5 hE => ?_)
    refine zg_i2d ok dX2_moves_29 ?_
    refine zg_ldc2d (v := (4652007308841189376 : UInt64)) ok q2924 dX2_moves_30 ?_
    refine zg_ddivE ok dX2_moves_33 hE (fun hE => ?_)
    refine zg_letD hE (fun v6 hE => ?_)
    refine zg_dstore (L' := [(4, .double v6), (2, .double v3), (0, va_rf a0), (1, .int a1)]) ok dX2_moves_34 (by decide) rfl ?_
    refine zg_dload_n ok dX2_moves_36 rfl 1 rfl ?_
    refine zg_dload ok dX2_moves_37 0 rfl ?_
    refine zg_dcmp ok dX2_moves_39 ?_
    refine zg_if_le (tgt := 64) ok dX2_moves_40 (by decide) hE (fun hE => ?_) (fun hE => ?_)
    · refine zg_dload_n ok dX2_moves_64 rfl 1 rfl ?_
      refine zg_dconst0 ok dX2_moves_65 ?_
      refine zg_dload ok dX2_moves_66 0 rfl ?_
      refine zg_dsubE ok dX2_moves_68 hE (fun hE => ?_)
      refine zg_letD hE (fun v7 hE => ?_)
      refine zg_dcmp ok dX2_moves_69 ?_
      refine zg_if_ge (tgt := 94) ok dX2_moves_70 (by decide) hE (fun hE => ?_) (fun hE => ?_)
      · refine zg_iconst (v := 0) ok dX2_moves_94 (by decide) ?_
        exact zg_iret ok fin dX2_moves_95 ⟨Nat.le_of_ble_eq_true rfl, Nat.le_of_ble_eq_true rfl⟩ hE
      · refine zg_aload_n ok dX2_moves_73 rfl 2 rfl ?_
        refine zg_iload_n ok dX2_moves_74 rfl 3 rfl ?_
        refine zg_iconst (v := 0) ok dX2_moves_75 (by decide) ?_
        refine zg_callV (vs := [zI a1, zI 0]) (rest := []) (rm := rm_X2_of) ok hRm lk_X2_163 dX2_moves_76 hE (fun hE => mt_X2_of hl hE) rfl (Nat.le_of_ble_eq_true rfl) ⟨⟨Nat.le_of_ble_eq_true rfl, Nat.le_of_ble_eq_true rfl⟩, Nat.le_of_ble_eq_true rfl, Nat.le_of_ble_eq_true rfl⟩ (zg_retI (fun v8 h4 hE => ?_)) (zg_xok ok tab fin ⟨Nat.le_of_ble_eq_true rfl, Nat.le_of_ble_eq_true rfl⟩)
        refine zg_cost (kc2 := 0) (ks2 := 0) ⟨rfl, rfl⟩ ?_
        refine zg_if_le (tgt := 86) ok dX2_moves_79 (by decide) hE (fun hE => ?_) (fun hE => ?_)
        · refine zg_iconst (v := 0) ok dX2_moves_86 (by decide) ?_
          refine zg_sub (L' := []) [] rfl ?_
          exact gt_f_X2_moves_J87 hl ok tab fin hRm  hE
        · refine zg_iconst (v := 1) ok dX2_moves_82 (by decide) ?_
          refine zg_goto (tgt := 87) ok dX2_moves_83 (by decide) ?_
          refine zg_sub (L' := []) [] rfl ?_
          exact gt_f_X2_moves_J87 hl ok tab fin hRm  hE
    · refine zg_aload_n ok dX2_moves_43 rfl 2 rfl ?_
      refine zg_iload_n ok dX2_moves_44 rfl 3 rfl ?_
      refine zg_iconst (v := 0) ok dX2_moves_45 (by decide) ?_
      refine zg_callV (vs := [zI a1, zI 0]) (rest := []) (rm := rm_X2_of) ok hRm lk_X2_163 dX2_moves_46 hE (fun hE => mt_X2_of hl hE) rfl (Nat.le_of_ble_eq_true rfl) ⟨⟨Nat.le_of_ble_eq_true rfl, Nat.le_of_ble_eq_true rfl⟩, Nat.le_of_ble_eq_true rfl, Nat.le_of_ble_eq_true rfl⟩ (zg_retI (fun v10 h6 hE => ?_)) (zg_xok ok tab fin ⟨Nat.le_of_ble_eq_true rfl, Nat.le_of_ble_eq_true rfl⟩)
      refine zg_cost (kc2 := 0) (ks2 := 0) ⟨rfl, rfl⟩ ?_
      refine zg_sipush (v := 255) ok dX2_moves_49 (by decide) ?_
      refine zg_icmp_ge (tgt := 59) ok dX2_moves_52 (by decide) hE (fun hE => ?_) (fun hE => ?_)
      · refine zg_iconst (v := 0) ok dX2_moves_59 (by decide) ?_
        refine zg_sub (L' := []) [] rfl ?_
        exact gt_f_X2_moves_J60 hl ok tab fin hRm  hE
      · refine zg_iconst (v := 1) ok dX2_moves_55 (by decide) ?_
        refine zg_goto (tgt := 60) ok dX2_moves_56 (by decide) ?_
        refine zg_sub (L' := []) [] rfl ?_
        exact gt_f_X2_moves_J60 hl ok tab fin hRm  hE
  · refine zg_iconst (v := 0) ok dX2_moves_10 (by decide) ?_
    exact zg_iret ok fin dX2_moves_11 ⟨Nat.le_of_ble_eq_true rfl, Nat.le_of_ble_eq_true rfl⟩ hE
set_option maxHeartbeats 8000000 in
theorem mt_X2_willMove {l : Launch} (hl : l.stackTraces = false) {Z : zw_Z} {a0 : Option Nat} {a1 : Int32} {h : zw_H} {Q : Int32 → zw_H → Prop} {X : String → Nat → zw_H → Prop} (hE : f_X2_willMove Z.2.2.2 a0 a1 h Q X) : zw_Met l Z yX2_willMove (ws_ yX2_willMove cX2_willMove 2 (Option.some Jvm.ClassFile.FieldType.int)) rm_X2_willMove [zA a0, zI a1] h (zq_I Q) X := by
  refine zg_start (own := "MultipoleLineModel") (by decide +kernel) rfl (Nat.le_of_ble_eq_true rfl) hl (fun Xc ok tab fin hRm hXl hXZ => ?_)
  subst hXl
  subst hXZ
  unfold f_X2_willMove at hE
  refine zg_aload_n ok dX2_willMove_0 rfl 0 rfl ?_
  refine zg_aload_n ok dX2_willMove_1 rfl 0 rfl ?_
  refine zg_getI ok lf_X2_156 dX2_willMove_2 hE (fun v1 hE => ?_)
  refine zg_aload_n ok dX2_willMove_5 rfl 0 rfl ?_
  refine zg_iload_n ok dX2_willMove_6 rfl 1 rfl ?_
  refine zg_callV (vs := [zI a1]) (rest := [.int v1, va_rf a0]) (rm := rm_X2_isBody) ok hRm lk_X2_210 dX2_willMove_7 hE (fun hE => mt_X2_isBody hl hE) rfl (Nat.le_of_ble_eq_true rfl) ⟨⟨Nat.le_of_ble_eq_true rfl, Nat.le_of_ble_eq_true rfl⟩, Nat.le_of_ble_eq_true rfl, Nat.le_of_ble_eq_true rfl⟩ (zg_retI (fun v2 h1 hE => ?_)) (zg_xok ok tab fin ⟨Nat.le_of_ble_eq_true rfl, Nat.le_of_ble_eq_true rfl⟩)
  refine zg_cost (kc2 := 0) (ks2 := 0) ⟨rfl, rfl⟩ ?_
  refine zg_callV (vs := [zI v1, zI v2]) (rest := []) (rm := rm_X2_mayTwo) ok hRm lk_X2_193 dX2_willMove_10 hE (fun hE => mt_X2_mayTwo hl hE) rfl (Nat.le_of_ble_eq_true rfl) ⟨⟨Nat.le_of_ble_eq_true rfl, Nat.le_of_ble_eq_true rfl⟩, Nat.le_of_ble_eq_true rfl, Nat.le_of_ble_eq_true rfl⟩ (zg_retI (fun v3 h2 hE => ?_)) (zg_xok ok tab fin ⟨Nat.le_of_ble_eq_true rfl, Nat.le_of_ble_eq_true rfl⟩)
  refine zg_cost (kc2 := 0) (ks2 := 0) ⟨rfl, rfl⟩ ?_
  refine zg_if_eq (tgt := 24) ok dX2_willMove_13 (by decide) hE (fun hE => ?_) (fun hE => ?_)
  · refine zg_iconst (v := 0) ok dX2_willMove_24 (by decide) ?_
    exact zg_iret ok fin dX2_willMove_25 ⟨Nat.le_of_ble_eq_true rfl, Nat.le_of_ble_eq_true rfl⟩ hE
  · refine zg_aload_n ok dX2_willMove_16 rfl 0 rfl ?_
    refine zg_iload_n ok dX2_willMove_17 rfl 1 rfl ?_
    refine zg_callV (vs := [zI a1]) (rest := []) (rm := rm_X2_moves) ok hRm lk_X2_347 dX2_willMove_18 hE (fun hE => mt_X2_moves hl hE) rfl (Nat.le_of_ble_eq_true rfl) ⟨⟨Nat.le_of_ble_eq_true rfl, Nat.le_of_ble_eq_true rfl⟩, Nat.le_of_ble_eq_true rfl, Nat.le_of_ble_eq_true rfl⟩ (zg_retI (fun v4 h3 hE => ?_)) (zg_xok ok tab fin ⟨Nat.le_of_ble_eq_true rfl, Nat.le_of_ble_eq_true rfl⟩)
    refine zg_cost (kc2 := 0) (ks2 := 0) ⟨rfl, rfl⟩ ?_
    refine zg_goto (tgt := 25) ok dX2_willMove_21 (by decide) ?_
    exact zg_iret ok fin dX2_willMove_25 ⟨Nat.le_of_ble_eq_true rfl, Nat.le_of_ble_eq_true rfl⟩ hE
set_option maxHeartbeats 8000000 in
theorem mt_X2_isAhead {l : Launch} (hl : l.stackTraces = false) {Z : zw_Z} {a0 : Int32} {h : zw_H} {Q : Int32 → zw_H → Prop} {X : String → Nat → zw_H → Prop} (hE : f_X2_isAhead Z.2.2.2 a0 h Q X) : zw_Met l Z yX2_isAhead (ws_ yX2_isAhead cX2_isAhead 1 (Option.some Jvm.ClassFile.FieldType.boolean)) rm_X2_isAhead [zI a0] h (zq_I Q) X := by
  refine zg_start (own := "MultipoleLineModel") (by decide +kernel) rfl (Nat.le_of_ble_eq_true rfl) hl (fun Xc ok tab fin hRm hXl hXZ => ?_)
  subst hXl
  subst hXZ
  unfold f_X2_isAhead at hE
  refine zg_iload_n ok dX2_isAhead_0 rfl 0 rfl ?_
  refine zg_iconst (v := 0) ok dX2_isAhead_1 (by decide) ?_
  refine zg_bipush (v := 50) ok dX2_isAhead_2 (by decide) ?_
  refine zg_callS (vs := [zI a0, zI 0, zI 50]) (rest := []) (rm := rm_X2_in) ok hRm lk_X2_77 dX2_isAhead_4 hE (fun hE => mt_X2_in hl hE) rfl (Nat.le_of_ble_eq_true rfl) ⟨⟨Nat.le_of_ble_eq_true rfl, Nat.le_of_ble_eq_true rfl⟩, Nat.le_of_ble_eq_true rfl, Nat.le_of_ble_eq_true rfl⟩ (zg_retI (fun v1 h1 hE => ?_)) (zg_xok ok tab fin ⟨Nat.le_of_ble_eq_true rfl, Nat.le_of_ble_eq_true rfl⟩)
  refine zg_cost (kc2 := 0) (ks2 := 0) ⟨rfl, rfl⟩ ?_
  exact zg_zretE (ret := none) ok fin dX2_isAhead_7 ⟨Nat.le_of_ble_eq_true rfl, Nat.le_of_ble_eq_true rfl⟩ hE
set_option maxHeartbeats 8000000 in
theorem mt_X2_thinks {l : Launch} (hl : l.stackTraces = false) {Z : zw_Z} {a0 : Option Nat} {h : zw_H} {Q : zw_H → Prop} {X : String → Nat → zw_H → Prop} (hE : f_X2_thinks Z.2.2.2 a0 h Q X) : zw_Met l Z yX2_thinks (ws_ yX2_thinks cX2_thinks 1 (Option.none : Option Jvm.ClassFile.FieldType)) rm_X2_thinks [zA a0] h (zq_V Q) X := by
  refine zg_start (own := "MultipoleLineModel") (by decide +kernel) rfl (Nat.le_of_ble_eq_true rfl) hl (fun Xc ok tab fin hRm hXl hXZ => ?_)
  subst hXl
  subst hXZ
  unfold f_X2_thinks at hE
  refine zg_aload_n ok dX2_thinks_0 rfl 0 rfl ?_
  refine zg_getA ok lf_X2_9 dX2_thinks_1 hE (fun v1 hE => ?_)
  refine zg_iconst (v := 0) ok dX2_thinks_4 (by decide) ?_
  refine zg_aload_n ok dX2_thinks_5 rfl 0 rfl ?_
  refine zg_getA ok lf_X2_13 dX2_thinks_6 hE (fun v2 hE => ?_)
  refine zg_iconst (v := 0) ok dX2_thinks_9 (by decide) ?_
  refine zg_callS (vs := [zA v1, zI 0, zA v2, zI 0]) (rest := []) (rm := rm_X2_lays) ok hRm lk_X2_149 dX2_thinks_10 hE (fun hE => mt_X2_lays hl hE) rfl (Nat.le_of_ble_eq_true rfl) ⟨⟨Nat.le_of_ble_eq_true rfl, Nat.le_of_ble_eq_true rfl⟩, Nat.le_of_ble_eq_true rfl, Nat.le_of_ble_eq_true rfl⟩ (zg_retV (fun h1 hE => ?_)) (zg_xok ok tab fin ⟨Nat.le_of_ble_eq_true rfl, Nat.le_of_ble_eq_true rfl⟩)
  refine zg_cost (kc2 := 0) (ks2 := 0) ⟨rfl, rfl⟩ ?_
  exact zg_vret ok fin dX2_thinks_13 ⟨Nat.le_of_ble_eq_true rfl, Nat.le_of_ble_eq_true rfl⟩ hE
set_option maxHeartbeats 8000000 in
theorem gt_f_X2_steps_B4 {Xc : zw_X} {Q : Int32 → zw_H → Prop} {X : String → Nat → zw_H → Prop} (hl : (zw_l Xc).stackTraces = false) (ok : zw_ok Xc cX2_steps "MultipoleLineModel" yX2_steps.name 3) (tab : zw_tab Xc []) (fin : zw_fin Xc (Option.some Jvm.ClassFile.FieldType.int) (zq_I Q) X 0 0) (hRm : zw_rm Xc = rm_X2_steps) {kc ks : Nat} (hb : kc ≤ 0 ∧ ks ≤ 0) {R : Int32 → zw_H → Prop} {l0 : Option Nat} {l1 : Int32} (hR : ∀ (l2 : Int32) (h : zw_H), R l2 h → zw_G Xc kc ks 3 h 4 [(0, va_rf l0), (1, .int l1), (2, .int l2)] []) {k31 : zw_H → Prop} (hk31 : ∀  (h : zw_H), k31  h → zw_G Xc kc ks 3 h 31 [(0, va_rf l0), (1, .int l1)] [])  {l2 : Int32} {h : zw_H} (hE : f_X2_steps_B4 (zw_Zf Xc).2.2.2 Q X k31 l0 l1 R l2 h) : zw_G Xc kc ks 3 h 4 [(0, va_rf l0), (1, .int l1), (2, .int l2)] [] := by
  unfold f_X2_steps_B4 at hE
  refine zg_iload_n ok dX2_steps_4 rfl 2 rfl ?_
  refine zg_aload_n ok dX2_steps_5 rfl 0 rfl ?_
  refine zg_getA ok lf_X2_9 dX2_steps_6 hE (fun v1 hE => ?_)
  refine zg_iconst (v := 0) ok dX2_steps_9 (by decide) ?_
  refine zg_iald ok dX2_steps_10 hE (fun v2 hE => ?_)
  refine zg_icmp_ge (tgt := 31) ok dX2_steps_11 (by decide) hE (fun hE => ?_) (fun hE => ?_)
  · refine zg_sub (L' := [(0, va_rf l0), (1, .int l1)]) [0, 1] rfl ?_
    exact hk31 _ hE
  · refine zg_aload_n ok dX2_steps_14 rfl 0 rfl ?_
    refine zg_getA ok lf_X2_51 dX2_steps_15 hE (fun v3 hE => ?_)
    refine zg_iload_n ok dX2_steps_18 rfl 2 rfl ?_
    refine zg_aload_n ok dX2_steps_19 rfl 0 rfl ?_
    refine zg_iload_n ok dX2_steps_20 rfl 2 rfl ?_
    refine zg_callV (vs := [zI l2]) (rest := [.int l2, va_rf v3]) (rm := rm_X2_moves) ok hRm lk_X2_347 dX2_steps_21 hE (fun hE => mt_X2_moves hl hE) rfl (Nat.le_of_ble_eq_true rfl) ⟨⟨Nat.le_of_ble_eq_true rfl, Nat.le_of_ble_eq_true rfl⟩, (by show kc + 0 ≤ 0; omega), (by show ks + 0 ≤ 0; omega)⟩ (zg_retI (fun v4 h1 hE => ?_)) (zg_xok ok tab fin ⟨(by show kc + 0 ≤ 0; omega), (by show ks + 0 ≤ 0; omega)⟩)
    refine zg_cost (kc2 := kc) (ks2 := ks) ⟨(by show kc + 0 = kc; omega), (by show ks + 0 = ks; omega)⟩ ?_
    refine zg_iast ok dX2_steps_24 hE (fun h2 hE => ?_)
    refine zg_iincL (k := 2) (L' := fun v5 => [(2, .int v5), (0, va_rf l0), (1, .int l1)]) ok dX2_steps_25 (by decide +kernel) hE rfl (by decide) (fun _ => rfl) (fun v5 hE => ?_)
    refine zg_goto (tgt := 4) ok dX2_steps_28 (by decide) ?_
    refine zg_sub (L' := [(0, va_rf l0), (1, .int l1), (2, .int v5)]) [1, 2, 0] rfl ?_
    exact hR _ _ hE
theorem gt_f_X2_steps_L4 {Xc : zw_X} {Q : Int32 → zw_H → Prop} {X : String → Nat → zw_H → Prop} (hl : (zw_l Xc).stackTraces = false) (ok : zw_ok Xc cX2_steps "MultipoleLineModel" yX2_steps.name 3) (tab : zw_tab Xc []) (fin : zw_fin Xc (Option.some Jvm.ClassFile.FieldType.int) (zq_I Q) X 0 0) (hRm : zw_rm Xc = rm_X2_steps) {kc ks : Nat} (hb : kc ≤ 0 ∧ ks ≤ 0) {l0 : Option Nat} {l1 : Int32} {k31 : zw_H → Prop} (hk31 : ∀  (h : zw_H), k31  h → zw_G Xc kc ks 3 h 31 [(0, va_rf l0), (1, .int l1)] [])  : ∀ (n9 : Nat) (l2 : Int32) (h : zw_H), zl2 (f_X2_steps_B4 (zw_Zf Xc).2.2.2 Q X k31 l0 l1) n9 l2 h → zw_G Xc kc ks 3 h 4 [(0, va_rf l0), (1, .int l1), (2, .int l2)] [] := by
  intro n9
  induction n9 with
  | zero => intro l2 h hE; exact hE.elim
  | succ n9 ih => intro l2 h hE; exact gt_f_X2_steps_B4 hl ok tab fin hRm hb ih hk31 hE
set_option maxHeartbeats 8000000 in
theorem gt_f_X2_steps_J107 {Xc : zw_X} {Q : Int32 → zw_H → Prop} {X : String → Nat → zw_H → Prop} (hl : (zw_l Xc).stackTraces = false) (ok : zw_ok Xc cX2_steps "MultipoleLineModel" yX2_steps.name 3) (tab : zw_tab Xc []) (fin : zw_fin Xc (Option.some Jvm.ClassFile.FieldType.int) (zq_I Q) X 0 0) (hRm : zw_rm Xc = rm_X2_steps) {kc ks : Nat} (hb : kc ≤ 0 ∧ ks ≤ 0) {R : Int32 → Int32 → zw_H → Prop} {l0 : Option Nat} (hR : ∀ (l1 : Int32) (l2 : Int32) (h : zw_H), R l1 l2 h → zw_G Xc kc ks 3 h 33 [(0, va_rf l0), (1, .int l1), (2, .int l2)] []) {k118 : Int32 → zw_H → Prop} (hk118 : ∀ (l1 : Int32) (h : zw_H), k118 l1 h → zw_G Xc kc ks 3 h 118 [(0, va_rf l0), (1, .int l1)] [])  {l2 : Int32} {s0 : Int32} {s1 : Int32} {h : zw_H} (hE : f_X2_steps_J107 (zw_Zf Xc).2.2.2 Q X R k118 l0 l2 s0 s1 h) : zw_G Xc kc ks 3 h 107 [(0, va_rf l0), (2, .int l2)] [.int s0, .int s1] := by
  unfold f_X2_steps_J107 at hE
  refine zg_callS (vs := [zI s0]) (rest := [.int s1]) (rm := rm_X2_one) ok hRm lk_X2_170 dX2_steps_107 hE (fun hE => mt_X2_one hl hE) rfl (Nat.le_of_ble_eq_true rfl) ⟨⟨Nat.le_of_ble_eq_true rfl, Nat.le_of_ble_eq_true rfl⟩, (by show kc + 0 ≤ 0; omega), (by show ks + 0 ≤ 0; omega)⟩ (zg_retI (fun v17 h9 hE => ?_)) (zg_xok ok tab fin ⟨(by show kc + 0 ≤ 0; omega), (by show ks + 0 ≤ 0; omega)⟩)
  refine zg_cost (kc2 := kc) (ks2 := ks) ⟨(by show kc + 0 = kc; omega), (by show ks + 0 = ks; omega)⟩ ?_
  refine zg_iadd ok dX2_steps_110 ?_
  refine zg_letI hE (fun v18 hE => ?_)
  refine zg_istore_nR (L' := [(1, .int v18), (0, va_rf l0), (2, .int l2)]) ok dX2_steps_111 rfl (by decide) 0 rfl rfl rfl ?_
  refine zg_iincL (k := 2) (L' := fun v19 => [(2, .int v19), (1, .int v18), (0, va_rf l0)]) ok dX2_steps_112 (by decide +kernel) hE rfl (by decide) (fun _ => rfl) (fun v19 hE => ?_)
  refine zg_goto (tgt := 33) ok dX2_steps_115 (by decide) ?_
  refine zg_sub (L' := [(0, va_rf l0), (1, .int v18), (2, .int v19)]) [2, 1, 0] rfl ?_
  exact hR _ _ _ hE
set_option maxHeartbeats 8000000 in
theorem gt_f_X2_steps_J85 {Xc : zw_X} {Q : Int32 → zw_H → Prop} {X : String → Nat → zw_H → Prop} (hl : (zw_l Xc).stackTraces = false) (ok : zw_ok Xc cX2_steps "MultipoleLineModel" yX2_steps.name 3) (tab : zw_tab Xc []) (fin : zw_fin Xc (Option.some Jvm.ClassFile.FieldType.int) (zq_I Q) X 0 0) (hRm : zw_rm Xc = rm_X2_steps) {kc ks : Nat} (hb : kc ≤ 0 ∧ ks ≤ 0) {R : Int32 → Int32 → zw_H → Prop} {l0 : Option Nat} (hR : ∀ (l1 : Int32) (l2 : Int32) (h : zw_H), R l1 l2 h → zw_G Xc kc ks 3 h 33 [(0, va_rf l0), (1, .int l1), (2, .int l2)] []) {k118 : Int32 → zw_H → Prop} (hk118 : ∀ (l1 : Int32) (h : zw_H), k118 l1 h → zw_G Xc kc ks 3 h 118 [(0, va_rf l0), (1, .int l1)] [])  {l1 : Int32} {l2 : Int32} {s0 : Int32} {s1 : Int32} {s2 : Int32} {s3 : Int32} {s4 : Option Nat} {h : zw_H} (hE : f_X2_steps_J85 (zw_Zf Xc).2.2.2 Q X R k118 l0 l1 l2 s0 s1 s2 s3 s4 h) : zw_G Xc kc ks 3 h 85 [(0, va_rf l0), (1, .int l1), (2, .int l2)] [.int s0, .int s1, .int s2, .int s3, va_rf s4] := by
  unfold f_X2_steps_J85 at hE
  refine zg_callS (vs := [zI s0]) (rest := [.int s1, .int s2, .int s3, va_rf s4]) (rm := rm_X2_one) ok hRm lk_X2_170 dX2_steps_85 hE (fun hE => mt_X2_one hl hE) rfl (Nat.le_of_ble_eq_true rfl) ⟨⟨Nat.le_of_ble_eq_true rfl, Nat.le_of_ble_eq_true rfl⟩, (by show kc + 0 ≤ 0; omega), (by show ks + 0 ≤ 0; omega)⟩ (zg_retI (fun v14 h7 hE => ?_)) (zg_xok ok tab fin ⟨(by show kc + 0 ≤ 0; omega), (by show ks + 0 ≤ 0; omega)⟩)
  refine zg_cost (kc2 := kc) (ks2 := ks) ⟨(by show kc + 0 = kc; omega), (by show ks + 0 = ks; omega)⟩ ?_
  refine zg_iadd ok dX2_steps_88 ?_
  refine zg_callV (vs := [zI s3, zI s2, zI (s1 + v14)]) (rest := []) (rm := rm_X2_puts) ok hRm lk_X2_166 dX2_steps_89 hE (fun hE => mt_X2_puts hl hE) rfl (Nat.le_of_ble_eq_true rfl) ⟨⟨Nat.le_of_ble_eq_true rfl, Nat.le_of_ble_eq_true rfl⟩, (by show kc + 0 ≤ 0; omega), (by show ks + 0 ≤ 0; omega)⟩ (zg_retV (fun h8 hE => ?_)) (zg_xok ok tab fin ⟨(by show kc + 0 ≤ 0; omega), (by show ks + 0 ≤ 0; omega)⟩)
  refine zg_cost (kc2 := kc) (ks2 := ks) ⟨(by show kc + 0 = kc; omega), (by show ks + 0 = ks; omega)⟩ ?_
  refine zg_iload_n ok dX2_steps_92 rfl 1 rfl ?_
  refine zg_aload_n ok dX2_steps_93 rfl 0 rfl ?_
  refine zg_getA ok lf_X2_51 dX2_steps_94 hE (fun v15 hE => ?_)
  refine zg_iload_n ok dX2_steps_97 rfl 2 rfl ?_
  refine zg_iald ok dX2_steps_98 hE (fun v16 hE => ?_)
  refine zg_if_eq (tgt := 106) ok dX2_steps_99 (by decide) hE (fun hE => ?_) (fun hE => ?_)
  · refine zg_iconst (v := 0) ok dX2_steps_106 (by decide) ?_
    refine zg_sub (L' := [(0, va_rf l0), (2, .int l2)]) [0, 2] rfl ?_
    exact gt_f_X2_steps_J107 hl ok tab fin hRm hb hR hk118 hE
  · refine zg_iconst (v := 1) ok dX2_steps_102 (by decide) ?_
    refine zg_goto (tgt := 107) ok dX2_steps_103 (by decide) ?_
    refine zg_sub (L' := [(0, va_rf l0), (2, .int l2)]) [0, 2] rfl ?_
    exact gt_f_X2_steps_J107 hl ok tab fin hRm hb hR hk118 hE
set_option maxHeartbeats 8000000 in
theorem gt_f_X2_steps_B33 {Xc : zw_X} {Q : Int32 → zw_H → Prop} {X : String → Nat → zw_H → Prop} (hl : (zw_l Xc).stackTraces = false) (ok : zw_ok Xc cX2_steps "MultipoleLineModel" yX2_steps.name 3) (tab : zw_tab Xc []) (fin : zw_fin Xc (Option.some Jvm.ClassFile.FieldType.int) (zq_I Q) X 0 0) (hRm : zw_rm Xc = rm_X2_steps) {kc ks : Nat} (hb : kc ≤ 0 ∧ ks ≤ 0) {R : Int32 → Int32 → zw_H → Prop} {l0 : Option Nat} (hR : ∀ (l1 : Int32) (l2 : Int32) (h : zw_H), R l1 l2 h → zw_G Xc kc ks 3 h 33 [(0, va_rf l0), (1, .int l1), (2, .int l2)] []) {k118 : Int32 → zw_H → Prop} (hk118 : ∀ (l1 : Int32) (h : zw_H), k118 l1 h → zw_G Xc kc ks 3 h 118 [(0, va_rf l0), (1, .int l1)] [])  {l1 : Int32} {l2 : Int32} {h : zw_H} (hE : f_X2_steps_B33 (zw_Zf Xc).2.2.2 Q X k118 l0 R l1 l2 h) : zw_G Xc kc ks 3 h 33 [(0, va_rf l0), (1, .int l1), (2, .int l2)] [] := by
  unfold f_X2_steps_B33 at hE
  refine zg_iload_n ok dX2_steps_33 rfl 2 rfl ?_
  refine zg_aload_n ok dX2_steps_34 rfl 0 rfl ?_
  refine zg_getA ok lf_X2_9 dX2_steps_35 hE (fun v6 hE => ?_)
  refine zg_iconst (v := 0) ok dX2_steps_38 (by decide) ?_
  refine zg_iald ok dX2_steps_39 hE (fun v7 hE => ?_)
  refine zg_icmp_ge (tgt := 118) ok dX2_steps_40 (by decide) hE (fun hE => ?_) (fun hE => ?_)
  · refine zg_sub (L' := [(0, va_rf l0), (1, .int l1)]) [0, 1] rfl ?_
    exact hk118 _ _ hE
  · refine zg_aload_n ok dX2_steps_43 rfl 0 rfl ?_
    refine zg_iload_n ok dX2_steps_44 rfl 2 rfl ?_
    refine zg_iconst (v := 0) ok dX2_steps_45 (by decide) ?_
    refine zg_aload_n ok dX2_steps_46 rfl 0 rfl ?_
    refine zg_iload_n ok dX2_steps_47 rfl 2 rfl ?_
    refine zg_iconst (v := 0) ok dX2_steps_48 (by decide) ?_
    refine zg_callV (vs := [zI l2, zI 0]) (rest := [.int 0, .int l2, va_rf l0]) (rm := rm_X2_of) ok hRm lk_X2_163 dX2_steps_49 hE (fun hE => mt_X2_of hl hE) rfl (Nat.le_of_ble_eq_true rfl) ⟨⟨Nat.le_of_ble_eq_true rfl, Nat.le_of_ble_eq_true rfl⟩, (by show kc + 0 ≤ 0; omega), (by show ks + 0 ≤ 0; omega)⟩ (zg_retI (fun v8 h4 hE => ?_)) (zg_xok ok tab fin ⟨(by show kc + 0 ≤ 0; omega), (by show ks + 0 ≤ 0; omega)⟩)
    refine zg_cost (kc2 := kc) (ks2 := ks) ⟨(by show kc + 0 = kc; omega), (by show ks + 0 = ks; omega)⟩ ?_
    refine zg_aload_n ok dX2_steps_52 rfl 0 rfl ?_
    refine zg_getA ok lf_X2_51 dX2_steps_53 hE (fun v9 hE => ?_)
    refine zg_iload_n ok dX2_steps_56 rfl 2 rfl ?_
    refine zg_iald ok dX2_steps_57 hE (fun v10 hE => ?_)
    refine zg_iadd ok dX2_steps_58 ?_
    refine zg_callV (vs := [zI l2, zI 0, zI (v8 + v10)]) (rest := []) (rm := rm_X2_puts) ok hRm lk_X2_166 dX2_steps_59 hE (fun hE => mt_X2_puts hl hE) rfl (Nat.le_of_ble_eq_true rfl) ⟨⟨Nat.le_of_ble_eq_true rfl, Nat.le_of_ble_eq_true rfl⟩, (by show kc + 0 ≤ 0; omega), (by show ks + 0 ≤ 0; omega)⟩ (zg_retV (fun h5 hE => ?_)) (zg_xok ok tab fin ⟨(by show kc + 0 ≤ 0; omega), (by show ks + 0 ≤ 0; omega)⟩)
    refine zg_cost (kc2 := kc) (ks2 := ks) ⟨(by show kc + 0 = kc; omega), (by show ks + 0 = ks; omega)⟩ ?_
    refine zg_aload_n ok dX2_steps_62 rfl 0 rfl ?_
    refine zg_iload_n ok dX2_steps_63 rfl 2 rfl ?_
    refine zg_iconst (v := 3) ok dX2_steps_64 (by decide) ?_
    refine zg_aload_n ok dX2_steps_65 rfl 0 rfl ?_
    refine zg_iload_n ok dX2_steps_66 rfl 2 rfl ?_
    refine zg_iconst (v := 3) ok dX2_steps_67 (by decide) ?_
    refine zg_callV (vs := [zI l2, zI 3]) (rest := [.int 3, .int l2, va_rf l0]) (rm := rm_X2_of) ok hRm lk_X2_163 dX2_steps_68 hE (fun hE => mt_X2_of hl hE) rfl (Nat.le_of_ble_eq_true rfl) ⟨⟨Nat.le_of_ble_eq_true rfl, Nat.le_of_ble_eq_true rfl⟩, (by show kc + 0 ≤ 0; omega), (by show ks + 0 ≤ 0; omega)⟩ (zg_retI (fun v11 h6 hE => ?_)) (zg_xok ok tab fin ⟨(by show kc + 0 ≤ 0; omega), (by show ks + 0 ≤ 0; omega)⟩)
    refine zg_cost (kc2 := kc) (ks2 := ks) ⟨(by show kc + 0 = kc; omega), (by show ks + 0 = ks; omega)⟩ ?_
    refine zg_aload_n ok dX2_steps_71 rfl 0 rfl ?_
    refine zg_getA ok lf_X2_51 dX2_steps_72 hE (fun v12 hE => ?_)
    refine zg_iload_n ok dX2_steps_75 rfl 2 rfl ?_
    refine zg_iald ok dX2_steps_76 hE (fun v13 hE => ?_)
    refine zg_if_eq (tgt := 84) ok dX2_steps_77 (by decide) hE (fun hE => ?_) (fun hE => ?_)
    · refine zg_iconst (v := 0) ok dX2_steps_84 (by decide) ?_
      exact gt_f_X2_steps_J85 hl ok tab fin hRm hb hR hk118 hE
    · refine zg_iconst (v := 1) ok dX2_steps_80 (by decide) ?_
      refine zg_goto (tgt := 85) ok dX2_steps_81 (by decide) ?_
      exact gt_f_X2_steps_J85 hl ok tab fin hRm hb hR hk118 hE
theorem gt_f_X2_steps_L33 {Xc : zw_X} {Q : Int32 → zw_H → Prop} {X : String → Nat → zw_H → Prop} (hl : (zw_l Xc).stackTraces = false) (ok : zw_ok Xc cX2_steps "MultipoleLineModel" yX2_steps.name 3) (tab : zw_tab Xc []) (fin : zw_fin Xc (Option.some Jvm.ClassFile.FieldType.int) (zq_I Q) X 0 0) (hRm : zw_rm Xc = rm_X2_steps) {kc ks : Nat} (hb : kc ≤ 0 ∧ ks ≤ 0) {l0 : Option Nat} {k118 : Int32 → zw_H → Prop} (hk118 : ∀ (l1 : Int32) (h : zw_H), k118 l1 h → zw_G Xc kc ks 3 h 118 [(0, va_rf l0), (1, .int l1)] [])  : ∀ (n9 : Nat) (l1 : Int32) (l2 : Int32) (h : zw_H), zl3 (f_X2_steps_B33 (zw_Zf Xc).2.2.2 Q X k118 l0) n9 l1 l2 h → zw_G Xc kc ks 3 h 33 [(0, va_rf l0), (1, .int l1), (2, .int l2)] [] := by
  intro n9
  induction n9 with
  | zero => intro l1 l2 h hE; exact hE.elim
  | succ n9 ih => intro l1 l2 h hE; exact gt_f_X2_steps_B33 hl ok tab fin hRm hb ih hk118 hE
set_option maxHeartbeats 8000000 in
theorem mt_X2_steps {l : Launch} (hl : l.stackTraces = false) {Z : zw_Z} {a0 : Option Nat} {h : zw_H} {Q : Int32 → zw_H → Prop} {X : String → Nat → zw_H → Prop} (hE : f_X2_steps Z.2.2.2 a0 h Q X) : zw_Met l Z yX2_steps (ws_ yX2_steps cX2_steps 3 (Option.some Jvm.ClassFile.FieldType.int)) rm_X2_steps [zA a0] h (zq_I Q) X := by
  refine zg_start (own := "MultipoleLineModel") (by decide +kernel) rfl (Nat.le_of_ble_eq_true rfl) hl (fun Xc ok tab fin hRm hXl hXZ => ?_)
  subst hXl
  subst hXZ
  unfold f_X2_steps at hE
  refine zg_iconst (v := 0) ok dX2_steps_0 (by decide) ?_
  refine zg_istore_nR (L' := [(1, .int 0), (0, va_rf a0)]) ok dX2_steps_1 rfl (by decide) 0 rfl rfl rfl ?_
  refine zg_iconst (v := 0) ok dX2_steps_2 (by decide) ?_
  refine zg_istore_n (L' := [(2, .int 0), (1, .int 0), (0, va_rf a0)]) ok dX2_steps_3 rfl (by decide) rfl ?_
  refine zg_sub (L' := [(0, va_rf a0), (1, .int 0), (2, .int 0)]) [2, 1, 0] rfl ?_
  refine gt_f_X2_steps_L4 hl ok tab fin hRm ⟨Nat.le_of_ble_eq_true rfl, Nat.le_of_ble_eq_true rfl⟩ ?_ _ _ _ hE
  · intro h3 hE
    refine zg_iconst (v := 0) ok dX2_steps_31 (by decide) ?_
    refine zg_istore_n (L' := [(2, .int 0), (0, va_rf a0), (1, .int 0)]) ok dX2_steps_32 rfl (by decide) rfl ?_
    refine zg_sub (L' := [(0, va_rf a0), (1, .int 0), (2, .int 0)]) [1, 2, 0] rfl ?_
    refine gt_f_X2_steps_L33 hl ok tab fin hRm ⟨Nat.le_of_ble_eq_true rfl, Nat.le_of_ble_eq_true rfl⟩ ?_ _ _ _ _ hE
    · intro v20 h10 hE
      refine zg_aload_n ok dX2_steps_118 rfl 0 rfl ?_
      refine zg_getA ok lf_X2_9 dX2_steps_119 hE (fun v21 hE => ?_)
      refine zg_bipush (v := 6) ok dX2_steps_122 (by decide) ?_
      refine zg_dup2_11 ok dX2_steps_124 rfl (zw_rfc _) ?_
      refine zg_iald ok dX2_steps_125 hE (fun v22 hE => ?_)
      refine zg_iconst (v := 1) ok dX2_steps_126 (by decide) ?_
      refine zg_iadd ok dX2_steps_127 ?_
      refine zg_iast ok dX2_steps_128 hE (fun h11 hE => ?_)
      refine zg_aload_n ok dX2_steps_129 rfl 0 rfl ?_
      refine zg_getA ok lf_X2_9 dX2_steps_130 hE (fun v23 hE => ?_)
      refine zg_iconst (v := 1) ok dX2_steps_133 (by decide) ?_
      refine zg_dup2_11 ok dX2_steps_134 rfl (zw_rfc _) ?_
      refine zg_iald ok dX2_steps_135 hE (fun v24 hE => ?_)
      refine zg_iload_n ok dX2_steps_136 rfl 1 rfl ?_
      refine zg_iadd ok dX2_steps_137 ?_
      refine zg_iast ok dX2_steps_138 hE (fun h12 hE => ?_)
      refine zg_iload_n ok dX2_steps_139 rfl 1 rfl ?_
      exact zg_iret ok fin dX2_steps_140 ⟨Nat.le_of_ble_eq_true rfl, Nat.le_of_ble_eq_true rfl⟩ hE
set_option maxHeartbeats 8000000 in
theorem gt_f_X2_stepsMany_B4 {Xc : zw_X} {Q : Int32 → zw_H → Prop} {X : String → Nat → zw_H → Prop} (hl : (zw_l Xc).stackTraces = false) (ok : zw_ok Xc cX2_stepsMany "MultipoleLineModel" yX2_stepsMany.name 4) (tab : zw_tab Xc []) (fin : zw_fin Xc (Option.some Jvm.ClassFile.FieldType.int) (zq_I Q) X 0 0) (hRm : zw_rm Xc = rm_X2_stepsMany) {kc ks : Nat} (hb : kc ≤ 0 ∧ ks ≤ 0) {R : Int32 → Int32 → zw_H → Prop} {l0 : Option Nat} {l1 : Int32} (hR : ∀ (l2 : Int32) (l3 : Int32) (h : zw_H), R l2 l3 h → zw_G Xc kc ks 4 h 4 [(0, va_rf l0), (1, .int l1), (2, .int l2), (3, .int l3)] []) {k22 : Int32 → zw_H → Prop} (hk22 : ∀ (l2 : Int32) (h : zw_H), k22 l2 h → zw_G Xc kc ks 4 h 22 [(2, .int l2)] [])  {l2 : Int32} {l3 : Int32} {h : zw_H} (hE : f_X2_stepsMany_B4 (zw_Zf Xc).2.2.2 Q X k22 l0 l1 R l2 l3 h) : zw_G Xc kc ks 4 h 4 [(0, va_rf l0), (1, .int l1), (2, .int l2), (3, .int l3)] [] := by
  unfold f_X2_stepsMany_B4 at hE
  refine zg_iload_n ok dX2_stepsMany_4 rfl 3 rfl ?_
  refine zg_iload_n ok dX2_stepsMany_5 rfl 1 rfl ?_
  refine zg_icmp_ge (tgt := 22) ok dX2_stepsMany_6 (by decide) hE (fun hE => ?_) (fun hE => ?_)
  · refine zg_sub (L' := [(2, .int l2)]) [2] rfl ?_
    exact hk22 _ _ hE
  · refine zg_iload_n ok dX2_stepsMany_9 rfl 2 rfl ?_
    refine zg_aload_n ok dX2_stepsMany_10 rfl 0 rfl ?_
    refine zg_callV (vs := []) (rest := [.int l2]) (rm := rm_X2_steps) ok hRm lk_X2_350 dX2_stepsMany_11 hE (fun hE => mt_X2_steps hl hE) rfl (Nat.le_of_ble_eq_true rfl) ⟨⟨Nat.le_of_ble_eq_true rfl, Nat.le_of_ble_eq_true rfl⟩, (by show kc + 0 ≤ 0; omega), (by show ks + 0 ≤ 0; omega)⟩ (zg_retI (fun v1 h1 hE => ?_)) (zg_xok ok tab fin ⟨(by show kc + 0 ≤ 0; omega), (by show ks + 0 ≤ 0; omega)⟩)
    refine zg_cost (kc2 := kc) (ks2 := ks) ⟨(by show kc + 0 = kc; omega), (by show ks + 0 = ks; omega)⟩ ?_
    refine zg_iadd ok dX2_stepsMany_14 ?_
    refine zg_letI hE (fun v2 hE => ?_)
    refine zg_istore_n (L' := [(2, .int v2), (0, va_rf l0), (1, .int l1), (3, .int l3)]) ok dX2_stepsMany_15 rfl (by decide) rfl ?_
    refine zg_iincL (k := 3) (L' := fun v3 => [(3, .int v3), (2, .int v2), (0, va_rf l0), (1, .int l1)]) ok dX2_stepsMany_16 (by decide +kernel) hE rfl (by decide) (fun _ => rfl) (fun v3 hE => ?_)
    refine zg_goto (tgt := 4) ok dX2_stepsMany_19 (by decide) ?_
    refine zg_sub (L' := [(0, va_rf l0), (1, .int l1), (2, .int v2), (3, .int v3)]) [2, 3, 1, 0] rfl ?_
    exact hR _ _ _ hE
theorem gt_f_X2_stepsMany_L4 {Xc : zw_X} {Q : Int32 → zw_H → Prop} {X : String → Nat → zw_H → Prop} (hl : (zw_l Xc).stackTraces = false) (ok : zw_ok Xc cX2_stepsMany "MultipoleLineModel" yX2_stepsMany.name 4) (tab : zw_tab Xc []) (fin : zw_fin Xc (Option.some Jvm.ClassFile.FieldType.int) (zq_I Q) X 0 0) (hRm : zw_rm Xc = rm_X2_stepsMany) {kc ks : Nat} (hb : kc ≤ 0 ∧ ks ≤ 0) {l0 : Option Nat} {l1 : Int32} {k22 : Int32 → zw_H → Prop} (hk22 : ∀ (l2 : Int32) (h : zw_H), k22 l2 h → zw_G Xc kc ks 4 h 22 [(2, .int l2)] [])  : ∀ (n9 : Nat) (l2 : Int32) (l3 : Int32) (h : zw_H), zl3 (f_X2_stepsMany_B4 (zw_Zf Xc).2.2.2 Q X k22 l0 l1) n9 l2 l3 h → zw_G Xc kc ks 4 h 4 [(0, va_rf l0), (1, .int l1), (2, .int l2), (3, .int l3)] [] := by
  intro n9
  induction n9 with
  | zero => intro l2 l3 h hE; exact hE.elim
  | succ n9 ih => intro l2 l3 h hE; exact gt_f_X2_stepsMany_B4 hl ok tab fin hRm hb ih hk22 hE
set_option maxHeartbeats 8000000 in
theorem mt_X2_stepsMany {l : Launch} (hl : l.stackTraces = false) {Z : zw_Z} {a0 : Option Nat} {a1 : Int32} {h : zw_H} {Q : Int32 → zw_H → Prop} {X : String → Nat → zw_H → Prop} (hE : f_X2_stepsMany Z.2.2.2 a0 a1 h Q X) : zw_Met l Z yX2_stepsMany (ws_ yX2_stepsMany cX2_stepsMany 4 (Option.some Jvm.ClassFile.FieldType.int)) rm_X2_stepsMany [zA a0, zI a1] h (zq_I Q) X := by
  refine zg_start (own := "MultipoleLineModel") (by decide +kernel) rfl (Nat.le_of_ble_eq_true rfl) hl (fun Xc ok tab fin hRm hXl hXZ => ?_)
  subst hXl
  subst hXZ
  unfold f_X2_stepsMany at hE
  refine zg_iconst (v := 0) ok dX2_stepsMany_0 (by decide) ?_
  refine zg_istore_n (L' := [(2, .int 0), (0, va_rf a0), (1, .int a1)]) ok dX2_stepsMany_1 rfl (by decide) rfl ?_
  refine zg_iconst (v := 0) ok dX2_stepsMany_2 (by decide) ?_
  refine zg_istore_n (L' := [(3, .int 0), (2, .int 0), (0, va_rf a0), (1, .int a1)]) ok dX2_stepsMany_3 rfl (by decide) rfl ?_
  refine zg_sub (L' := [(0, va_rf a0), (1, .int a1), (2, .int 0), (3, .int 0)]) [2, 3, 1, 0] rfl ?_
  refine gt_f_X2_stepsMany_L4 hl ok tab fin hRm ⟨Nat.le_of_ble_eq_true rfl, Nat.le_of_ble_eq_true rfl⟩ ?_ _ _ _ _ hE
  · intro v4 h2 hE
    refine zg_iload_n ok dX2_stepsMany_22 rfl 0 rfl ?_
    exact zg_iret ok fin dX2_stepsMany_23 ⟨Nat.le_of_ble_eq_true rfl, Nat.le_of_ble_eq_true rfl⟩ hE
set_option maxHeartbeats 8000000 in
theorem mt_X2_back {l : Launch} (hl : l.stackTraces = false) {Z : zw_Z} {a0 : Option Nat} {a1 : Int32} {h : zw_H} {Q : Int32 → zw_H → Prop} {X : String → Nat → zw_H → Prop} (hE : f_X2_back Z.2.2.2 a0 a1 h Q X) : zw_Met l Z yX2_back (ws_ yX2_back cX2_back 2 (Option.some Jvm.ClassFile.FieldType.int)) rm_X2_back [zA a0, zI a1] h (zq_I Q) X := by
  refine zg_start (own := "MultipoleLineModel") (by decide +kernel) rfl (Nat.le_of_ble_eq_true rfl) hl (fun Xc ok tab fin hRm hXl hXZ => ?_)
  subst hXl
  subst hXZ
  unfold f_X2_back at hE
  refine zg_aload_n ok dX2_back_0 rfl 0 rfl ?_
  refine zg_getA ok lf_X2_13 dX2_back_1 hE (fun v1 hE => ?_)
  refine zg_iconst (v := 0) ok dX2_back_4 (by decide) ?_
  refine zg_aload_n ok dX2_back_5 rfl 0 rfl ?_
  refine zg_getA ok lf_X2_9 dX2_back_6 hE (fun v2 hE => ?_)
  refine zg_iconst (v := 0) ok dX2_back_9 (by decide) ?_
  refine zg_callS (vs := [zA v1, zI 0, zA v2, zI 0]) (rest := []) (rm := rm_X2_lays) ok hRm lk_X2_149 dX2_back_10 hE (fun hE => mt_X2_lays hl hE) rfl (Nat.le_of_ble_eq_true rfl) ⟨⟨Nat.le_of_ble_eq_true rfl, Nat.le_of_ble_eq_true rfl⟩, Nat.le_of_ble_eq_true rfl, Nat.le_of_ble_eq_true rfl⟩ (zg_retV (fun h1 hE => ?_)) (zg_xok ok tab fin ⟨Nat.le_of_ble_eq_true rfl, Nat.le_of_ble_eq_true rfl⟩)
  refine zg_cost (kc2 := 0) (ks2 := 0) ⟨rfl, rfl⟩ ?_
  refine zg_iload_n ok dX2_back_13 rfl 1 rfl ?_
  exact zg_iret ok fin dX2_back_14 ⟨Nat.le_of_ble_eq_true rfl, Nat.le_of_ble_eq_true rfl⟩ hE
set_option maxHeartbeats 8000000 in
theorem mt_X2_placeIn {l : Launch} (hl : l.stackTraces = false) {Z : zw_Z} {a0 : Option Nat} {a1 : Int32} {a2 : Int32} {h : zw_H} {Q : Int32 → zw_H → Prop} {X : String → Nat → zw_H → Prop} (hE : f_X2_placeIn Z.2.2.2 a0 a1 a2 h Q X) : zw_Met l Z yX2_placeIn (ws_ yX2_placeIn cX2_placeIn 4 (Option.some Jvm.ClassFile.FieldType.int)) rm_X2_placeIn [zA a0, zI a1, zI a2] h (zq_I Q) X := by
  refine zg_start (own := "MultipoleLineModel") (by decide +kernel) rfl (Nat.le_of_ble_eq_true rfl) hl (fun Xc ok tab fin hRm hXl hXZ => ?_)
  subst hXl
  subst hXZ
  unfold f_X2_placeIn at hE
  refine zg_aload_n ok dX2_placeIn_0 rfl 0 rfl ?_
  refine zg_aload_n ok dX2_placeIn_1 rfl 0 rfl ?_
  refine zg_getI ok lf_X2_156 dX2_placeIn_2 hE (fun v1 hE => ?_)
  refine zg_aload_n ok dX2_placeIn_5 rfl 0 rfl ?_
  refine zg_iload_n ok dX2_placeIn_6 rfl 1 rfl ?_
  refine zg_callV (vs := [zI a1]) (rest := [.int v1, va_rf a0]) (rm := rm_X2_isBody) ok hRm lk_X2_210 dX2_placeIn_7 hE (fun hE => mt_X2_isBody hl hE) rfl (Nat.le_of_ble_eq_true rfl) ⟨⟨Nat.le_of_ble_eq_true rfl, Nat.le_of_ble_eq_true rfl⟩, Nat.le_of_ble_eq_true rfl, Nat.le_of_ble_eq_true rfl⟩ (zg_retI (fun v2 h1 hE => ?_)) (zg_xok ok tab fin ⟨Nat.le_of_ble_eq_true rfl, Nat.le_of_ble_eq_true rfl⟩)
  refine zg_cost (kc2 := 0) (ks2 := 0) ⟨rfl, rfl⟩ ?_
  refine zg_iload_n ok dX2_placeIn_10 rfl 2 rfl ?_
  refine zg_callS (vs := [zI a2]) (rest := [.int v2, .int v1, va_rf a0]) (rm := rm_X2_isAhead) ok hRm lk_X2_353 dX2_placeIn_11 hE (fun hE => mt_X2_isAhead hl hE) rfl (Nat.le_of_ble_eq_true rfl) ⟨⟨Nat.le_of_ble_eq_true rfl, Nat.le_of_ble_eq_true rfl⟩, Nat.le_of_ble_eq_true rfl, Nat.le_of_ble_eq_true rfl⟩ (zg_retI (fun v3 h2 hE => ?_)) (zg_xok ok tab fin ⟨Nat.le_of_ble_eq_true rfl, Nat.le_of_ble_eq_true rfl⟩)
  refine zg_cost (kc2 := 0) (ks2 := 0) ⟨rfl, rfl⟩ ?_
  refine zg_callV (vs := [zI v1, zI v2, zI v3]) (rest := []) (rm := rm_X2_may) ok hRm lk_X2_60 dX2_placeIn_14 hE (fun hE => mt_X2_may hl hE) rfl (Nat.le_of_ble_eq_true rfl) ⟨⟨Nat.le_of_ble_eq_true rfl, Nat.le_of_ble_eq_true rfl⟩, Nat.le_of_ble_eq_true rfl, Nat.le_of_ble_eq_true rfl⟩ (zg_retI (fun v4 h3 hE => ?_)) (zg_xok ok tab fin ⟨Nat.le_of_ble_eq_true rfl, Nat.le_of_ble_eq_true rfl⟩)
  refine zg_cost (kc2 := 0) (ks2 := 0) ⟨rfl, rfl⟩ ?_
  refine zg_if_ne (tgt := 22) ok dX2_placeIn_17 (by decide) hE (fun hE => ?_) (fun hE => ?_)
  · refine zg_aload_n ok dX2_placeIn_22 rfl 0 rfl ?_
    refine zg_callV (vs := []) (rest := []) (rm := rm_X2_thinks) ok hRm lk_X2_356 dX2_placeIn_23 hE (fun hE => mt_X2_thinks hl hE) rfl (Nat.le_of_ble_eq_true rfl) ⟨⟨Nat.le_of_ble_eq_true rfl, Nat.le_of_ble_eq_true rfl⟩, Nat.le_of_ble_eq_true rfl, Nat.le_of_ble_eq_true rfl⟩ (zg_retV (fun h4 hE => ?_)) (zg_xok ok tab fin ⟨Nat.le_of_ble_eq_true rfl, Nat.le_of_ble_eq_true rfl⟩)
    refine zg_cost (kc2 := 0) (ks2 := 0) ⟨rfl, rfl⟩ ?_
    refine zg_aload_n ok dX2_placeIn_26 rfl 0 rfl ?_
    refine zg_iload_n ok dX2_placeIn_27 rfl 2 rfl ?_
    refine zg_callV (vs := [zI a2]) (rest := []) (rm := rm_X2_stepsMany) ok hRm lk_X2_359 dX2_placeIn_28 hE (fun hE => mt_X2_stepsMany hl hE) rfl (Nat.le_of_ble_eq_true rfl) ⟨⟨Nat.le_of_ble_eq_true rfl, Nat.le_of_ble_eq_true rfl⟩, Nat.le_of_ble_eq_true rfl, Nat.le_of_ble_eq_true rfl⟩ (zg_retI (fun v5 h5 hE => ?_)) (zg_xok ok tab fin ⟨Nat.le_of_ble_eq_true rfl, Nat.le_of_ble_eq_true rfl⟩)
    refine zg_cost (kc2 := 0) (ks2 := 0) ⟨rfl, rfl⟩ ?_
    refine zg_istore_n (L' := [(3, .int v5), (0, va_rf a0), (1, .int a1), (2, .int a2)]) ok dX2_placeIn_31 rfl (by decide) rfl ?_
    refine zg_aload_n ok dX2_placeIn_32 rfl 1 rfl ?_
    refine zg_aload_n ok dX2_placeIn_33 rfl 1 rfl ?_
    refine zg_iload_n ok dX2_placeIn_34 rfl 2 rfl ?_
    refine zg_iconst (v := 0) ok dX2_placeIn_35 (by decide) ?_
    refine zg_callV (vs := [zI a1, zI 0]) (rest := [va_rf a0]) (rm := rm_X2_of) ok hRm lk_X2_163 dX2_placeIn_36 hE (fun hE => mt_X2_of hl hE) rfl (Nat.le_of_ble_eq_true rfl) ⟨⟨Nat.le_of_ble_eq_true rfl, Nat.le_of_ble_eq_true rfl⟩, Nat.le_of_ble_eq_true rfl, Nat.le_of_ble_eq_true rfl⟩ (zg_retI (fun v6 h6 hE => ?_)) (zg_xok ok tab fin ⟨Nat.le_of_ble_eq_true rfl, Nat.le_of_ble_eq_true rfl⟩)
    refine zg_cost (kc2 := 0) (ks2 := 0) ⟨rfl, rfl⟩ ?_
    refine zg_callV (vs := [zI v6]) (rest := []) (rm := rm_X2_back) ok hRm lk_X2_362 dX2_placeIn_39 hE (fun hE => mt_X2_back hl hE) rfl (Nat.le_of_ble_eq_true rfl) ⟨⟨Nat.le_of_ble_eq_true rfl, Nat.le_of_ble_eq_true rfl⟩, Nat.le_of_ble_eq_true rfl, Nat.le_of_ble_eq_true rfl⟩ (zg_retI (fun v7 h7 hE => ?_)) (zg_xok ok tab fin ⟨Nat.le_of_ble_eq_true rfl, Nat.le_of_ble_eq_true rfl⟩)
    refine zg_cost (kc2 := 0) (ks2 := 0) ⟨rfl, rfl⟩ ?_
    exact zg_iret ok fin dX2_placeIn_42 ⟨Nat.le_of_ble_eq_true rfl, Nat.le_of_ble_eq_true rfl⟩ hE
  · refine zg_iconst (v := 0) ok dX2_placeIn_20 (by decide) ?_
    exact zg_iret ok fin dX2_placeIn_21 ⟨Nat.le_of_ble_eq_true rfl, Nat.le_of_ble_eq_true rfl⟩ hE
set_option maxHeartbeats 8000000 in
theorem mt_X2_movesIn {l : Launch} (hl : l.stackTraces = false) {Z : zw_Z} {a0 : Option Nat} {a1 : Int32} {h : zw_H} {Q : Int32 → zw_H → Prop} {X : String → Nat → zw_H → Prop} (hE : f_X2_movesIn Z.2.2.2 a0 a1 h Q X) : zw_Met l Z yX2_movesIn (ws_ yX2_movesIn cX2_movesIn 2 (Option.some Jvm.ClassFile.FieldType.int)) rm_X2_movesIn [zA a0, zI a1] h (zq_I Q) X := by
  refine zg_start (own := "MultipoleLineModel") (by decide +kernel) rfl (Nat.le_of_ble_eq_true rfl) hl (fun Xc ok tab fin hRm hXl hXZ => ?_)
  subst hXl
  subst hXZ
  unfold f_X2_movesIn at hE
  refine zg_aload_n ok dX2_movesIn_0 rfl 0 rfl ?_
  refine zg_aload_n ok dX2_movesIn_1 rfl 0 rfl ?_
  refine zg_getI ok lf_X2_156 dX2_movesIn_2 hE (fun v1 hE => ?_)
  refine zg_iload_n ok dX2_movesIn_5 rfl 1 rfl ?_
  refine zg_callS (vs := [zI a1]) (rest := [.int v1, va_rf a0]) (rm := rm_X2_isAhead) ok hRm lk_X2_353 dX2_movesIn_6 hE (fun hE => mt_X2_isAhead hl hE) rfl (Nat.le_of_ble_eq_true rfl) ⟨⟨Nat.le_of_ble_eq_true rfl, Nat.le_of_ble_eq_true rfl⟩, Nat.le_of_ble_eq_true rfl, Nat.le_of_ble_eq_true rfl⟩ (zg_retI (fun v2 h1 hE => ?_)) (zg_xok ok tab fin ⟨Nat.le_of_ble_eq_true rfl, Nat.le_of_ble_eq_true rfl⟩)
  refine zg_cost (kc2 := 0) (ks2 := 0) ⟨rfl, rfl⟩ ?_
  refine zg_callV (vs := [zI v1, zI v2]) (rest := []) (rm := rm_X2_mayTwo) ok hRm lk_X2_193 dX2_movesIn_9 hE (fun hE => mt_X2_mayTwo hl hE) rfl (Nat.le_of_ble_eq_true rfl) ⟨⟨Nat.le_of_ble_eq_true rfl, Nat.le_of_ble_eq_true rfl⟩, Nat.le_of_ble_eq_true rfl, Nat.le_of_ble_eq_true rfl⟩ (zg_retI (fun v3 h2 hE => ?_)) (zg_xok ok tab fin ⟨Nat.le_of_ble_eq_true rfl, Nat.le_of_ble_eq_true rfl⟩)
  refine zg_cost (kc2 := 0) (ks2 := 0) ⟨rfl, rfl⟩ ?_
  refine zg_if_ne (tgt := 17) ok dX2_movesIn_12 (by decide) hE (fun hE => ?_) (fun hE => ?_)
  · refine zg_aload_n ok dX2_movesIn_17 rfl 0 rfl ?_
    refine zg_callV (vs := []) (rest := []) (rm := rm_X2_thinks) ok hRm lk_X2_356 dX2_movesIn_18 hE (fun hE => mt_X2_thinks hl hE) rfl (Nat.le_of_ble_eq_true rfl) ⟨⟨Nat.le_of_ble_eq_true rfl, Nat.le_of_ble_eq_true rfl⟩, Nat.le_of_ble_eq_true rfl, Nat.le_of_ble_eq_true rfl⟩ (zg_retV (fun h3 hE => ?_)) (zg_xok ok tab fin ⟨Nat.le_of_ble_eq_true rfl, Nat.le_of_ble_eq_true rfl⟩)
    refine zg_cost (kc2 := 0) (ks2 := 0) ⟨rfl, rfl⟩ ?_
    refine zg_aload_n ok dX2_movesIn_21 rfl 0 rfl ?_
    refine zg_aload_n ok dX2_movesIn_22 rfl 0 rfl ?_
    refine zg_iload_n ok dX2_movesIn_23 rfl 1 rfl ?_
    refine zg_callV (vs := [zI a1]) (rest := [va_rf a0]) (rm := rm_X2_stepsMany) ok hRm lk_X2_359 dX2_movesIn_24 hE (fun hE => mt_X2_stepsMany hl hE) rfl (Nat.le_of_ble_eq_true rfl) ⟨⟨Nat.le_of_ble_eq_true rfl, Nat.le_of_ble_eq_true rfl⟩, Nat.le_of_ble_eq_true rfl, Nat.le_of_ble_eq_true rfl⟩ (zg_retI (fun v4 h4 hE => ?_)) (zg_xok ok tab fin ⟨Nat.le_of_ble_eq_true rfl, Nat.le_of_ble_eq_true rfl⟩)
    refine zg_cost (kc2 := 0) (ks2 := 0) ⟨rfl, rfl⟩ ?_
    refine zg_callV (vs := [zI v4]) (rest := []) (rm := rm_X2_back) ok hRm lk_X2_362 dX2_movesIn_27 hE (fun hE => mt_X2_back hl hE) rfl (Nat.le_of_ble_eq_true rfl) ⟨⟨Nat.le_of_ble_eq_true rfl, Nat.le_of_ble_eq_true rfl⟩, Nat.le_of_ble_eq_true rfl, Nat.le_of_ble_eq_true rfl⟩ (zg_retI (fun v5 h5 hE => ?_)) (zg_xok ok tab fin ⟨Nat.le_of_ble_eq_true rfl, Nat.le_of_ble_eq_true rfl⟩)
    refine zg_cost (kc2 := 0) (ks2 := 0) ⟨rfl, rfl⟩ ?_
    exact zg_iret ok fin dX2_movesIn_30 ⟨Nat.le_of_ble_eq_true rfl, Nat.le_of_ble_eq_true rfl⟩ hE
  · refine zg_iconst (v := 0) ok dX2_movesIn_15 (by decide) ?_
    exact zg_iret ok fin dX2_movesIn_16 ⟨Nat.le_of_ble_eq_true rfl, Nat.le_of_ble_eq_true rfl⟩ hE
set_option maxHeartbeats 8000000 in
theorem gt_f_X2_isStill_B2 {Xc : zw_X} {Q : Int32 → zw_H → Prop} {X : String → Nat → zw_H → Prop} (hl : (zw_l Xc).stackTraces = false) (ok : zw_ok Xc cX2_isStill "MultipoleLineModel" yX2_isStill.name 2) (tab : zw_tab Xc []) (fin : zw_fin Xc (Option.some Jvm.ClassFile.FieldType.boolean) (zq_I Q) X 0 0) (hRm : zw_rm Xc = rm_X2_isStill) {kc ks : Nat} (hb : kc ≤ 0 ∧ ks ≤ 0) {R : Int32 → zw_H → Prop} {l0 : Option Nat} (hR : ∀ (l1 : Int32) (h : zw_H), R l1 h → zw_G Xc kc ks 2 h 2 [(0, va_rf l0), (1, .int l1)] []) {k20 : zw_H → Prop} (hk20 : ∀  (h : zw_H), k20  h → zw_G Xc kc ks 2 h 20 [] []) {k28 : zw_H → Prop} (hk28 : ∀  (h : zw_H), k28  h → zw_G Xc kc ks 2 h 28 [] [])  {l1 : Int32} {h : zw_H} (hE : f_X2_isStill_B2 (zw_Zf Xc).2.2.2 Q X k20 k28 l0 R l1 h) : zw_G Xc kc ks 2 h 2 [(0, va_rf l0), (1, .int l1)] [] := by
  unfold f_X2_isStill_B2 at hE
  refine zg_iload_n ok dX2_isStill_2 rfl 1 rfl ?_
  refine zg_aload_n ok dX2_isStill_3 rfl 0 rfl ?_
  refine zg_getA ok lf_X2_9 dX2_isStill_4 hE (fun v1 hE => ?_)
  refine zg_iconst (v := 0) ok dX2_isStill_7 (by decide) ?_
  refine zg_iald ok dX2_isStill_8 hE (fun v2 hE => ?_)
  refine zg_icmp_ge (tgt := 28) ok dX2_isStill_9 (by decide) hE (fun hE => ?_) (fun hE => ?_)
  · refine zg_sub (L' := []) [] rfl ?_
    exact hk28 _ hE
  · refine zg_aload_n ok dX2_isStill_12 rfl 0 rfl ?_
    refine zg_iload_n ok dX2_isStill_13 rfl 1 rfl ?_
    refine zg_callV (vs := [zI l1]) (rest := []) (rm := rm_X2_moves) ok hRm lk_X2_347 dX2_isStill_14 hE (fun hE => mt_X2_moves hl hE) rfl (Nat.le_of_ble_eq_true rfl) ⟨⟨Nat.le_of_ble_eq_true rfl, Nat.le_of_ble_eq_true rfl⟩, (by show kc + 0 ≤ 0; omega), (by show ks + 0 ≤ 0; omega)⟩ (zg_retI (fun v3 h1 hE => ?_)) (zg_xok ok tab fin ⟨(by show kc + 0 ≤ 0; omega), (by show ks + 0 ≤ 0; omega)⟩)
    refine zg_cost (kc2 := kc) (ks2 := ks) ⟨(by show kc + 0 = kc; omega), (by show ks + 0 = ks; omega)⟩ ?_
    refine zg_if_eq (tgt := 22) ok dX2_isStill_17 (by decide) hE (fun hE => ?_) (fun hE => ?_)
    · refine zg_iincLR (k := 1) (L' := fun v4 => [(1, .int v4), (0, va_rf l0)]) ok dX2_isStill_22 (by decide +kernel) hE rfl (by decide) rfl (k9 := 0) rfl (fun _ => rfl) (fun v4 hE => ?_)
      refine zg_goto (tgt := 2) ok dX2_isStill_25 (by decide) ?_
      refine zg_sub (L' := [(0, va_rf l0), (1, .int v4)]) [1, 0] rfl ?_
      exact hR _ _ hE
    · refine zg_sub (L' := []) [] rfl ?_
      exact hk20 _ hE
theorem gt_f_X2_isStill_L2 {Xc : zw_X} {Q : Int32 → zw_H → Prop} {X : String → Nat → zw_H → Prop} (hl : (zw_l Xc).stackTraces = false) (ok : zw_ok Xc cX2_isStill "MultipoleLineModel" yX2_isStill.name 2) (tab : zw_tab Xc []) (fin : zw_fin Xc (Option.some Jvm.ClassFile.FieldType.boolean) (zq_I Q) X 0 0) (hRm : zw_rm Xc = rm_X2_isStill) {kc ks : Nat} (hb : kc ≤ 0 ∧ ks ≤ 0) {l0 : Option Nat} {k20 : zw_H → Prop} (hk20 : ∀  (h : zw_H), k20  h → zw_G Xc kc ks 2 h 20 [] []) {k28 : zw_H → Prop} (hk28 : ∀  (h : zw_H), k28  h → zw_G Xc kc ks 2 h 28 [] [])  : ∀ (n9 : Nat) (l1 : Int32) (h : zw_H), zl2 (f_X2_isStill_B2 (zw_Zf Xc).2.2.2 Q X k20 k28 l0) n9 l1 h → zw_G Xc kc ks 2 h 2 [(0, va_rf l0), (1, .int l1)] [] := by
  intro n9
  induction n9 with
  | zero => intro l1 h hE; exact hE.elim
  | succ n9 ih => intro l1 h hE; exact gt_f_X2_isStill_B2 hl ok tab fin hRm hb ih hk20 hk28 hE
set_option maxHeartbeats 8000000 in
theorem mt_X2_isStill {l : Launch} (hl : l.stackTraces = false) {Z : zw_Z} {a0 : Option Nat} {h : zw_H} {Q : Int32 → zw_H → Prop} {X : String → Nat → zw_H → Prop} (hE : f_X2_isStill Z.2.2.2 a0 h Q X) : zw_Met l Z yX2_isStill (ws_ yX2_isStill cX2_isStill 2 (Option.some Jvm.ClassFile.FieldType.boolean)) rm_X2_isStill [zA a0] h (zq_I Q) X := by
  refine zg_start (own := "MultipoleLineModel") (by decide +kernel) rfl (Nat.le_of_ble_eq_true rfl) hl (fun Xc ok tab fin hRm hXl hXZ => ?_)
  subst hXl
  subst hXZ
  unfold f_X2_isStill at hE
  refine zg_iconst (v := 0) ok dX2_isStill_0 (by decide) ?_
  refine zg_istore_nR (L' := [(1, .int 0), (0, va_rf a0)]) ok dX2_isStill_1 rfl (by decide) 0 rfl rfl rfl ?_
  refine zg_sub (L' := [(0, va_rf a0), (1, .int 0)]) [1, 0] rfl ?_
  refine gt_f_X2_isStill_L2 hl ok tab fin hRm ⟨Nat.le_of_ble_eq_true rfl, Nat.le_of_ble_eq_true rfl⟩ ?_ ?_ _ _ _ hE
  · intro h2 hE
    refine zg_iconst (v := 0) ok dX2_isStill_20 (by decide) ?_
    exact zg_zret ok fin dX2_isStill_21 ⟨Nat.le_of_ble_eq_true rfl, Nat.le_of_ble_eq_true rfl⟩ rfl hE
  · intro h3 hE
    refine zg_iconst (v := 1) ok dX2_isStill_28 (by decide) ?_
    exact zg_zret ok fin dX2_isStill_29 ⟨Nat.le_of_ble_eq_true rfl, Nat.le_of_ble_eq_true rfl⟩ rfl hE
set_option maxHeartbeats 8000000 in
theorem gt_f_X2_stillIn_B17 {Xc : zw_X} {Q : Int32 → zw_H → Prop} {X : String → Nat → zw_H → Prop} (hl : (zw_l Xc).stackTraces = false) (ok : zw_ok Xc cX2_stillIn "MultipoleLineModel" yX2_stillIn.name 3) (tab : zw_tab Xc []) (fin : zw_fin Xc (Option.some Jvm.ClassFile.FieldType.int) (zq_I Q) X 0 0) (hRm : zw_rm Xc = rm_X2_stillIn) {kc ks : Nat} (hb : kc ≤ 0 ∧ ks ≤ 0) {R : Int32 → Int32 → zw_H → Prop} {l0 : Option Nat} (hR : ∀ (l1 : Int32) (l2 : Int32) (h : zw_H), R l1 l2 h → zw_G Xc kc ks 3 h 17 [(0, va_rf l0), (1, .int l1), (2, .int l2)] []) {k30 : Int32 → zw_H → Prop} (hk30 : ∀ (l2 : Int32) (h : zw_H), k30 l2 h → zw_G Xc kc ks 3 h 30 [(0, va_rf l0), (2, .int l2)] []) {k49 : zw_H → Prop} (hk49 : ∀  (h : zw_H), k49  h → zw_G Xc kc ks 3 h 49 [(0, va_rf l0)] [])  {l1 : Int32} {l2 : Int32} {h : zw_H} (hE : f_X2_stillIn_B17 (zw_Zf Xc).2.2.2 Q X k30 k49 l0 R l1 l2 h) : zw_G Xc kc ks 3 h 17 [(0, va_rf l0), (1, .int l1), (2, .int l2)] [] := by
  unfold f_X2_stillIn_B17 at hE
  refine zg_iload_n ok dX2_stillIn_17 rfl 2 rfl ?_
  refine zg_bipush (v := 50) ok dX2_stillIn_18 (by decide) ?_
  refine zg_icmp_gt (tgt := 49) ok dX2_stillIn_20 (by decide) hE (fun hE => ?_) (fun hE => ?_)
  · refine zg_sub (L' := [(0, va_rf l0)]) [0] rfl ?_
    exact hk49 _ hE
  · refine zg_aload_n ok dX2_stillIn_23 rfl 0 rfl ?_
    refine zg_callV (vs := []) (rest := []) (rm := rm_X2_isStill) ok hRm lk_X2_365 dX2_stillIn_24 hE (fun hE => mt_X2_isStill hl hE) rfl (Nat.le_of_ble_eq_true rfl) ⟨⟨Nat.le_of_ble_eq_true rfl, Nat.le_of_ble_eq_true rfl⟩, (by show kc + 0 ≤ 0; omega), (by show ks + 0 ≤ 0; omega)⟩ (zg_retI (fun v2 h3 hE => ?_)) (zg_xok ok tab fin ⟨(by show kc + 0 ≤ 0; omega), (by show ks + 0 ≤ 0; omega)⟩)
    refine zg_cost (kc2 := kc) (ks2 := ks) ⟨(by show kc + 0 = kc; omega), (by show ks + 0 = ks; omega)⟩ ?_
    refine zg_if_eq (tgt := 36) ok dX2_stillIn_27 (by decide) hE (fun hE => ?_) (fun hE => ?_)
    · refine zg_iload_n ok dX2_stillIn_36 rfl 1 rfl ?_
      refine zg_aload_n ok dX2_stillIn_37 rfl 0 rfl ?_
      refine zg_callV (vs := []) (rest := [.int l1]) (rm := rm_X2_steps) ok hRm lk_X2_350 dX2_stillIn_38 hE (fun hE => mt_X2_steps hl hE) rfl (Nat.le_of_ble_eq_true rfl) ⟨⟨Nat.le_of_ble_eq_true rfl, Nat.le_of_ble_eq_true rfl⟩, (by show kc + 0 ≤ 0; omega), (by show ks + 0 ≤ 0; omega)⟩ (zg_retI (fun v3 h4 hE => ?_)) (zg_xok ok tab fin ⟨(by show kc + 0 ≤ 0; omega), (by show ks + 0 ≤ 0; omega)⟩)
      refine zg_cost (kc2 := kc) (ks2 := ks) ⟨(by show kc + 0 = kc; omega), (by show ks + 0 = ks; omega)⟩ ?_
      refine zg_iadd ok dX2_stillIn_41 ?_
      refine zg_letI hE (fun v4 hE => ?_)
      refine zg_istore_nR (L' := [(1, .int v4), (0, va_rf l0), (2, .int l2)]) ok dX2_stillIn_42 rfl (by decide) 0 rfl rfl rfl ?_
      refine zg_iincL (k := 2) (L' := fun v5 => [(2, .int v5), (1, .int v4), (0, va_rf l0)]) ok dX2_stillIn_43 (by decide +kernel) hE rfl (by decide) (fun _ => rfl) (fun v5 hE => ?_)
      refine zg_goto (tgt := 17) ok dX2_stillIn_46 (by decide) ?_
      refine zg_sub (L' := [(0, va_rf l0), (1, .int v4), (2, .int v5)]) [2, 1, 0] rfl ?_
      exact hR _ _ _ hE
    · refine zg_sub (L' := [(0, va_rf l0), (2, .int l2)]) [0, 2] rfl ?_
      exact hk30 _ _ hE
theorem gt_f_X2_stillIn_L17 {Xc : zw_X} {Q : Int32 → zw_H → Prop} {X : String → Nat → zw_H → Prop} (hl : (zw_l Xc).stackTraces = false) (ok : zw_ok Xc cX2_stillIn "MultipoleLineModel" yX2_stillIn.name 3) (tab : zw_tab Xc []) (fin : zw_fin Xc (Option.some Jvm.ClassFile.FieldType.int) (zq_I Q) X 0 0) (hRm : zw_rm Xc = rm_X2_stillIn) {kc ks : Nat} (hb : kc ≤ 0 ∧ ks ≤ 0) {l0 : Option Nat} {k30 : Int32 → zw_H → Prop} (hk30 : ∀ (l2 : Int32) (h : zw_H), k30 l2 h → zw_G Xc kc ks 3 h 30 [(0, va_rf l0), (2, .int l2)] []) {k49 : zw_H → Prop} (hk49 : ∀  (h : zw_H), k49  h → zw_G Xc kc ks 3 h 49 [(0, va_rf l0)] [])  : ∀ (n9 : Nat) (l1 : Int32) (l2 : Int32) (h : zw_H), zl3 (f_X2_stillIn_B17 (zw_Zf Xc).2.2.2 Q X k30 k49 l0) n9 l1 l2 h → zw_G Xc kc ks 3 h 17 [(0, va_rf l0), (1, .int l1), (2, .int l2)] [] := by
  intro n9
  induction n9 with
  | zero => intro l1 l2 h hE; exact hE.elim
  | succ n9 ih => intro l1 l2 h hE; exact gt_f_X2_stillIn_B17 hl ok tab fin hRm hb ih hk30 hk49 hE
set_option maxHeartbeats 8000000 in
theorem mt_X2_stillIn {l : Launch} (hl : l.stackTraces = false) {Z : zw_Z} {a0 : Option Nat} {h : zw_H} {Q : Int32 → zw_H → Prop} {X : String → Nat → zw_H → Prop} (hE : f_X2_stillIn Z.2.2.2 a0 h Q X) : zw_Met l Z yX2_stillIn (ws_ yX2_stillIn cX2_stillIn 3 (Option.some Jvm.ClassFile.FieldType.int)) rm_X2_stillIn [zA a0] h (zq_I Q) X := by
  refine zg_start (own := "MultipoleLineModel") (by decide +kernel) rfl (Nat.le_of_ble_eq_true rfl) hl (fun Xc ok tab fin hRm hXl hXZ => ?_)
  subst hXl
  subst hXZ
  unfold f_X2_stillIn at hE
  refine zg_aload_n ok dX2_stillIn_0 rfl 0 rfl ?_
  refine zg_callV (vs := []) (rest := []) (rm := rm_X2_mayAsk) ok hRm lk_X2_229 dX2_stillIn_1 hE (fun hE => mt_X2_mayAsk hl hE) rfl (Nat.le_of_ble_eq_true rfl) ⟨⟨Nat.le_of_ble_eq_true rfl, Nat.le_of_ble_eq_true rfl⟩, Nat.le_of_ble_eq_true rfl, Nat.le_of_ble_eq_true rfl⟩ (zg_retI (fun v1 h1 hE => ?_)) (zg_xok ok tab fin ⟨Nat.le_of_ble_eq_true rfl, Nat.le_of_ble_eq_true rfl⟩)
  refine zg_cost (kc2 := 0) (ks2 := 0) ⟨rfl, rfl⟩ ?_
  refine zg_if_ne (tgt := 9) ok dX2_stillIn_4 (by decide) hE (fun hE => ?_) (fun hE => ?_)
  · refine zg_aload_n ok dX2_stillIn_9 rfl 0 rfl ?_
    refine zg_callV (vs := []) (rest := []) (rm := rm_X2_thinks) ok hRm lk_X2_356 dX2_stillIn_10 hE (fun hE => mt_X2_thinks hl hE) rfl (Nat.le_of_ble_eq_true rfl) ⟨⟨Nat.le_of_ble_eq_true rfl, Nat.le_of_ble_eq_true rfl⟩, Nat.le_of_ble_eq_true rfl, Nat.le_of_ble_eq_true rfl⟩ (zg_retV (fun h2 hE => ?_)) (zg_xok ok tab fin ⟨Nat.le_of_ble_eq_true rfl, Nat.le_of_ble_eq_true rfl⟩)
    refine zg_cost (kc2 := 0) (ks2 := 0) ⟨rfl, rfl⟩ ?_
    refine zg_iconst (v := 0) ok dX2_stillIn_13 (by decide) ?_
    refine zg_istore_nR (L' := [(1, .int 0), (0, va_rf a0)]) ok dX2_stillIn_14 rfl (by decide) 0 rfl rfl rfl ?_
    refine zg_iconst (v := 0) ok dX2_stillIn_15 (by decide) ?_
    refine zg_istore_n (L' := [(2, .int 0), (1, .int 0), (0, va_rf a0)]) ok dX2_stillIn_16 rfl (by decide) rfl ?_
    refine zg_sub (L' := [(0, va_rf a0), (1, .int 0), (2, .int 0)]) [2, 1, 0] rfl ?_
    refine gt_f_X2_stillIn_L17 hl ok tab fin hRm ⟨Nat.le_of_ble_eq_true rfl, Nat.le_of_ble_eq_true rfl⟩ ?_ ?_ _ _ _ _ hE
    · intro v6 h5 hE
      refine zg_aload_n ok dX2_stillIn_30 rfl 0 rfl ?_
      refine zg_iload_n ok dX2_stillIn_31 rfl 1 rfl ?_
      refine zg_callV (vs := [zI v6]) (rest := []) (rm := rm_X2_back) ok hRm lk_X2_362 dX2_stillIn_32 hE (fun hE => mt_X2_back hl hE) rfl (Nat.le_of_ble_eq_true rfl) ⟨⟨Nat.le_of_ble_eq_true rfl, Nat.le_of_ble_eq_true rfl⟩, Nat.le_of_ble_eq_true rfl, Nat.le_of_ble_eq_true rfl⟩ (zg_retI (fun v7 h6 hE => ?_)) (zg_xok ok tab fin ⟨Nat.le_of_ble_eq_true rfl, Nat.le_of_ble_eq_true rfl⟩)
      refine zg_cost (kc2 := 0) (ks2 := 0) ⟨rfl, rfl⟩ ?_
      exact zg_iret ok fin dX2_stillIn_35 ⟨Nat.le_of_ble_eq_true rfl, Nat.le_of_ble_eq_true rfl⟩ hE
    · intro h7 hE
      refine zg_aload_n ok dX2_stillIn_49 rfl 0 rfl ?_
      refine zg_iconst (v := (-1)) ok dX2_stillIn_50 (by decide) ?_
      refine zg_callV (vs := [zI (-1)]) (rest := []) (rm := rm_X2_back) ok hRm lk_X2_362 dX2_stillIn_51 hE (fun hE => mt_X2_back hl hE) rfl (Nat.le_of_ble_eq_true rfl) ⟨⟨Nat.le_of_ble_eq_true rfl, Nat.le_of_ble_eq_true rfl⟩, Nat.le_of_ble_eq_true rfl, Nat.le_of_ble_eq_true rfl⟩ (zg_retI (fun v8 h8 hE => ?_)) (zg_xok ok tab fin ⟨Nat.le_of_ble_eq_true rfl, Nat.le_of_ble_eq_true rfl⟩)
      refine zg_cost (kc2 := 0) (ks2 := 0) ⟨rfl, rfl⟩ ?_
      exact zg_iret ok fin dX2_stillIn_54 ⟨Nat.le_of_ble_eq_true rfl, Nat.le_of_ble_eq_true rfl⟩ hE
  · refine zg_iconst (v := 0) ok dX2_stillIn_7 (by decide) ?_
    exact zg_iret ok fin dX2_stillIn_8 ⟨Nat.le_of_ble_eq_true rfl, Nat.le_of_ble_eq_true rfl⟩ hE
set_option maxHeartbeats 8000000 in
theorem gt_f_X2_orderFor_B46 {Xc : zw_X} {Q : Int32 → zw_H → Prop} {X : String → Nat → zw_H → Prop} (hl : (zw_l Xc).stackTraces = false) (ok : zw_ok Xc cX2_orderFor "MultipoleLineModel" yX2_orderFor.name 6) (tab : zw_tab Xc []) (fin : zw_fin Xc (Option.some Jvm.ClassFile.FieldType.int) (zq_I Q) X 0 0) (hRm : zw_rm Xc = rm_X2_orderFor) {kc ks : Nat} (hb : kc ≤ 0 ∧ ks ≤ 0) {R : Int32 → zw_H → Prop} {l0 : Option Nat} {l1 : Int32} {l3 : UInt64} (hR : ∀ (l5 : Int32) (h : zw_H), R l5 h → zw_G Xc kc ks 6 h 46 [(0, va_rf l0), (1, .int l1), (3, .double l3), (5, .int l5)] []) {k64 : Int32 → zw_H → Prop} (hk64 : ∀ (l5 : Int32) (h : zw_H), k64 l5 h → zw_G Xc kc ks 6 h 64 [(5, .int l5)] []) {k73 : zw_H → Prop} (hk73 : ∀  (h : zw_H), k73  h → zw_G Xc kc ks 6 h 73 [] [])  {l5 : Int32} {h : zw_H} (hE : f_X2_orderFor_B46 (zw_Zf Xc).2.2.2 Q X k64 k73 l0 l1 l3 R l5 h) : zw_G Xc kc ks 6 h 46 [(0, va_rf l0), (1, .int l1), (3, .double l3), (5, .int l5)] [] := by
  unfold f_X2_orderFor_B46 at hE
  refine zg_iload ok dX2_orderFor_46 3 rfl ?_
  refine zg_iconst (v := 4) ok dX2_orderFor_48 (by decide) ?_
  refine zg_icmp_gt (tgt := 73) ok dX2_orderFor_49 (by decide) hE (fun hE => ?_) (fun hE => ?_)
  · refine zg_sub (L' := []) [] rfl ?_
    exact hk73 _ hE
  · refine zg_aload_n ok dX2_orderFor_52 rfl 0 rfl ?_
    refine zg_iload_n ok dX2_orderFor_53 rfl 1 rfl ?_
    refine zg_iload ok dX2_orderFor_54 3 rfl ?_
    refine zg_callV (vs := [zI l1, zI l5]) (rest := []) (rm := rm_X2_boundOf) ok hRm lk_X2_303 dX2_orderFor_56 hE (fun hE => mt_X2_boundOf hl hE) rfl (Nat.le_of_ble_eq_true rfl) ⟨⟨Nat.le_of_ble_eq_true rfl, Nat.le_of_ble_eq_true rfl⟩, (by show kc + 0 ≤ 0; omega), (by show ks + 0 ≤ 0; omega)⟩ (zg_retD (fun v5 h3 hE => ?_)) (zg_xok ok tab fin ⟨(by show kc + 0 ≤ 0; omega), (by show ks + 0 ≤ 0; omega)⟩)
    refine zg_cost (kc2 := kc) (ks2 := ks) ⟨(by show kc + 0 = kc; omega), (by show ks + 0 = ks; omega)⟩ ?_
    refine zg_dload_n ok dX2_orderFor_59 rfl 2 rfl ?_
    refine zg_dcmp ok dX2_orderFor_60 ?_
    refine zg_if_gt (tgt := 67) ok dX2_orderFor_61 (by decide) hE (fun hE => ?_) (fun hE => ?_)
    · refine zg_iincL (k := 3) (L' := fun v6 => [(5, .int v6), (0, va_rf l0), (1, .int l1), (3, .double l3)]) ok dX2_orderFor_67 (by decide +kernel) hE rfl (by decide) (fun _ => rfl) (fun v6 hE => ?_)
      refine zg_goto (tgt := 46) ok dX2_orderFor_70 (by decide) ?_
      refine zg_sub (L' := [(0, va_rf l0), (1, .int l1), (3, .double l3), (5, .int v6)]) [1, 2, 3, 0] rfl ?_
      exact hR _ _ hE
    · refine zg_sub (L' := [(5, .int l5)]) [3] rfl ?_
      exact hk64 _ _ hE
theorem gt_f_X2_orderFor_L46 {Xc : zw_X} {Q : Int32 → zw_H → Prop} {X : String → Nat → zw_H → Prop} (hl : (zw_l Xc).stackTraces = false) (ok : zw_ok Xc cX2_orderFor "MultipoleLineModel" yX2_orderFor.name 6) (tab : zw_tab Xc []) (fin : zw_fin Xc (Option.some Jvm.ClassFile.FieldType.int) (zq_I Q) X 0 0) (hRm : zw_rm Xc = rm_X2_orderFor) {kc ks : Nat} (hb : kc ≤ 0 ∧ ks ≤ 0) {l0 : Option Nat} {l1 : Int32} {l3 : UInt64} {k64 : Int32 → zw_H → Prop} (hk64 : ∀ (l5 : Int32) (h : zw_H), k64 l5 h → zw_G Xc kc ks 6 h 64 [(5, .int l5)] []) {k73 : zw_H → Prop} (hk73 : ∀  (h : zw_H), k73  h → zw_G Xc kc ks 6 h 73 [] [])  : ∀ (n9 : Nat) (l5 : Int32) (h : zw_H), zl2 (f_X2_orderFor_B46 (zw_Zf Xc).2.2.2 Q X k64 k73 l0 l1 l3) n9 l5 h → zw_G Xc kc ks 6 h 46 [(0, va_rf l0), (1, .int l1), (3, .double l3), (5, .int l5)] [] := by
  intro n9
  induction n9 with
  | zero => intro l5 h hE; exact hE.elim
  | succ n9 ih => intro l5 h hE; exact gt_f_X2_orderFor_B46 hl ok tab fin hRm hb ih hk64 hk73 hE
set_option maxHeartbeats 8000000 in
theorem gt_f_X2_orderFor_J28 {Xc : zw_X} {Q : Int32 → zw_H → Prop} {X : String → Nat → zw_H → Prop} (hl : (zw_l Xc).stackTraces = false) (ok : zw_ok Xc cX2_orderFor "MultipoleLineModel" yX2_orderFor.name 6) (tab : zw_tab Xc []) (fin : zw_fin Xc (Option.some Jvm.ClassFile.FieldType.int) (zq_I Q) X 0 0) (hRm : zw_rm Xc = rm_X2_orderFor)  {l0 : Option Nat} {l1 : Int32} {l2 : Int32} {s0 : Int32} {s1 : Int32} {s2 : Option Nat} {h : zw_H} (hE : f_X2_orderFor_J28 (zw_Zf Xc).2.2.2 Q X  l0 l1 l2 s0 s1 s2 h) : zw_G Xc 0 0 6 h 28 [(0, va_rf l0), (1, .int l1), (2, .int l2)] [.int s0, .int s1, va_rf s2] := by
  unfold f_X2_orderFor_J28 at hE
  refine zg_callV (vs := [zI s1, zI s0]) (rest := []) (rm := rm_X2_mayTwo) ok hRm lk_X2_193 dX2_orderFor_28 hE (fun hE => mt_X2_mayTwo hl hE) rfl (Nat.le_of_ble_eq_true rfl) ⟨⟨Nat.le_of_ble_eq_true rfl, Nat.le_of_ble_eq_true rfl⟩, Nat.le_of_ble_eq_true rfl, Nat.le_of_ble_eq_true rfl⟩ (zg_retI (fun v3 h2 hE => ?_)) (zg_xok ok tab fin ⟨Nat.le_of_ble_eq_true rfl, Nat.le_of_ble_eq_true rfl⟩)
  refine zg_cost (kc2 := 0) (ks2 := 0) ⟨rfl, rfl⟩ ?_
  refine zg_if_ne (tgt := 36) ok dX2_orderFor_31 (by decide) hE (fun hE => ?_) (fun hE => ?_)
  · refine zg_iload_n ok dX2_orderFor_36 rfl 2 rfl ?_
    refine zg_i2d ok dX2_orderFor_37 ?_
    refine zg_ldc2d (v := (4652007308841189376 : UInt64)) ok q2924 dX2_orderFor_38 ?_
    refine zg_ddivE ok dX2_orderFor_41 hE (fun hE => ?_)
    refine zg_letD hE (fun v4 hE => ?_)
    refine zg_dstore_n (L' := [(3, .double v4), (0, va_rf l0), (1, .int l1), (2, .int l2)]) ok dX2_orderFor_42 rfl (by decide) rfl ?_
    refine zg_iconst (v := 0) ok dX2_orderFor_43 (by decide) ?_
    refine zg_istore (L' := [(5, .int 0), (3, .double v4), (0, va_rf l0), (1, .int l1), (2, .int l2)]) ok dX2_orderFor_44 (by decide) rfl ?_
    refine zg_sub (L' := [(0, va_rf l0), (1, .int l1), (3, .double v4), (5, .int 0)]) [2, 3, 1, 0] rfl ?_
    refine gt_f_X2_orderFor_L46 hl ok tab fin hRm ⟨Nat.le_of_ble_eq_true rfl, Nat.le_of_ble_eq_true rfl⟩ ?_ ?_ _ _ _ hE
    · intro v7 h4 hE
      refine zg_iload ok dX2_orderFor_64 0 rfl ?_
      exact zg_iret ok fin dX2_orderFor_66 ⟨Nat.le_of_ble_eq_true rfl, Nat.le_of_ble_eq_true rfl⟩ hE
    · intro h5 hE
      refine zg_iconst (v := (-1)) ok dX2_orderFor_73 (by decide) ?_
      exact zg_iret ok fin dX2_orderFor_74 ⟨Nat.le_of_ble_eq_true rfl, Nat.le_of_ble_eq_true rfl⟩ hE
  · refine zg_iconst (v := 0) ok dX2_orderFor_34 (by decide) ?_
    exact zg_iret ok fin dX2_orderFor_35 ⟨Nat.le_of_ble_eq_true rfl, Nat.le_of_ble_eq_true rfl⟩ hE
set_option maxHeartbeats 8000000 in
theorem gt_f_X2_orderFor_J27 {Xc : zw_X} {Q : Int32 → zw_H → Prop} {X : String → Nat → zw_H → Prop} (hl : (zw_l Xc).stackTraces = false) (ok : zw_ok Xc cX2_orderFor "MultipoleLineModel" yX2_orderFor.name 6) (tab : zw_tab Xc []) (fin : zw_fin Xc (Option.some Jvm.ClassFile.FieldType.int) (zq_I Q) X 0 0) (hRm : zw_rm Xc = rm_X2_orderFor)  {l0 : Option Nat} {l1 : Int32} {l2 : Int32} {s0 : Int32} {s1 : Option Nat} {h : zw_H} (hE : f_X2_orderFor_J27 (zw_Zf Xc).2.2.2 Q X  l0 l1 l2 s0 s1 h) : zw_G Xc 0 0 6 h 27 [(0, va_rf l0), (1, .int l1), (2, .int l2)] [.int s0, va_rf s1] := by
  unfold f_X2_orderFor_J27 at hE
  refine zg_iconst (v := 0) ok dX2_orderFor_27 (by decide) ?_
  exact gt_f_X2_orderFor_J28 hl ok tab fin hRm  hE
set_option maxHeartbeats 8000000 in
theorem mt_X2_orderFor {l : Launch} (hl : l.stackTraces = false) {Z : zw_Z} {a0 : Option Nat} {a1 : Int32} {a2 : Int32} {h : zw_H} {Q : Int32 → zw_H → Prop} {X : String → Nat → zw_H → Prop} (hE : f_X2_orderFor Z.2.2.2 a0 a1 a2 h Q X) : zw_Met l Z yX2_orderFor (ws_ yX2_orderFor cX2_orderFor 6 (Option.some Jvm.ClassFile.FieldType.int)) rm_X2_orderFor [zA a0, zI a1, zI a2] h (zq_I Q) X := by
  refine zg_start (own := "MultipoleLineModel") (by decide +kernel) rfl (Nat.le_of_ble_eq_true rfl) hl (fun Xc ok tab fin hRm hXl hXZ => ?_)
  subst hXl
  subst hXZ
  unfold f_X2_orderFor at hE
  refine zg_aload_n ok dX2_orderFor_0 rfl 0 rfl ?_
  refine zg_aload_n ok dX2_orderFor_1 rfl 0 rfl ?_
  refine zg_getI ok lf_X2_156 dX2_orderFor_2 hE (fun v1 hE => ?_)
  refine zg_iload_n ok dX2_orderFor_5 rfl 1 rfl ?_
  refine zg_callS (vs := [zI a1]) (rest := [.int v1, va_rf a0]) (rm := rm_X2_isPoint) ok hRm lk_X2_213 dX2_orderFor_6 hE (fun hE => mt_X2_isPoint hl hE) rfl (Nat.le_of_ble_eq_true rfl) ⟨⟨Nat.le_of_ble_eq_true rfl, Nat.le_of_ble_eq_true rfl⟩, Nat.le_of_ble_eq_true rfl, Nat.le_of_ble_eq_true rfl⟩ (zg_retI (fun v2 h1 hE => ?_)) (zg_xok ok tab fin ⟨Nat.le_of_ble_eq_true rfl, Nat.le_of_ble_eq_true rfl⟩)
  refine zg_cost (kc2 := 0) (ks2 := 0) ⟨rfl, rfl⟩ ?_
  refine zg_if_eq (tgt := 27) ok dX2_orderFor_9 (by decide) hE (fun hE => ?_) (fun hE => ?_)
  · exact gt_f_X2_orderFor_J27 hl ok tab fin hRm  hE
  · refine zg_iload_n ok dX2_orderFor_12 rfl 2 rfl ?_
    refine zg_iconst (v := 0) ok dX2_orderFor_13 (by decide) ?_
    refine zg_ldcw (v := (99999 : Int32)) ok q2964 dX2_orderFor_14 ?_
    refine zg_callS (vs := [zI a2, zI 0, zI (99999 : Int32)]) (rest := [.int v1, va_rf a0]) (rm := rm_X2_in) ok hRm lk_X2_77 dX2_orderFor_17 hE (fun hE => mt_X2_in hl hE) rfl (Nat.le_of_ble_eq_true rfl) ⟨⟨Nat.le_of_ble_eq_true rfl, Nat.le_of_ble_eq_true rfl⟩, Nat.le_of_ble_eq_true rfl, Nat.le_of_ble_eq_true rfl⟩ (zg_retI (fun v8 h6 hE => ?_)) (zg_xok ok tab fin ⟨Nat.le_of_ble_eq_true rfl, Nat.le_of_ble_eq_true rfl⟩)
    refine zg_cost (kc2 := 0) (ks2 := 0) ⟨rfl, rfl⟩ ?_
    refine zg_if_eq (tgt := 27) ok dX2_orderFor_20 (by decide) hE (fun hE => ?_) (fun hE => ?_)
    · exact gt_f_X2_orderFor_J27 hl ok tab fin hRm  hE
    · refine zg_iconst (v := 1) ok dX2_orderFor_23 (by decide) ?_
      refine zg_goto (tgt := 28) ok dX2_orderFor_24 (by decide) ?_
      exact gt_f_X2_orderFor_J28 hl ok tab fin hRm  hE
set_option maxHeartbeats 8000000 in
theorem gt_f_X2_costAll_B4 {Xc : zw_X} {Q : Int32 → zw_H → Prop} {X : String → Nat → zw_H → Prop} (hl : (zw_l Xc).stackTraces = false) (ok : zw_ok Xc cX2_costAll "MultipoleLineModel" yX2_costAll.name 3) (tab : zw_tab Xc []) (fin : zw_fin Xc (Option.some Jvm.ClassFile.FieldType.int) (zq_I Q) X 0 0) (hRm : zw_rm Xc = rm_X2_costAll) {kc ks : Nat} (hb : kc ≤ 0 ∧ ks ≤ 0) {R : Int32 → Int32 → zw_H → Prop} {l0 : Option Nat} (hR : ∀ (l1 : Int32) (l2 : Int32) (h : zw_H), R l1 l2 h → zw_G Xc kc ks 3 h 4 [(0, va_rf l0), (1, .int l1), (2, .int l2)] []) {k34 : Int32 → zw_H → Prop} (hk34 : ∀ (l1 : Int32) (h : zw_H), k34 l1 h → zw_G Xc kc ks 3 h 34 [(1, .int l1)] [])  {l1 : Int32} {l2 : Int32} {h : zw_H} (hE : f_X2_costAll_B4 (zw_Zf Xc).2.2.2 Q X k34 l0 R l1 l2 h) : zw_G Xc kc ks 3 h 4 [(0, va_rf l0), (1, .int l1), (2, .int l2)] [] := by
  unfold f_X2_costAll_B4 at hE
  refine zg_iload_n ok dX2_costAll_4 rfl 2 rfl ?_
  refine zg_aload_n ok dX2_costAll_5 rfl 0 rfl ?_
  refine zg_getA ok lf_X2_9 dX2_costAll_6 hE (fun v1 hE => ?_)
  refine zg_iconst (v := 0) ok dX2_costAll_9 (by decide) ?_
  refine zg_iald ok dX2_costAll_10 hE (fun v2 hE => ?_)
  refine zg_icmp_ge (tgt := 34) ok dX2_costAll_11 (by decide) hE (fun hE => ?_) (fun hE => ?_)
  · refine zg_sub (L' := [(1, .int l1)]) [1] rfl ?_
    exact hk34 _ _ hE
  · refine zg_iload_n ok dX2_costAll_14 rfl 1 rfl ?_
    refine zg_aload_n ok dX2_costAll_15 rfl 0 rfl ?_
    refine zg_aload_n ok dX2_costAll_16 rfl 0 rfl ?_
    refine zg_iload_n ok dX2_costAll_17 rfl 2 rfl ?_
    refine zg_iconst (v := 0) ok dX2_costAll_18 (by decide) ?_
    refine zg_callV (vs := [zI l2, zI 0]) (rest := [va_rf l0, .int l1]) (rm := rm_X2_of) ok hRm lk_X2_163 dX2_costAll_19 hE (fun hE => mt_X2_of hl hE) rfl (Nat.le_of_ble_eq_true rfl) ⟨⟨Nat.le_of_ble_eq_true rfl, Nat.le_of_ble_eq_true rfl⟩, (by show kc + 0 ≤ 0; omega), (by show ks + 0 ≤ 0; omega)⟩ (zg_retI (fun v3 h1 hE => ?_)) (zg_xok ok tab fin ⟨(by show kc + 0 ≤ 0; omega), (by show ks + 0 ≤ 0; omega)⟩)
    refine zg_cost (kc2 := kc) (ks2 := ks) ⟨(by show kc + 0 = kc; omega), (by show ks + 0 = ks; omega)⟩ ?_
    refine zg_iconst (v := 0) ok dX2_costAll_22 (by decide) ?_
    refine zg_callV (vs := [zI v3, zI 0]) (rest := [.int l1]) (rm := rm_X2_costOf) ok hRm lk_X2_281 dX2_costAll_23 hE (fun hE => mt_X2_costOf hl hE) rfl (Nat.le_of_ble_eq_true rfl) ⟨⟨Nat.le_of_ble_eq_true rfl, Nat.le_of_ble_eq_true rfl⟩, (by show kc + 0 ≤ 0; omega), (by show ks + 0 ≤ 0; omega)⟩ (zg_retI (fun v4 h2 hE => ?_)) (zg_xok ok tab fin ⟨(by show kc + 0 ≤ 0; omega), (by show ks + 0 ≤ 0; omega)⟩)
    refine zg_cost (kc2 := kc) (ks2 := ks) ⟨(by show kc + 0 = kc; omega), (by show ks + 0 = ks; omega)⟩ ?_
    refine zg_iadd ok dX2_costAll_26 ?_
    refine zg_letI hE (fun v5 hE => ?_)
    refine zg_istore_nR (L' := [(1, .int v5), (0, va_rf l0), (2, .int l2)]) ok dX2_costAll_27 rfl (by decide) 0 rfl rfl rfl ?_
    refine zg_iincL (k := 2) (L' := fun v6 => [(2, .int v6), (1, .int v5), (0, va_rf l0)]) ok dX2_costAll_28 (by decide +kernel) hE rfl (by decide) (fun _ => rfl) (fun v6 hE => ?_)
    refine zg_goto (tgt := 4) ok dX2_costAll_31 (by decide) ?_
    refine zg_sub (L' := [(0, va_rf l0), (1, .int v5), (2, .int v6)]) [2, 1, 0] rfl ?_
    exact hR _ _ _ hE
theorem gt_f_X2_costAll_L4 {Xc : zw_X} {Q : Int32 → zw_H → Prop} {X : String → Nat → zw_H → Prop} (hl : (zw_l Xc).stackTraces = false) (ok : zw_ok Xc cX2_costAll "MultipoleLineModel" yX2_costAll.name 3) (tab : zw_tab Xc []) (fin : zw_fin Xc (Option.some Jvm.ClassFile.FieldType.int) (zq_I Q) X 0 0) (hRm : zw_rm Xc = rm_X2_costAll) {kc ks : Nat} (hb : kc ≤ 0 ∧ ks ≤ 0) {l0 : Option Nat} {k34 : Int32 → zw_H → Prop} (hk34 : ∀ (l1 : Int32) (h : zw_H), k34 l1 h → zw_G Xc kc ks 3 h 34 [(1, .int l1)] [])  : ∀ (n9 : Nat) (l1 : Int32) (l2 : Int32) (h : zw_H), zl3 (f_X2_costAll_B4 (zw_Zf Xc).2.2.2 Q X k34 l0) n9 l1 l2 h → zw_G Xc kc ks 3 h 4 [(0, va_rf l0), (1, .int l1), (2, .int l2)] [] := by
  intro n9
  induction n9 with
  | zero => intro l1 l2 h hE; exact hE.elim
  | succ n9 ih => intro l1 l2 h hE; exact gt_f_X2_costAll_B4 hl ok tab fin hRm hb ih hk34 hE
set_option maxHeartbeats 8000000 in
theorem mt_X2_costAll {l : Launch} (hl : l.stackTraces = false) {Z : zw_Z} {a0 : Option Nat} {h : zw_H} {Q : Int32 → zw_H → Prop} {X : String → Nat → zw_H → Prop} (hE : f_X2_costAll Z.2.2.2 a0 h Q X) : zw_Met l Z yX2_costAll (ws_ yX2_costAll cX2_costAll 3 (Option.some Jvm.ClassFile.FieldType.int)) rm_X2_costAll [zA a0] h (zq_I Q) X := by
  refine zg_start (own := "MultipoleLineModel") (by decide +kernel) rfl (Nat.le_of_ble_eq_true rfl) hl (fun Xc ok tab fin hRm hXl hXZ => ?_)
  subst hXl
  subst hXZ
  unfold f_X2_costAll at hE
  refine zg_iconst (v := 0) ok dX2_costAll_0 (by decide) ?_
  refine zg_istore_nR (L' := [(1, .int 0), (0, va_rf a0)]) ok dX2_costAll_1 rfl (by decide) 0 rfl rfl rfl ?_
  refine zg_iconst (v := 0) ok dX2_costAll_2 (by decide) ?_
  refine zg_istore_n (L' := [(2, .int 0), (1, .int 0), (0, va_rf a0)]) ok dX2_costAll_3 rfl (by decide) rfl ?_
  refine zg_sub (L' := [(0, va_rf a0), (1, .int 0), (2, .int 0)]) [2, 1, 0] rfl ?_
  refine gt_f_X2_costAll_L4 hl ok tab fin hRm ⟨Nat.le_of_ble_eq_true rfl, Nat.le_of_ble_eq_true rfl⟩ ?_ _ _ _ _ hE
  · intro v7 h3 hE
    refine zg_iload_n ok dX2_costAll_34 rfl 0 rfl ?_
    exact zg_iret ok fin dX2_costAll_35 ⟨Nat.le_of_ble_eq_true rfl, Nat.le_of_ble_eq_true rfl⟩ hE
set_option maxHeartbeats 8000000 in
theorem gt_f_X2_bestLevels_J56 {Xc : zw_X} {Q : Int32 → zw_H → Prop} {X : String → Nat → zw_H → Prop} (hl : (zw_l Xc).stackTraces = false) (ok : zw_ok Xc cX2_bestLevels "MultipoleLineModel" yX2_bestLevels.name 5) (tab : zw_tab Xc []) (fin : zw_fin Xc (Option.some Jvm.ClassFile.FieldType.int) (zq_I Q) X 0 0) (hRm : zw_rm Xc = rm_X2_bestLevels) {kc ks : Nat} (hb : kc ≤ 0 ∧ ks ≤ 0) {R : Int32 → Int32 → Int32 → zw_H → Prop} {l0 : Option Nat} (hR : ∀ (l1 : Int32) (l2 : Int32) (l3 : Int32) (h : zw_H), R l1 l2 l3 h → zw_G Xc kc ks 5 h 19 [(0, va_rf l0), (1, .int l1), (2, .int l2), (3, .int l3)] []) {k62 : Int32 → zw_H → Prop} (hk62 : ∀ (l1 : Int32) (h : zw_H), k62 l1 h → zw_G Xc kc ks 5 h 62 [(0, va_rf l0), (1, .int l1)] [])  {l1 : Int32} {l2 : Int32} {l3 : Int32}  {h : zw_H} (hE : f_X2_bestLevels_J56 (zw_Zf Xc).2.2.2 Q X R k62 l0 l1 l2 l3 h) : zw_G Xc kc ks 5 h 56 [(0, va_rf l0), (1, .int l1), (2, .int l2), (3, .int l3)] [] := by
  unfold f_X2_bestLevels_J56 at hE
  refine zg_iincL (k := 3) (L' := fun v4 => [(3, .int v4), (0, va_rf l0), (1, .int l1), (2, .int l2)]) ok dX2_bestLevels_56 (by decide +kernel) hE rfl (by decide) (fun _ => rfl) (fun v4 hE => ?_)
  refine zg_goto (tgt := 19) ok dX2_bestLevels_59 (by decide) ?_
  refine zg_sub (L' := [(0, va_rf l0), (1, .int l1), (2, .int l2), (3, .int v4)]) [1, 2, 3, 0] rfl ?_
  exact hR _ _ _ _ hE
set_option maxHeartbeats 8000000 in
theorem gt_f_X2_bestLevels_J51 {Xc : zw_X} {Q : Int32 → zw_H → Prop} {X : String → Nat → zw_H → Prop} (hl : (zw_l Xc).stackTraces = false) (ok : zw_ok Xc cX2_bestLevels "MultipoleLineModel" yX2_bestLevels.name 5) (tab : zw_tab Xc []) (fin : zw_fin Xc (Option.some Jvm.ClassFile.FieldType.int) (zq_I Q) X 0 0) (hRm : zw_rm Xc = rm_X2_bestLevels) {kc ks : Nat} (hb : kc ≤ 0 ∧ ks ≤ 0) {R : Int32 → Int32 → Int32 → zw_H → Prop} {l0 : Option Nat} (hR : ∀ (l1 : Int32) (l2 : Int32) (l3 : Int32) (h : zw_H), R l1 l2 l3 h → zw_G Xc kc ks 5 h 19 [(0, va_rf l0), (1, .int l1), (2, .int l2), (3, .int l3)] []) {k62 : Int32 → zw_H → Prop} (hk62 : ∀ (l1 : Int32) (h : zw_H), k62 l1 h → zw_G Xc kc ks 5 h 62 [(0, va_rf l0), (1, .int l1)] [])  {l3 : Int32} {l4 : Int32}  {h : zw_H} (hE : f_X2_bestLevels_J51 (zw_Zf Xc).2.2.2 Q X R k62 l0 l3 l4 h) : zw_G Xc kc ks 5 h 51 [(0, va_rf l0), (3, .int l3), (4, .int l4)] [] := by
  unfold f_X2_bestLevels_J51 at hE
  refine zg_iload_n ok dX2_bestLevels_51 rfl 1 rfl ?_
  refine zg_istore_nR (L' := [(1, .int l3), (0, va_rf l0), (3, .int l3), (4, .int l4)]) ok dX2_bestLevels_52 rfl (by decide) 0 rfl rfl rfl ?_
  refine zg_iload ok dX2_bestLevels_53 3 rfl ?_
  refine zg_istore_n (L' := [(2, .int l4), (1, .int l3), (0, va_rf l0), (3, .int l3), (4, .int l4)]) ok dX2_bestLevels_55 rfl (by decide) rfl ?_
  refine zg_sub (L' := [(0, va_rf l0), (1, .int l3), (2, .int l4), (3, .int l3)]) [2, 1, 0, 3] rfl ?_
  exact gt_f_X2_bestLevels_J56 hl ok tab fin hRm hb hR hk62 hE
set_option maxHeartbeats 8000000 in
theorem gt_f_X2_bestLevels_B19 {Xc : zw_X} {Q : Int32 → zw_H → Prop} {X : String → Nat → zw_H → Prop} (hl : (zw_l Xc).stackTraces = false) (ok : zw_ok Xc cX2_bestLevels "MultipoleLineModel" yX2_bestLevels.name 5) (tab : zw_tab Xc []) (fin : zw_fin Xc (Option.some Jvm.ClassFile.FieldType.int) (zq_I Q) X 0 0) (hRm : zw_rm Xc = rm_X2_bestLevels) {kc ks : Nat} (hb : kc ≤ 0 ∧ ks ≤ 0) {R : Int32 → Int32 → Int32 → zw_H → Prop} {l0 : Option Nat} (hR : ∀ (l1 : Int32) (l2 : Int32) (l3 : Int32) (h : zw_H), R l1 l2 l3 h → zw_G Xc kc ks 5 h 19 [(0, va_rf l0), (1, .int l1), (2, .int l2), (3, .int l3)] []) {k62 : Int32 → zw_H → Prop} (hk62 : ∀ (l1 : Int32) (h : zw_H), k62 l1 h → zw_G Xc kc ks 5 h 62 [(0, va_rf l0), (1, .int l1)] [])  {l1 : Int32} {l2 : Int32} {l3 : Int32} {h : zw_H} (hE : f_X2_bestLevels_B19 (zw_Zf Xc).2.2.2 Q X k62 l0 R l1 l2 l3 h) : zw_G Xc kc ks 5 h 19 [(0, va_rf l0), (1, .int l1), (2, .int l2), (3, .int l3)] [] := by
  unfold f_X2_bestLevels_B19 at hE
  refine zg_iload_n ok dX2_bestLevels_19 rfl 3 rfl ?_
  refine zg_iconst (v := 5) ok dX2_bestLevels_20 (by decide) ?_
  refine zg_icmp_gt (tgt := 62) ok dX2_bestLevels_21 (by decide) hE (fun hE => ?_) (fun hE => ?_)
  · refine zg_sub (L' := [(0, va_rf l0), (1, .int l1)]) [0, 1] rfl ?_
    exact hk62 _ _ hE
  · refine zg_aload_n ok dX2_bestLevels_24 rfl 0 rfl ?_
    refine zg_getA ok lf_X2_9 dX2_bestLevels_25 hE (fun v2 hE => ?_)
    refine zg_iconst (v := 3) ok dX2_bestLevels_28 (by decide) ?_
    refine zg_iload_n ok dX2_bestLevels_29 rfl 3 rfl ?_
    refine zg_iast ok dX2_bestLevels_30 hE (fun h3 hE => ?_)
    refine zg_aload_n ok dX2_bestLevels_31 rfl 0 rfl ?_
    refine zg_callV (vs := []) (rest := []) (rm := rm_X2_costAll) ok hRm lk_X2_369 dX2_bestLevels_32 hE (fun hE => mt_X2_costAll hl hE) rfl (Nat.le_of_ble_eq_true rfl) ⟨⟨Nat.le_of_ble_eq_true rfl, Nat.le_of_ble_eq_true rfl⟩, (by show kc + 0 ≤ 0; omega), (by show ks + 0 ≤ 0; omega)⟩ (zg_retI (fun v3 h4 hE => ?_)) (zg_xok ok tab fin ⟨(by show kc + 0 ≤ 0; omega), (by show ks + 0 ≤ 0; omega)⟩)
    refine zg_cost (kc2 := kc) (ks2 := ks) ⟨(by show kc + 0 = kc; omega), (by show ks + 0 = ks; omega)⟩ ?_
    refine zg_istore (L' := [(4, .int v3), (0, va_rf l0), (1, .int l1), (2, .int l2), (3, .int l3)]) ok dX2_bestLevels_35 (by decide) rfl ?_
    refine zg_iload_n ok dX2_bestLevels_37 rfl 2 rfl ?_
    refine zg_iconst (v := (-1)) ok dX2_bestLevels_38 (by decide) ?_
    refine zg_icmp_eq (tgt := 51) ok dX2_bestLevels_39 (by decide) hE (fun hE => ?_) (fun hE => ?_)
    · refine zg_sub (L' := [(0, va_rf l0), (3, .int l3), (4, .int v3)]) [1, 4, 0] rfl ?_
      exact gt_f_X2_bestLevels_J51 hl ok tab fin hRm hb hR hk62 hE
    · refine zg_iload ok dX2_bestLevels_42 0 rfl ?_
      refine zg_iload_n ok dX2_bestLevels_44 rfl 3 rfl ?_
      refine zg_icmp_lt (tgt := 51) ok dX2_bestLevels_45 (by decide) hE (fun hE => ?_) (fun hE => ?_)
      · refine zg_sub (L' := [(0, va_rf l0), (3, .int l3), (4, .int v3)]) [1, 4, 0] rfl ?_
        exact gt_f_X2_bestLevels_J51 hl ok tab fin hRm hb hR hk62 hE
      · refine zg_goto (tgt := 56) ok dX2_bestLevels_48 (by decide) ?_
        refine zg_sub (L' := [(0, va_rf l0), (1, .int l1), (2, .int l2), (3, .int l3)]) [1, 2, 3, 4] rfl ?_
        exact gt_f_X2_bestLevels_J56 hl ok tab fin hRm hb hR hk62 hE
theorem gt_f_X2_bestLevels_L19 {Xc : zw_X} {Q : Int32 → zw_H → Prop} {X : String → Nat → zw_H → Prop} (hl : (zw_l Xc).stackTraces = false) (ok : zw_ok Xc cX2_bestLevels "MultipoleLineModel" yX2_bestLevels.name 5) (tab : zw_tab Xc []) (fin : zw_fin Xc (Option.some Jvm.ClassFile.FieldType.int) (zq_I Q) X 0 0) (hRm : zw_rm Xc = rm_X2_bestLevels) {kc ks : Nat} (hb : kc ≤ 0 ∧ ks ≤ 0) {l0 : Option Nat} {k62 : Int32 → zw_H → Prop} (hk62 : ∀ (l1 : Int32) (h : zw_H), k62 l1 h → zw_G Xc kc ks 5 h 62 [(0, va_rf l0), (1, .int l1)] [])  : ∀ (n9 : Nat) (l1 : Int32) (l2 : Int32) (l3 : Int32) (h : zw_H), zl4 (f_X2_bestLevels_B19 (zw_Zf Xc).2.2.2 Q X k62 l0) n9 l1 l2 l3 h → zw_G Xc kc ks 5 h 19 [(0, va_rf l0), (1, .int l1), (2, .int l2), (3, .int l3)] [] := by
  intro n9
  induction n9 with
  | zero => intro l1 l2 l3 h hE; exact hE.elim
  | succ n9 ih => intro l1 l2 l3 h hE; exact gt_f_X2_bestLevels_B19 hl ok tab fin hRm hb ih hk62 hE
set_option maxHeartbeats 8000000 in
theorem mt_X2_bestLevels {l : Launch} (hl : l.stackTraces = false) {Z : zw_Z} {a0 : Option Nat} {h : zw_H} {Q : Int32 → zw_H → Prop} {X : String → Nat → zw_H → Prop} (hE : f_X2_bestLevels Z.2.2.2 a0 h Q X) : zw_Met l Z yX2_bestLevels (ws_ yX2_bestLevels cX2_bestLevels 5 (Option.some Jvm.ClassFile.FieldType.int)) rm_X2_bestLevels [zA a0] h (zq_I Q) X := by
  refine zg_start (own := "MultipoleLineModel") (by decide +kernel) rfl (Nat.le_of_ble_eq_true rfl) hl (fun Xc ok tab fin hRm hXl hXZ => ?_)
  subst hXl
  subst hXZ
  unfold f_X2_bestLevels at hE
  refine zg_aload_n ok dX2_bestLevels_0 rfl 0 rfl ?_
  refine zg_callV (vs := []) (rest := []) (rm := rm_X2_mayAsk) ok hRm lk_X2_229 dX2_bestLevels_1 hE (fun hE => mt_X2_mayAsk hl hE) rfl (Nat.le_of_ble_eq_true rfl) ⟨⟨Nat.le_of_ble_eq_true rfl, Nat.le_of_ble_eq_true rfl⟩, Nat.le_of_ble_eq_true rfl, Nat.le_of_ble_eq_true rfl⟩ (zg_retI (fun v1 h1 hE => ?_)) (zg_xok ok tab fin ⟨Nat.le_of_ble_eq_true rfl, Nat.le_of_ble_eq_true rfl⟩)
  refine zg_cost (kc2 := 0) (ks2 := 0) ⟨rfl, rfl⟩ ?_
  refine zg_if_ne (tgt := 9) ok dX2_bestLevels_4 (by decide) hE (fun hE => ?_) (fun hE => ?_)
  · refine zg_aload_n ok dX2_bestLevels_9 rfl 0 rfl ?_
    refine zg_callV (vs := []) (rest := []) (rm := rm_X2_thinks) ok hRm lk_X2_356 dX2_bestLevels_10 hE (fun hE => mt_X2_thinks hl hE) rfl (Nat.le_of_ble_eq_true rfl) ⟨⟨Nat.le_of_ble_eq_true rfl, Nat.le_of_ble_eq_true rfl⟩, Nat.le_of_ble_eq_true rfl, Nat.le_of_ble_eq_true rfl⟩ (zg_retV (fun h2 hE => ?_)) (zg_xok ok tab fin ⟨Nat.le_of_ble_eq_true rfl, Nat.le_of_ble_eq_true rfl⟩)
    refine zg_cost (kc2 := 0) (ks2 := 0) ⟨rfl, rfl⟩ ?_
    refine zg_iconst (v := (-1)) ok dX2_bestLevels_13 (by decide) ?_
    refine zg_istore_nR (L' := [(1, .int (-1)), (0, va_rf a0)]) ok dX2_bestLevels_14 rfl (by decide) 0 rfl rfl rfl ?_
    refine zg_iconst (v := 0) ok dX2_bestLevels_15 (by decide) ?_
    refine zg_istore_n (L' := [(2, .int 0), (1, .int (-1)), (0, va_rf a0)]) ok dX2_bestLevels_16 rfl (by decide) rfl ?_
    refine zg_iconst (v := 2) ok dX2_bestLevels_17 (by decide) ?_
    refine zg_istore_n (L' := [(3, .int 2), (2, .int 0), (1, .int (-1)), (0, va_rf a0)]) ok dX2_bestLevels_18 rfl (by decide) rfl ?_
    refine zg_sub (L' := [(0, va_rf a0), (1, .int (-1)), (2, .int 0), (3, .int 2)]) [3, 2, 1, 0] rfl ?_
    refine gt_f_X2_bestLevels_L19 hl ok tab fin hRm ⟨Nat.le_of_ble_eq_true rfl, Nat.le_of_ble_eq_true rfl⟩ ?_ _ _ _ _ _ hE
    · intro v5 h5 hE
      refine zg_aload_n ok dX2_bestLevels_62 rfl 0 rfl ?_
      refine zg_iload_n ok dX2_bestLevels_63 rfl 1 rfl ?_
      refine zg_callV (vs := [zI v5]) (rest := []) (rm := rm_X2_back) ok hRm lk_X2_362 dX2_bestLevels_64 hE (fun hE => mt_X2_back hl hE) rfl (Nat.le_of_ble_eq_true rfl) ⟨⟨Nat.le_of_ble_eq_true rfl, Nat.le_of_ble_eq_true rfl⟩, Nat.le_of_ble_eq_true rfl, Nat.le_of_ble_eq_true rfl⟩ (zg_retI (fun v6 h6 hE => ?_)) (zg_xok ok tab fin ⟨Nat.le_of_ble_eq_true rfl, Nat.le_of_ble_eq_true rfl⟩)
      refine zg_cost (kc2 := 0) (ks2 := 0) ⟨rfl, rfl⟩ ?_
      exact zg_iret ok fin dX2_bestLevels_67 ⟨Nat.le_of_ble_eq_true rfl, Nat.le_of_ble_eq_true rfl⟩ hE
  · refine zg_iconst (v := 0) ok dX2_bestLevels_7 (by decide) ?_
    exact zg_iret ok fin dX2_bestLevels_8 ⟨Nat.le_of_ble_eq_true rfl, Nat.le_of_ble_eq_true rfl⟩ hE
set_option maxHeartbeats 8000000 in
theorem mt_X2_without {l : Launch} (hl : l.stackTraces = false) {Z : zw_Z} {a0 : Option Nat} {a1 : Int32} {a2 : Int32} {h : zw_H} {Q : UInt64 → zw_H → Prop} {X : String → Nat → zw_H → Prop} (hE : f_X2_without Z.2.2.2 a0 a1 a2 h Q X) : zw_Met l Z yX2_without (ws_ yX2_without cX2_without 3 (Option.some Jvm.ClassFile.FieldType.double)) rm_X2_without [zA a0, zI a1, zI a2] h (zq_D Q) X := by
  refine zg_start (own := "MultipoleLineModel") (by decide +kernel) rfl (Nat.le_of_ble_eq_true rfl) hl (fun Xc ok tab fin hRm hXl hXZ => ?_)
  subst hXl
  subst hXZ
  unfold f_X2_without at hE
  refine zg_aload_n ok dX2_without_0 rfl 0 rfl ?_
  refine zg_aload_n ok dX2_without_1 rfl 0 rfl ?_
  refine zg_getI ok lf_X2_156 dX2_without_2 hE (fun v1 hE => ?_)
  refine zg_aload_n ok dX2_without_5 rfl 0 rfl ?_
  refine zg_iload_n ok dX2_without_6 rfl 1 rfl ?_
  refine zg_callV (vs := [zI a1]) (rest := [.int v1, va_rf a0]) (rm := rm_X2_isBody) ok hRm lk_X2_210 dX2_without_7 hE (fun hE => mt_X2_isBody hl hE) rfl (Nat.le_of_ble_eq_true rfl) ⟨⟨Nat.le_of_ble_eq_true rfl, Nat.le_of_ble_eq_true rfl⟩, Nat.le_of_ble_eq_true rfl, Nat.le_of_ble_eq_true rfl⟩ (zg_retI (fun v2 h1 hE => ?_)) (zg_xok ok tab fin ⟨Nat.le_of_ble_eq_true rfl, Nat.le_of_ble_eq_true rfl⟩)
  refine zg_cost (kc2 := 0) (ks2 := 0) ⟨rfl, rfl⟩ ?_
  refine zg_iload_n ok dX2_without_10 rfl 2 rfl ?_
  refine zg_callS (vs := [zI a2]) (rest := [.int v2, .int v1, va_rf a0]) (rm := rm_X2_isPoint) ok hRm lk_X2_213 dX2_without_11 hE (fun hE => mt_X2_isPoint hl hE) rfl (Nat.le_of_ble_eq_true rfl) ⟨⟨Nat.le_of_ble_eq_true rfl, Nat.le_of_ble_eq_true rfl⟩, Nat.le_of_ble_eq_true rfl, Nat.le_of_ble_eq_true rfl⟩ (zg_retI (fun v3 h2 hE => ?_)) (zg_xok ok tab fin ⟨Nat.le_of_ble_eq_true rfl, Nat.le_of_ble_eq_true rfl⟩)
  refine zg_cost (kc2 := 0) (ks2 := 0) ⟨rfl, rfl⟩ ?_
  refine zg_callV (vs := [zI v1, zI v2, zI v3]) (rest := []) (rm := rm_X2_may) ok hRm lk_X2_60 dX2_without_14 hE (fun hE => mt_X2_may hl hE) rfl (Nat.le_of_ble_eq_true rfl) ⟨⟨Nat.le_of_ble_eq_true rfl, Nat.le_of_ble_eq_true rfl⟩, Nat.le_of_ble_eq_true rfl, Nat.le_of_ble_eq_true rfl⟩ (zg_retI (fun v4 h3 hE => ?_)) (zg_xok ok tab fin ⟨Nat.le_of_ble_eq_true rfl, Nat.le_of_ble_eq_true rfl⟩)
  refine zg_cost (kc2 := 0) (ks2 := 0) ⟨rfl, rfl⟩ ?_
  refine zg_if_eq (tgt := 30) ok dX2_without_17 (by decide) hE (fun hE => ?_) (fun hE => ?_)
  · refine zg_dconst0 ok dX2_without_30 ?_
    exact zg_dret ok fin dX2_without_31 ⟨Nat.le_of_ble_eq_true rfl, Nat.le_of_ble_eq_true rfl⟩ hE
  · refine zg_aload_n ok dX2_without_20 rfl 0 rfl ?_
    refine zg_iload_n ok dX2_without_21 rfl 2 rfl ?_
    refine zg_iconst (v := 1) ok dX2_without_22 (by decide) ?_
    refine zg_iload_n ok dX2_without_23 rfl 1 rfl ?_
    refine zg_callV (vs := [zI a2, zI 1, zI a1]) (rest := []) (rm := rm_X2_sumOf) ok hRm lk_X2_285 dX2_without_24 hE (fun hE => mt_X2_sumOf hl hE) rfl (Nat.le_of_ble_eq_true rfl) ⟨⟨Nat.le_of_ble_eq_true rfl, Nat.le_of_ble_eq_true rfl⟩, Nat.le_of_ble_eq_true rfl, Nat.le_of_ble_eq_true rfl⟩ (zg_retD (fun v5 h4 hE => ?_)) (zg_xok ok tab fin ⟨Nat.le_of_ble_eq_true rfl, Nat.le_of_ble_eq_true rfl⟩)
    refine zg_cost (kc2 := 0) (ks2 := 0) ⟨rfl, rfl⟩ ?_
    refine zg_goto (tgt := 31) ok dX2_without_27 (by decide) ?_
    exact zg_dret ok fin dX2_without_31 ⟨Nat.le_of_ble_eq_true rfl, Nat.le_of_ble_eq_true rfl⟩ hE
set_option maxHeartbeats 8000000 in
theorem gt_f_X2_quietest_J71 {Xc : zw_X} {Q : Int32 → zw_H → Prop} {X : String → Nat → zw_H → Prop} (hl : (zw_l Xc).stackTraces = false) (ok : zw_ok Xc cX2_quietest "MultipoleLineModel" yX2_quietest.name 7) (tab : zw_tab Xc []) (fin : zw_fin Xc (Option.some Jvm.ClassFile.FieldType.int) (zq_I Q) X 0 0) (hRm : zw_rm Xc = rm_X2_quietest) {kc ks : Nat} (hb : kc ≤ 0 ∧ ks ≤ 0) {R : Int32 → UInt64 → Int32 → zw_H → Prop} {l0 : Option Nat} (hR : ∀ (l1 : Int32) (l2 : UInt64) (l4 : Int32) (h : zw_H), R l1 l2 l4 h → zw_G Xc kc ks 7 h 16 [(0, va_rf l0), (1, .int l1), (2, .double l2), (4, .int l4)] []) {k77 : Int32 → zw_H → Prop} (hk77 : ∀ (l1 : Int32) (h : zw_H), k77 l1 h → zw_G Xc kc ks 7 h 77 [(1, .int l1)] [])  {l1 : Int32} {l2 : UInt64} {l4 : Int32}  {h : zw_H} (hE : f_X2_quietest_J71 (zw_Zf Xc).2.2.2 Q X R k77 l0 l1 l2 l4 h) : zw_G Xc kc ks 7 h 71 [(0, va_rf l0), (1, .int l1), (2, .double l2), (4, .int l4)] [] := by
  unfold f_X2_quietest_J71 at hE
  refine zg_iincL (k := 3) (L' := fun v5 => [(4, .int v5), (0, va_rf l0), (1, .int l1), (2, .double l2)]) ok dX2_quietest_71 (by decide +kernel) hE rfl (by decide) (fun _ => rfl) (fun v5 hE => ?_)
  refine zg_goto (tgt := 16) ok dX2_quietest_74 (by decide) ?_
  refine zg_sub (L' := [(0, va_rf l0), (1, .int l1), (2, .double l2), (4, .int v5)]) [1, 2, 3, 0] rfl ?_
  exact hR _ _ _ _ hE
set_option maxHeartbeats 8000000 in
theorem gt_f_X2_quietest_J65 {Xc : zw_X} {Q : Int32 → zw_H → Prop} {X : String → Nat → zw_H → Prop} (hl : (zw_l Xc).stackTraces = false) (ok : zw_ok Xc cX2_quietest "MultipoleLineModel" yX2_quietest.name 7) (tab : zw_tab Xc []) (fin : zw_fin Xc (Option.some Jvm.ClassFile.FieldType.int) (zq_I Q) X 0 0) (hRm : zw_rm Xc = rm_X2_quietest) {kc ks : Nat} (hb : kc ≤ 0 ∧ ks ≤ 0) {R : Int32 → UInt64 → Int32 → zw_H → Prop} {l0 : Option Nat} (hR : ∀ (l1 : Int32) (l2 : UInt64) (l4 : Int32) (h : zw_H), R l1 l2 l4 h → zw_G Xc kc ks 7 h 16 [(0, va_rf l0), (1, .int l1), (2, .double l2), (4, .int l4)] []) {k77 : Int32 → zw_H → Prop} (hk77 : ∀ (l1 : Int32) (h : zw_H), k77 l1 h → zw_G Xc kc ks 7 h 77 [(1, .int l1)] [])  {l4 : Int32} {l5 : UInt64}  {h : zw_H} (hE : f_X2_quietest_J65 (zw_Zf Xc).2.2.2 Q X R k77 l0 l4 l5 h) : zw_G Xc kc ks 7 h 65 [(0, va_rf l0), (4, .int l4), (5, .double l5)] [] := by
  unfold f_X2_quietest_J65 at hE
  refine zg_iload ok dX2_quietest_65 1 rfl ?_
  refine zg_istore_nR (L' := [(1, .int l4), (0, va_rf l0), (4, .int l4), (5, .double l5)]) ok dX2_quietest_67 rfl (by decide) 0 rfl rfl rfl ?_
  refine zg_dload ok dX2_quietest_68 3 rfl ?_
  refine zg_dstore_n (L' := [(2, .double l5), (1, .int l4), (0, va_rf l0), (4, .int l4), (5, .double l5)]) ok dX2_quietest_70 rfl (by decide) rfl ?_
  refine zg_sub (L' := [(0, va_rf l0), (1, .int l4), (2, .double l5), (4, .int l4)]) [2, 1, 0, 3] rfl ?_
  exact gt_f_X2_quietest_J71 hl ok tab fin hRm hb hR hk77 hE
set_option maxHeartbeats 8000000 in
theorem gt_f_X2_quietest_B16 {Xc : zw_X} {Q : Int32 → zw_H → Prop} {X : String → Nat → zw_H → Prop} (hl : (zw_l Xc).stackTraces = false) (ok : zw_ok Xc cX2_quietest "MultipoleLineModel" yX2_quietest.name 7) (tab : zw_tab Xc []) (fin : zw_fin Xc (Option.some Jvm.ClassFile.FieldType.int) (zq_I Q) X 0 0) (hRm : zw_rm Xc = rm_X2_quietest) {kc ks : Nat} (hb : kc ≤ 0 ∧ ks ≤ 0) {R : Int32 → UInt64 → Int32 → zw_H → Prop} {l0 : Option Nat} (hR : ∀ (l1 : Int32) (l2 : UInt64) (l4 : Int32) (h : zw_H), R l1 l2 l4 h → zw_G Xc kc ks 7 h 16 [(0, va_rf l0), (1, .int l1), (2, .double l2), (4, .int l4)] []) {k77 : Int32 → zw_H → Prop} (hk77 : ∀ (l1 : Int32) (h : zw_H), k77 l1 h → zw_G Xc kc ks 7 h 77 [(1, .int l1)] [])  {l1 : Int32} {l2 : UInt64} {l4 : Int32} {h : zw_H} (hE : f_X2_quietest_B16 (zw_Zf Xc).2.2.2 Q X k77 l0 R l1 l2 l4 h) : zw_G Xc kc ks 7 h 16 [(0, va_rf l0), (1, .int l1), (2, .double l2), (4, .int l4)] [] := by
  unfold f_X2_quietest_B16 at hE
  refine zg_iload ok dX2_quietest_16 3 rfl ?_
  refine zg_sipush (v := 256) ok dX2_quietest_18 (by decide) ?_
  refine zg_icmp_ge (tgt := 77) ok dX2_quietest_21 (by decide) hE (fun hE => ?_) (fun hE => ?_)
  · refine zg_sub (L' := [(1, .int l1)]) [1] rfl ?_
    exact hk77 _ _ hE
  · refine zg_aload_n ok dX2_quietest_24 rfl 0 rfl ?_
    refine zg_iload ok dX2_quietest_25 3 rfl ?_
    refine zg_callV (vs := [zI l4]) (rest := []) (rm := rm_X2_firstAt) ok hRm lk_X2_219 dX2_quietest_27 hE (fun hE => mt_X2_firstAt hl hE) rfl (Nat.le_of_ble_eq_true rfl) ⟨⟨Nat.le_of_ble_eq_true rfl, Nat.le_of_ble_eq_true rfl⟩, (by show kc + 0 ≤ 0; omega), (by show ks + 0 ≤ 0; omega)⟩ (zg_retI (fun v2 h2 hE => ?_)) (zg_xok ok tab fin ⟨(by show kc + 0 ≤ 0; omega), (by show ks + 0 ≤ 0; omega)⟩)
    refine zg_cost (kc2 := kc) (ks2 := ks) ⟨(by show kc + 0 = kc; omega), (by show ks + 0 = ks; omega)⟩ ?_
    refine zg_iconst (v := (-1)) ok dX2_quietest_30 (by decide) ?_
    refine zg_icmp_eq (tgt := 37) ok dX2_quietest_31 (by decide) hE (fun hE => ?_) (fun hE => ?_)
    · refine zg_aload_n ok dX2_quietest_37 rfl 0 rfl ?_
      refine zg_iload ok dX2_quietest_38 3 rfl ?_
      refine zg_iconst (v := 1) ok dX2_quietest_40 (by decide) ?_
      refine zg_iconst (v := (-1)) ok dX2_quietest_41 (by decide) ?_
      refine zg_callV (vs := [zI l4, zI 1, zI (-1)]) (rest := []) (rm := rm_X2_sumOf) ok hRm lk_X2_285 dX2_quietest_42 hE (fun hE => mt_X2_sumOf hl hE) rfl (Nat.le_of_ble_eq_true rfl) ⟨⟨Nat.le_of_ble_eq_true rfl, Nat.le_of_ble_eq_true rfl⟩, (by show kc + 0 ≤ 0; omega), (by show ks + 0 ≤ 0; omega)⟩ (zg_retD (fun v3 h3 hE => ?_)) (zg_xok ok tab fin ⟨(by show kc + 0 ≤ 0; omega), (by show ks + 0 ≤ 0; omega)⟩)
      refine zg_cost (kc2 := kc) (ks2 := ks) ⟨(by show kc + 0 = kc; omega), (by show ks + 0 = ks; omega)⟩ ?_
      refine zg_callS (vs := [zD v3]) (rest := []) (rm := rm_X2_absolute) ok hRm lk_X2_307 dX2_quietest_45 hE (fun hE => mt_X2_absolute hl hE) rfl (Nat.le_of_ble_eq_true rfl) ⟨⟨Nat.le_of_ble_eq_true rfl, Nat.le_of_ble_eq_true rfl⟩, (by show kc + 0 ≤ 0; omega), (by show ks + 0 ≤ 0; omega)⟩ (zg_retD (fun v4 h4 hE => ?_)) (zg_xok ok tab fin ⟨(by show kc + 0 ≤ 0; omega), (by show ks + 0 ≤ 0; omega)⟩)
      refine zg_cost (kc2 := kc) (ks2 := ks) ⟨(by show kc + 0 = kc; omega), (by show ks + 0 = ks; omega)⟩ ?_
      refine zg_dstore (L' := [(5, .double v4), (0, va_rf l0), (1, .int l1), (2, .double l2), (4, .int l4)]) ok dX2_quietest_48 (by decide) rfl ?_
      refine zg_iload_n ok dX2_quietest_50 rfl 2 rfl ?_
      refine zg_iconst (v := (-1)) ok dX2_quietest_51 (by decide) ?_
      refine zg_icmp_eq (tgt := 65) ok dX2_quietest_52 (by decide) hE (fun hE => ?_) (fun hE => ?_)
      · refine zg_sub (L' := [(0, va_rf l0), (4, .int l4), (5, .double v4)]) [1, 4, 0] rfl ?_
        exact gt_f_X2_quietest_J65 hl ok tab fin hRm hb hR hk77 hE
      · refine zg_dload ok dX2_quietest_55 0 rfl ?_
        refine zg_dload_n ok dX2_quietest_57 rfl 3 rfl ?_
        refine zg_dcmp ok dX2_quietest_58 ?_
        refine zg_if_lt (tgt := 65) ok dX2_quietest_59 (by decide) hE (fun hE => ?_) (fun hE => ?_)
        · refine zg_sub (L' := [(0, va_rf l0), (4, .int l4), (5, .double v4)]) [1, 4, 0] rfl ?_
          exact gt_f_X2_quietest_J65 hl ok tab fin hRm hb hR hk77 hE
        · refine zg_goto (tgt := 71) ok dX2_quietest_62 (by decide) ?_
          refine zg_sub (L' := [(0, va_rf l0), (1, .int l1), (2, .double l2), (4, .int l4)]) [1, 2, 3, 4] rfl ?_
          exact gt_f_X2_quietest_J71 hl ok tab fin hRm hb hR hk77 hE
    · refine zg_goto (tgt := 71) ok dX2_quietest_34 (by decide) ?_
      exact gt_f_X2_quietest_J71 hl ok tab fin hRm hb hR hk77 hE
theorem gt_f_X2_quietest_L16 {Xc : zw_X} {Q : Int32 → zw_H → Prop} {X : String → Nat → zw_H → Prop} (hl : (zw_l Xc).stackTraces = false) (ok : zw_ok Xc cX2_quietest "MultipoleLineModel" yX2_quietest.name 7) (tab : zw_tab Xc []) (fin : zw_fin Xc (Option.some Jvm.ClassFile.FieldType.int) (zq_I Q) X 0 0) (hRm : zw_rm Xc = rm_X2_quietest) {kc ks : Nat} (hb : kc ≤ 0 ∧ ks ≤ 0) {l0 : Option Nat} {k77 : Int32 → zw_H → Prop} (hk77 : ∀ (l1 : Int32) (h : zw_H), k77 l1 h → zw_G Xc kc ks 7 h 77 [(1, .int l1)] [])  : ∀ (n9 : Nat) (l1 : Int32) (l2 : UInt64) (l4 : Int32) (h : zw_H), zl4 (f_X2_quietest_B16 (zw_Zf Xc).2.2.2 Q X k77 l0) n9 l1 l2 l4 h → zw_G Xc kc ks 7 h 16 [(0, va_rf l0), (1, .int l1), (2, .double l2), (4, .int l4)] [] := by
  intro n9
  induction n9 with
  | zero => intro l1 l2 l4 h hE; exact hE.elim
  | succ n9 ih => intro l1 l2 l4 h hE; exact gt_f_X2_quietest_B16 hl ok tab fin hRm hb ih hk77 hE
set_option maxHeartbeats 8000000 in
theorem mt_X2_quietest {l : Launch} (hl : l.stackTraces = false) {Z : zw_Z} {a0 : Option Nat} {h : zw_H} {Q : Int32 → zw_H → Prop} {X : String → Nat → zw_H → Prop} (hE : f_X2_quietest Z.2.2.2 a0 h Q X) : zw_Met l Z yX2_quietest (ws_ yX2_quietest cX2_quietest 7 (Option.some Jvm.ClassFile.FieldType.int)) rm_X2_quietest [zA a0] h (zq_I Q) X := by
  refine zg_start (own := "MultipoleLineModel") (by decide +kernel) rfl (Nat.le_of_ble_eq_true rfl) hl (fun Xc ok tab fin hRm hXl hXZ => ?_)
  subst hXl
  subst hXZ
  unfold f_X2_quietest at hE
  refine zg_aload_n ok dX2_quietest_0 rfl 0 rfl ?_
  refine zg_callV (vs := []) (rest := []) (rm := rm_X2_mayAsk) ok hRm lk_X2_229 dX2_quietest_1 hE (fun hE => mt_X2_mayAsk hl hE) rfl (Nat.le_of_ble_eq_true rfl) ⟨⟨Nat.le_of_ble_eq_true rfl, Nat.le_of_ble_eq_true rfl⟩, Nat.le_of_ble_eq_true rfl, Nat.le_of_ble_eq_true rfl⟩ (zg_retI (fun v1 h1 hE => ?_)) (zg_xok ok tab fin ⟨Nat.le_of_ble_eq_true rfl, Nat.le_of_ble_eq_true rfl⟩)
  refine zg_cost (kc2 := 0) (ks2 := 0) ⟨rfl, rfl⟩ ?_
  refine zg_if_ne (tgt := 9) ok dX2_quietest_4 (by decide) hE (fun hE => ?_) (fun hE => ?_)
  · refine zg_iconst (v := (-1)) ok dX2_quietest_9 (by decide) ?_
    refine zg_istore_nR (L' := [(1, .int (-1)), (0, va_rf a0)]) ok dX2_quietest_10 rfl (by decide) 0 rfl rfl rfl ?_
    refine zg_dconst0 ok dX2_quietest_11 ?_
    refine zg_dstore_n (L' := [(2, .double FP.dconst0), (1, .int (-1)), (0, va_rf a0)]) ok dX2_quietest_12 rfl (by decide) rfl ?_
    refine zg_iconst (v := 0) ok dX2_quietest_13 (by decide) ?_
    refine zg_istore (L' := [(4, .int 0), (2, .double FP.dconst0), (1, .int (-1)), (0, va_rf a0)]) ok dX2_quietest_14 (by decide) rfl ?_
    refine zg_sub (L' := [(0, va_rf a0), (1, .int (-1)), (2, .double FP.dconst0), (4, .int 0)]) [3, 2, 1, 0] rfl ?_
    refine gt_f_X2_quietest_L16 hl ok tab fin hRm ⟨Nat.le_of_ble_eq_true rfl, Nat.le_of_ble_eq_true rfl⟩ ?_ _ _ _ _ _ hE
    · intro v6 h5 hE
      refine zg_iload_n ok dX2_quietest_77 rfl 0 rfl ?_
      exact zg_iret ok fin dX2_quietest_78 ⟨Nat.le_of_ble_eq_true rfl, Nat.le_of_ble_eq_true rfl⟩ hE
  · refine zg_iconst (v := 0) ok dX2_quietest_7 (by decide) ?_
    exact zg_iret ok fin dX2_quietest_8 ⟨Nat.le_of_ble_eq_true rfl, Nat.le_of_ble_eq_true rfl⟩ hE
set_option maxHeartbeats 8000000 in
theorem mt_X2_balanced {l : Launch} (hl : l.stackTraces = false) {Z : zw_Z} {a0 : Option Nat} {h : zw_H} {Q : UInt32 → zw_H → Prop} {X : String → Nat → zw_H → Prop} (hE : f_X2_balanced Z.2.2.2 a0 h Q X) : zw_Met l Z yX2_balanced (ws_ yX2_balanced cX2_balanced 1 (Option.some Jvm.ClassFile.FieldType.float)) rm_X2_balanced [zA a0] h (zq_F Q) X := by
  refine zg_start (own := "MultipoleLineModel") (by decide +kernel) rfl (Nat.le_of_ble_eq_true rfl) hl (fun Xc ok tab fin hRm hXl hXZ => ?_)
  subst hXl
  subst hXZ
  unfold f_X2_balanced at hE
  refine zg_aload_n ok dX2_balanced_0 rfl 0 rfl ?_
  refine zg_getA ok lf_X2_9 dX2_balanced_1 hE (fun v1 hE => ?_)
  refine zg_iconst (v := 0) ok dX2_balanced_4 (by decide) ?_
  refine zg_iald ok dX2_balanced_5 hE (fun v2 hE => ?_)
  refine zg_if_ne (tgt := 13) ok dX2_balanced_6 (by decide) hE (fun hE => ?_) (fun hE => ?_)
  · refine zg_aload_n ok dX2_balanced_13 rfl 0 rfl ?_
    refine zg_iconst (v := 0) ok dX2_balanced_14 (by decide) ?_
    refine zg_iconst (v := 0) ok dX2_balanced_15 (by decide) ?_
    refine zg_iconst (v := 0) ok dX2_balanced_16 (by decide) ?_
    refine zg_callV (vs := [zI 0, zI 0, zI 0]) (rest := []) (rm := rm_X2_charge) ok hRm lk_X2_200 dX2_balanced_17 hE (fun hE => mt_X2_charge hl hE) rfl (Nat.le_of_ble_eq_true rfl) ⟨⟨Nat.le_of_ble_eq_true rfl, Nat.le_of_ble_eq_true rfl⟩, Nat.le_of_ble_eq_true rfl, Nat.le_of_ble_eq_true rfl⟩ (zg_retI (fun v3 h1 hE => ?_)) (zg_xok ok tab fin ⟨Nat.le_of_ble_eq_true rfl, Nat.le_of_ble_eq_true rfl⟩)
    refine zg_cost (kc2 := 0) (ks2 := 0) ⟨rfl, rfl⟩ ?_
    refine zg_i2f ok dX2_balanced_20 ?_
    refine zg_aload_n ok dX2_balanced_21 rfl 0 rfl ?_
    refine zg_iconst (v := 0) ok dX2_balanced_22 (by decide) ?_
    refine zg_iconst (v := 0) ok dX2_balanced_23 (by decide) ?_
    refine zg_iconst (v := 1) ok dX2_balanced_24 (by decide) ?_
    refine zg_callV (vs := [zI 0, zI 0, zI 1]) (rest := [.float (FP.i2f v3)]) (rm := rm_X2_charge) ok hRm lk_X2_200 dX2_balanced_25 hE (fun hE => mt_X2_charge hl hE) rfl (Nat.le_of_ble_eq_true rfl) ⟨⟨Nat.le_of_ble_eq_true rfl, Nat.le_of_ble_eq_true rfl⟩, Nat.le_of_ble_eq_true rfl, Nat.le_of_ble_eq_true rfl⟩ (zg_retI (fun v4 h2 hE => ?_)) (zg_xok ok tab fin ⟨Nat.le_of_ble_eq_true rfl, Nat.le_of_ble_eq_true rfl⟩)
    refine zg_cost (kc2 := 0) (ks2 := 0) ⟨rfl, rfl⟩ ?_
    refine zg_i2f ok dX2_balanced_28 ?_
    refine zg_fdivE ok dX2_balanced_29 hE (fun hE => ?_)
    refine zg_letF hE (fun v5 hE => ?_)
    exact zg_fret ok fin dX2_balanced_30 ⟨Nat.le_of_ble_eq_true rfl, Nat.le_of_ble_eq_true rfl⟩ hE
  · refine zg_fconst0 ok dX2_balanced_9 ?_
    refine zg_goto (tgt := 30) ok dX2_balanced_10 (by decide) ?_
    exact zg_fret ok fin dX2_balanced_30 ⟨Nat.le_of_ble_eq_true rfl, Nat.le_of_ble_eq_true rfl⟩ hE
set_option maxHeartbeats 8000000 in
theorem mt_X2_balance {l : Launch} (hl : l.stackTraces = false) {Z : zw_Z} {a0 : Option Nat} {h : zw_H} {Q : UInt32 → zw_H → Prop} {X : String → Nat → zw_H → Prop} (hE : f_X2_balance Z.2.2.2 a0 h Q X) : zw_Met l Z yX2_balance (ws_ yX2_balance cX2_balance 1 (Option.some Jvm.ClassFile.FieldType.float)) rm_X2_balance [zA a0] h (zq_F Q) X := by
  refine zg_start (own := "MultipoleLineModel") (by decide +kernel) rfl (Nat.le_of_ble_eq_true rfl) hl (fun Xc ok tab fin hRm hXl hXZ => ?_)
  subst hXl
  subst hXZ
  unfold f_X2_balance at hE
  refine zg_aload_n ok dX2_balance_0 rfl 0 rfl ?_
  refine zg_callV (vs := []) (rest := []) (rm := rm_X2_mayAsk) ok hRm lk_X2_229 dX2_balance_1 hE (fun hE => mt_X2_mayAsk hl hE) rfl (Nat.le_of_ble_eq_true rfl) ⟨⟨Nat.le_of_ble_eq_true rfl, Nat.le_of_ble_eq_true rfl⟩, Nat.le_of_ble_eq_true rfl, Nat.le_of_ble_eq_true rfl⟩ (zg_retI (fun v1 h1 hE => ?_)) (zg_xok ok tab fin ⟨Nat.le_of_ble_eq_true rfl, Nat.le_of_ble_eq_true rfl⟩)
  refine zg_cost (kc2 := 0) (ks2 := 0) ⟨rfl, rfl⟩ ?_
  refine zg_if_eq (tgt := 14) ok dX2_balance_4 (by decide) hE (fun hE => ?_) (fun hE => ?_)
  · refine zg_fconst0 ok dX2_balance_14 ?_
    exact zg_fret ok fin dX2_balance_15 ⟨Nat.le_of_ble_eq_true rfl, Nat.le_of_ble_eq_true rfl⟩ hE
  · refine zg_aload_n ok dX2_balance_7 rfl 0 rfl ?_
    refine zg_callV (vs := []) (rest := []) (rm := rm_X2_balanced) ok hRm lk_X2_372 dX2_balance_8 hE (fun hE => mt_X2_balanced hl hE) rfl (Nat.le_of_ble_eq_true rfl) ⟨⟨Nat.le_of_ble_eq_true rfl, Nat.le_of_ble_eq_true rfl⟩, Nat.le_of_ble_eq_true rfl, Nat.le_of_ble_eq_true rfl⟩ (zg_retF (fun v2 h2 hE => ?_)) (zg_xok ok tab fin ⟨Nat.le_of_ble_eq_true rfl, Nat.le_of_ble_eq_true rfl⟩)
    refine zg_cost (kc2 := 0) (ks2 := 0) ⟨rfl, rfl⟩ ?_
    refine zg_goto (tgt := 15) ok dX2_balance_11 (by decide) ?_
    exact zg_fret ok fin dX2_balance_15 ⟨Nat.le_of_ble_eq_true rfl, Nat.le_of_ble_eq_true rfl⟩ hE
set_option maxHeartbeats 8000000 in
theorem mt_J35_isNaN {l : Launch} (hl : l.stackTraces = false) {Z : zw_Z} {a0 : UInt32} {h : zw_H} {Q : Int32 → zw_H → Prop} {X : String → Nat → zw_H → Prop} (hE : f_J35_isNaN Z.2.2.2 a0 h Q X) : zw_Met l Z yJ35_isNaN (ws_ yJ35_isNaN cJ35_isNaN 1 (Option.some Jvm.ClassFile.FieldType.boolean)) rm_J35_isNaN [zF a0] h (zq_I Q) X := by
  refine zg_startF (own := "java/lang/Float") (by decide +kernel) rfl (Nat.le_of_ble_eq_true rfl) hl (fun Xc ok tab fin hRm hXl hXZ => ?_)
  subst hXl
  subst hXZ
  unfold f_J35_isNaN at hE
  refine zg_fload_n ok dJ35_isNaN_0 rfl 0 rfl ?_
  refine zg_fload_n ok dJ35_isNaN_1 rfl 0 rfl ?_
  refine zg_fcmp ok dJ35_isNaN_2 ?_
  refine zg_if_eq (tgt := 10) ok dJ35_isNaN_3 (by decide) hE (fun hE => ?_) (fun hE => ?_)
  · refine zg_iconst (v := 0) ok dJ35_isNaN_10 (by decide) ?_
    exact zg_zret ok fin dJ35_isNaN_11 ⟨Nat.le_of_ble_eq_true rfl, Nat.le_of_ble_eq_true rfl⟩ rfl hE
  · refine zg_iconst (v := 1) ok dJ35_isNaN_6 (by decide) ?_
    refine zg_goto (tgt := 11) ok dJ35_isNaN_7 (by decide) ?_
    exact zg_zret ok fin dJ35_isNaN_11 ⟨Nat.le_of_ble_eq_true rfl, Nat.le_of_ble_eq_true rfl⟩ rfl hE
set_option maxHeartbeats 8000000 in
theorem mt_J35_floatToIntBits {l : Launch} (hl : l.stackTraces = false) {Z : zw_Z} {a0 : UInt32} {h : zw_H} {Q : Int32 → zw_H → Prop} {X : String → Nat → zw_H → Prop} (hE : f_J35_floatToIntBits Z.2.2.2 a0 h Q X) : zw_Met l Z yJ35_floatToIntBits (ws_ yJ35_floatToIntBits cJ35_floatToIntBits 1 (Option.some Jvm.ClassFile.FieldType.int)) rm_J35_floatToIntBits [zF a0] h (zq_I Q) X := by
  refine zg_startF (own := "java/lang/Float") (by decide +kernel) rfl (Nat.le_of_ble_eq_true rfl) hl (fun Xc ok tab fin hRm hXl hXZ => ?_)
  subst hXl
  subst hXZ
  unfold f_J35_floatToIntBits at hE
  refine zg_fload_n ok dJ35_floatToIntBits_0 rfl 0 rfl ?_
  refine zg_callS (vs := [zF a0]) (rest := []) (rm := rm_J35_isNaN) ok hRm lk_J35_59 dJ35_floatToIntBits_1 hE (fun hE => mt_J35_isNaN hl hE) rfl (Nat.le_of_ble_eq_true rfl) ⟨⟨Nat.le_of_ble_eq_true rfl, Nat.le_of_ble_eq_true rfl⟩, Nat.le_of_ble_eq_true rfl, Nat.le_of_ble_eq_true rfl⟩ (zg_retI (fun v1 h1 hE => ?_)) (zg_xok ok tab fin ⟨Nat.le_of_ble_eq_true rfl, Nat.le_of_ble_eq_true rfl⟩)
  refine zg_cost (kc2 := 0) (ks2 := 0) ⟨rfl, rfl⟩ ?_
  refine zg_if_ne (tgt := 12) ok dJ35_floatToIntBits_4 (by decide) hE (fun hE => ?_) (fun hE => ?_)
  · refine zg_ldc (v := (2143289344 : Int32)) ok q2119 dJ35_floatToIntBits_12 ?_
    exact zg_iret ok fin dJ35_floatToIntBits_14 ⟨Nat.le_of_ble_eq_true rfl, Nat.le_of_ble_eq_true rfl⟩ hE
  · refine zg_fload_n ok dJ35_floatToIntBits_7 rfl 0 rfl ?_
    refine zg_f2i ok hRm q2116 ⟨by decide, by decide⟩ (Nat.le_of_ble_eq_true rfl) dJ35_floatToIntBits_8 ?_
    exact zg_iret ok fin dJ35_floatToIntBits_11 ⟨Nat.le_of_ble_eq_true rfl, Nat.le_of_ble_eq_true rfl⟩ hE
set_option maxHeartbeats 8000000 in
theorem mt_X2_balanceBits {l : Launch} (hl : l.stackTraces = false) {Z : zw_Z} {a0 : Option Nat} {h : zw_H} {Q : Int32 → zw_H → Prop} {X : String → Nat → zw_H → Prop} (hE : f_X2_balanceBits Z.2.2.2 a0 h Q X) : zw_Met l Z yX2_balanceBits (ws_ yX2_balanceBits cX2_balanceBits 1 (Option.some Jvm.ClassFile.FieldType.int)) rm_X2_balanceBits [zA a0] h (zq_I Q) X := by
  refine zg_start (own := "MultipoleLineModel") (by decide +kernel) rfl (Nat.le_of_ble_eq_true rfl) hl (fun Xc ok tab fin hRm hXl hXZ => ?_)
  subst hXl
  subst hXZ
  unfold f_X2_balanceBits at hE
  refine zg_aload_n ok dX2_balanceBits_0 rfl 0 rfl ?_
  refine zg_callV (vs := []) (rest := []) (rm := rm_X2_mayAsk) ok hRm lk_X2_229 dX2_balanceBits_1 hE (fun hE => mt_X2_mayAsk hl hE) rfl (Nat.le_of_ble_eq_true rfl) ⟨⟨Nat.le_of_ble_eq_true rfl, Nat.le_of_ble_eq_true rfl⟩, Nat.le_of_ble_eq_true rfl, Nat.le_of_ble_eq_true rfl⟩ (zg_retI (fun v1 h1 hE => ?_)) (zg_xok ok tab fin ⟨Nat.le_of_ble_eq_true rfl, Nat.le_of_ble_eq_true rfl⟩)
  refine zg_cost (kc2 := 0) (ks2 := 0) ⟨rfl, rfl⟩ ?_
  refine zg_if_eq (tgt := 17) ok dX2_balanceBits_4 (by decide) hE (fun hE => ?_) (fun hE => ?_)
  · refine zg_iconst (v := 0) ok dX2_balanceBits_17 (by decide) ?_
    exact zg_iret ok fin dX2_balanceBits_18 ⟨Nat.le_of_ble_eq_true rfl, Nat.le_of_ble_eq_true rfl⟩ hE
  · refine zg_aload_n ok dX2_balanceBits_7 rfl 0 rfl ?_
    refine zg_callV (vs := []) (rest := []) (rm := rm_X2_balanced) ok hRm lk_X2_372 dX2_balanceBits_8 hE (fun hE => mt_X2_balanced hl hE) rfl (Nat.le_of_ble_eq_true rfl) ⟨⟨Nat.le_of_ble_eq_true rfl, Nat.le_of_ble_eq_true rfl⟩, Nat.le_of_ble_eq_true rfl, Nat.le_of_ble_eq_true rfl⟩ (zg_retF (fun v2 h2 hE => ?_)) (zg_xok ok tab fin ⟨Nat.le_of_ble_eq_true rfl, Nat.le_of_ble_eq_true rfl⟩)
    refine zg_cost (kc2 := 0) (ks2 := 0) ⟨rfl, rfl⟩ ?_
    refine zg_callS (vs := [zF v2]) (rest := []) (rm := rm_J35_floatToIntBits) ok hRm lk_X2_376 dX2_balanceBits_11 hE (fun hE => mt_J35_floatToIntBits hl hE) rfl (Nat.le_of_ble_eq_true rfl) ⟨⟨Nat.le_of_ble_eq_true rfl, Nat.le_of_ble_eq_true rfl⟩, Nat.le_of_ble_eq_true rfl, Nat.le_of_ble_eq_true rfl⟩ (zg_retI (fun v3 h3 hE => ?_)) (zg_xok ok tab fin ⟨Nat.le_of_ble_eq_true rfl, Nat.le_of_ble_eq_true rfl⟩)
    refine zg_cost (kc2 := 0) (ks2 := 0) ⟨rfl, rfl⟩ ?_
    refine zg_goto (tgt := 18) ok dX2_balanceBits_14 (by decide) ?_
    exact zg_iret ok fin dX2_balanceBits_18 ⟨Nat.le_of_ble_eq_true rfl, Nat.le_of_ble_eq_true rfl⟩ hE
set_option maxHeartbeats 8000000 in
theorem gt_f_X2_meanX_B22 {Xc : zw_X} {Q : UInt64 → zw_H → Prop} {X : String → Nat → zw_H → Prop} (hl : (zw_l Xc).stackTraces = false) (ok : zw_ok Xc cX2_meanX "MultipoleLineModel" yX2_meanX.name 3) (tab : zw_tab Xc []) (fin : zw_fin Xc (Option.some Jvm.ClassFile.FieldType.double) (zq_D Q) X 0 0) (hRm : zw_rm Xc = rm_X2_meanX) {kc ks : Nat} (hb : kc ≤ 0 ∧ ks ≤ 0) {R : Int32 → Int32 → zw_H → Prop} {l0 : Option Nat} (hR : ∀ (l1 : Int32) (l2 : Int32) (h : zw_H), R l1 l2 h → zw_G Xc kc ks 3 h 22 [(0, va_rf l0), (1, .int l1), (2, .int l2)] []) {k47 : Int32 → zw_H → Prop} (hk47 : ∀ (l1 : Int32) (h : zw_H), k47 l1 h → zw_G Xc kc ks 3 h 47 [(0, va_rf l0), (1, .int l1)] [])  {l1 : Int32} {l2 : Int32} {h : zw_H} (hE : f_X2_meanX_B22 (zw_Zf Xc).2.2.2 Q X k47 l0 R l1 l2 h) : zw_G Xc kc ks 3 h 22 [(0, va_rf l0), (1, .int l1), (2, .int l2)] [] := by
  unfold f_X2_meanX_B22 at hE
  refine zg_iload_n ok dX2_meanX_22 rfl 2 rfl ?_
  refine zg_aload_n ok dX2_meanX_23 rfl 0 rfl ?_
  refine zg_getA ok lf_X2_9 dX2_meanX_24 hE (fun v4 hE => ?_)
  refine zg_iconst (v := 0) ok dX2_meanX_27 (by decide) ?_
  refine zg_iald ok dX2_meanX_28 hE (fun v5 hE => ?_)
  refine zg_icmp_ge (tgt := 47) ok dX2_meanX_29 (by decide) hE (fun hE => ?_) (fun hE => ?_)
  · refine zg_sub (L' := [(0, va_rf l0), (1, .int l1)]) [0, 1] rfl ?_
    exact hk47 _ _ hE
  · refine zg_iload_n ok dX2_meanX_32 rfl 1 rfl ?_
    refine zg_aload_n ok dX2_meanX_33 rfl 0 rfl ?_
    refine zg_iload_n ok dX2_meanX_34 rfl 2 rfl ?_
    refine zg_iconst (v := 0) ok dX2_meanX_35 (by decide) ?_
    refine zg_callV (vs := [zI l2, zI 0]) (rest := [.int l1]) (rm := rm_X2_of) ok hRm lk_X2_163 dX2_meanX_36 hE (fun hE => mt_X2_of hl hE) rfl (Nat.le_of_ble_eq_true rfl) ⟨⟨Nat.le_of_ble_eq_true rfl, Nat.le_of_ble_eq_true rfl⟩, (by show kc + 0 ≤ 0; omega), (by show ks + 0 ≤ 0; omega)⟩ (zg_retI (fun v6 h2 hE => ?_)) (zg_xok ok tab fin ⟨(by show kc + 0 ≤ 0; omega), (by show ks + 0 ≤ 0; omega)⟩)
    refine zg_cost (kc2 := kc) (ks2 := ks) ⟨(by show kc + 0 = kc; omega), (by show ks + 0 = ks; omega)⟩ ?_
    refine zg_iadd ok dX2_meanX_39 ?_
    refine zg_letI hE (fun v7 hE => ?_)
    refine zg_istore_nR (L' := [(1, .int v7), (0, va_rf l0), (2, .int l2)]) ok dX2_meanX_40 rfl (by decide) 0 rfl rfl rfl ?_
    refine zg_iincL (k := 2) (L' := fun v8 => [(2, .int v8), (1, .int v7), (0, va_rf l0)]) ok dX2_meanX_41 (by decide +kernel) hE rfl (by decide) (fun _ => rfl) (fun v8 hE => ?_)
    refine zg_goto (tgt := 22) ok dX2_meanX_44 (by decide) ?_
    refine zg_sub (L' := [(0, va_rf l0), (1, .int v7), (2, .int v8)]) [2, 1, 0] rfl ?_
    exact hR _ _ _ hE
theorem gt_f_X2_meanX_L22 {Xc : zw_X} {Q : UInt64 → zw_H → Prop} {X : String → Nat → zw_H → Prop} (hl : (zw_l Xc).stackTraces = false) (ok : zw_ok Xc cX2_meanX "MultipoleLineModel" yX2_meanX.name 3) (tab : zw_tab Xc []) (fin : zw_fin Xc (Option.some Jvm.ClassFile.FieldType.double) (zq_D Q) X 0 0) (hRm : zw_rm Xc = rm_X2_meanX) {kc ks : Nat} (hb : kc ≤ 0 ∧ ks ≤ 0) {l0 : Option Nat} {k47 : Int32 → zw_H → Prop} (hk47 : ∀ (l1 : Int32) (h : zw_H), k47 l1 h → zw_G Xc kc ks 3 h 47 [(0, va_rf l0), (1, .int l1)] [])  : ∀ (n9 : Nat) (l1 : Int32) (l2 : Int32) (h : zw_H), zl3 (f_X2_meanX_B22 (zw_Zf Xc).2.2.2 Q X k47 l0) n9 l1 l2 h → zw_G Xc kc ks 3 h 22 [(0, va_rf l0), (1, .int l1), (2, .int l2)] [] := by
  intro n9
  induction n9 with
  | zero => intro l1 l2 h hE; exact hE.elim
  | succ n9 ih => intro l1 l2 h hE; exact gt_f_X2_meanX_B22 hl ok tab fin hRm hb ih hk47 hE
set_option maxHeartbeats 8000000 in
theorem mt_X2_meanX {l : Launch} (hl : l.stackTraces = false) {Z : zw_Z} {a0 : Option Nat} {h : zw_H} {Q : UInt64 → zw_H → Prop} {X : String → Nat → zw_H → Prop} (hE : f_X2_meanX Z.2.2.2 a0 h Q X) : zw_Met l Z yX2_meanX (ws_ yX2_meanX cX2_meanX 3 (Option.some Jvm.ClassFile.FieldType.double)) rm_X2_meanX [zA a0] h (zq_D Q) X := by
  refine zg_start (own := "MultipoleLineModel") (by decide +kernel) rfl (Nat.le_of_ble_eq_true rfl) hl (fun Xc ok tab fin hRm hXl hXZ => ?_)
  subst hXl
  subst hXZ
  unfold f_X2_meanX at hE
  refine zg_aload_n ok dX2_meanX_0 rfl 0 rfl ?_
  refine zg_callV (vs := []) (rest := []) (rm := rm_X2_mayAsk) ok hRm lk_X2_229 dX2_meanX_1 hE (fun hE => mt_X2_mayAsk hl hE) rfl (Nat.le_of_ble_eq_true rfl) ⟨⟨Nat.le_of_ble_eq_true rfl, Nat.le_of_ble_eq_true rfl⟩, Nat.le_of_ble_eq_true rfl, Nat.le_of_ble_eq_true rfl⟩ (zg_retI (fun v1 h1 hE => ?_)) (zg_xok ok tab fin ⟨Nat.le_of_ble_eq_true rfl, Nat.le_of_ble_eq_true rfl⟩)
  refine zg_cost (kc2 := 0) (ks2 := 0) ⟨rfl, rfl⟩ ?_
  refine zg_if_eq (tgt := 16) ok dX2_meanX_4 (by decide) hE (fun hE => ?_) (fun hE => ?_)
  · refine zg_dconst0 ok dX2_meanX_16 ?_
    exact zg_dret ok fin dX2_meanX_17 ⟨Nat.le_of_ble_eq_true rfl, Nat.le_of_ble_eq_true rfl⟩ hE
  · refine zg_aload_n ok dX2_meanX_7 rfl 0 rfl ?_
    refine zg_getA ok lf_X2_9 dX2_meanX_8 hE (fun v2 hE => ?_)
    refine zg_iconst (v := 0) ok dX2_meanX_11 (by decide) ?_
    refine zg_iald ok dX2_meanX_12 hE (fun v3 hE => ?_)
    refine zg_if_ne (tgt := 18) ok dX2_meanX_13 (by decide) hE (fun hE => ?_) (fun hE => ?_)
    · refine zg_iconst (v := 0) ok dX2_meanX_18 (by decide) ?_
      refine zg_istore_nR (L' := [(1, .int 0), (0, va_rf a0)]) ok dX2_meanX_19 rfl (by decide) 0 rfl rfl rfl ?_
      refine zg_iconst (v := 0) ok dX2_meanX_20 (by decide) ?_
      refine zg_istore_n (L' := [(2, .int 0), (1, .int 0), (0, va_rf a0)]) ok dX2_meanX_21 rfl (by decide) rfl ?_
      refine zg_sub (L' := [(0, va_rf a0), (1, .int 0), (2, .int 0)]) [2, 1, 0] rfl ?_
      refine gt_f_X2_meanX_L22 hl ok tab fin hRm ⟨Nat.le_of_ble_eq_true rfl, Nat.le_of_ble_eq_true rfl⟩ ?_ _ _ _ _ hE
      · intro v9 h3 hE
        refine zg_iload_n ok dX2_meanX_47 rfl 1 rfl ?_
        refine zg_i2d ok dX2_meanX_48 ?_
        refine zg_aload_n ok dX2_meanX_49 rfl 0 rfl ?_
        refine zg_getA ok lf_X2_9 dX2_meanX_50 hE (fun v10 hE => ?_)
        refine zg_iconst (v := 0) ok dX2_meanX_53 (by decide) ?_
        refine zg_iald ok dX2_meanX_54 hE (fun v11 hE => ?_)
        refine zg_i2d ok dX2_meanX_55 ?_
        refine zg_ddivE ok dX2_meanX_56 hE (fun hE => ?_)
        refine zg_letD hE (fun v12 hE => ?_)
        exact zg_dret ok fin dX2_meanX_57 ⟨Nat.le_of_ble_eq_true rfl, Nat.le_of_ble_eq_true rfl⟩ hE
    · refine zg_dconst0 ok dX2_meanX_16 ?_
      exact zg_dret ok fin dX2_meanX_17 ⟨Nat.le_of_ble_eq_true rfl, Nat.le_of_ble_eq_true rfl⟩ hE
set_option maxHeartbeats 8000000 in
theorem mt_X2_writesByte {l : Launch} (hl : l.stackTraces = false) {Z : zw_Z} {a0 : Option Nat} {a1 : Int32} {h : zw_H} {Q : zw_H → Prop} {X : String → Nat → zw_H → Prop} (hE : f_X2_writesByte Z.2.2.2 a0 a1 h Q X) : zw_Met l Z yX2_writesByte (ws_ yX2_writesByte cX2_writesByte 2 (Option.none : Option Jvm.ClassFile.FieldType)) rm_X2_writesByte [zA a0, zI a1] h (zq_V Q) X := by
  refine zg_start (own := "MultipoleLineModel") (by decide +kernel) rfl (Nat.le_of_ble_eq_true rfl) hl (fun Xc ok tab fin hRm hXl hXZ => ?_)
  subst hXl
  subst hXZ
  unfold f_X2_writesByte at hE
  refine zg_aload_n ok dX2_writesByte_0 rfl 0 rfl ?_
  refine zg_getA ok lf_X2_54 dX2_writesByte_1 hE (fun v1 hE => ?_)
  refine zg_aload_n ok dX2_writesByte_4 rfl 0 rfl ?_
  refine zg_getI ok lf_X2_382 dX2_writesByte_5 hE (fun v2 hE => ?_)
  refine zg_iload_n ok dX2_writesByte_8 rfl 1 rfl ?_
  refine zg_i2b ok dX2_writesByte_9 ?_
  refine zg_bast ok dX2_writesByte_10 hE (fun h1 hE => ?_)
  refine zg_aload_n ok dX2_writesByte_11 rfl 0 rfl ?_
  refine zg_dup ok dX2_writesByte_12 (zw_rfc _) ?_
  refine zg_getI ok lf_X2_382 dX2_writesByte_13 hE (fun v3 hE => ?_)
  refine zg_iconst (v := 1) ok dX2_writesByte_16 (by decide) ?_
  refine zg_iadd ok dX2_writesByte_17 ?_
  refine zg_put (ty := .int) ok lf_X2_382 (Or.inl rfl) (by decide) (by decide +kernel) rfl rfl dX2_writesByte_18 hE (fun h2 hE => ?_)
  exact zg_vret ok fin dX2_writesByte_21 ⟨Nat.le_of_ble_eq_true rfl, Nat.le_of_ble_eq_true rfl⟩ hE
set_option maxHeartbeats 8000000 in
theorem gt_f_X2_writeLeaves_J61 {Xc : zw_X} {Q : Int32 → zw_H → Prop} {X : String → Nat → zw_H → Prop} (hl : (zw_l Xc).stackTraces = false) (ok : zw_ok Xc cX2_writeLeaves "MultipoleLineModel" yX2_writeLeaves.name 3) (tab : zw_tab Xc []) (fin : zw_fin Xc (Option.some Jvm.ClassFile.FieldType.int) (zq_I Q) X 0 0) (hRm : zw_rm Xc = rm_X2_writeLeaves) {kc ks : Nat} (hb : kc ≤ 0 ∧ ks ≤ 0) {R : Int32 → zw_H → Prop} {l0 : Option Nat} (hR : ∀ (l1 : Int32) (h : zw_H), R l1 h → zw_G Xc kc ks 3 h 16 [(0, va_rf l0), (1, .int l1)] []) {k70 : zw_H → Prop} (hk70 : ∀  (h : zw_H), k70  h → zw_G Xc kc ks 3 h 70 [(0, va_rf l0)] [])  {l1 : Int32} {s0 : Int32} {s1 : Option Nat} {h : zw_H} (hE : f_X2_writeLeaves_J61 (zw_Zf Xc).2.2.2 Q X R k70 l0 l1 s0 s1 h) : zw_G Xc kc ks 3 h 61 [(0, va_rf l0), (1, .int l1)] [.int s0, va_rf s1] := by
  unfold f_X2_writeLeaves_J61 at hE
  refine zg_callV (vs := [zI s0]) (rest := []) (rm := rm_X2_writesByte) ok hRm lk_X2_385 dX2_writeLeaves_61 hE (fun hE => mt_X2_writesByte hl hE) rfl (Nat.le_of_ble_eq_true rfl) ⟨⟨Nat.le_of_ble_eq_true rfl, Nat.le_of_ble_eq_true rfl⟩, (by show kc + 0 ≤ 0; omega), (by show ks + 0 ≤ 0; omega)⟩ (zg_retV (fun h4 hE => ?_)) (zg_xok ok tab fin ⟨(by show kc + 0 ≤ 0; omega), (by show ks + 0 ≤ 0; omega)⟩)
  refine zg_cost (kc2 := kc) (ks2 := ks) ⟨(by show kc + 0 = kc; omega), (by show ks + 0 = ks; omega)⟩ ?_
  refine zg_iincLR (k := 1) (L' := fun v7 => [(1, .int v7), (0, va_rf l0)]) ok dX2_writeLeaves_64 (by decide +kernel) hE rfl (by decide) rfl (k9 := 0) rfl (fun _ => rfl) (fun v7 hE => ?_)
  refine zg_goto (tgt := 16) ok dX2_writeLeaves_67 (by decide) ?_
  refine zg_sub (L' := [(0, va_rf l0), (1, .int v7)]) [1, 0] rfl ?_
  exact hR _ _ hE
set_option maxHeartbeats 8000000 in
theorem gt_f_X2_writeLeaves_B16 {Xc : zw_X} {Q : Int32 → zw_H → Prop} {X : String → Nat → zw_H → Prop} (hl : (zw_l Xc).stackTraces = false) (ok : zw_ok Xc cX2_writeLeaves "MultipoleLineModel" yX2_writeLeaves.name 3) (tab : zw_tab Xc []) (fin : zw_fin Xc (Option.some Jvm.ClassFile.FieldType.int) (zq_I Q) X 0 0) (hRm : zw_rm Xc = rm_X2_writeLeaves) {kc ks : Nat} (hb : kc ≤ 0 ∧ ks ≤ 0) {R : Int32 → zw_H → Prop} {l0 : Option Nat} (hR : ∀ (l1 : Int32) (h : zw_H), R l1 h → zw_G Xc kc ks 3 h 16 [(0, va_rf l0), (1, .int l1)] []) {k70 : zw_H → Prop} (hk70 : ∀  (h : zw_H), k70  h → zw_G Xc kc ks 3 h 70 [(0, va_rf l0)] [])  {l1 : Int32} {h : zw_H} (hE : f_X2_writeLeaves_B16 (zw_Zf Xc).2.2.2 Q X k70 l0 R l1 h) : zw_G Xc kc ks 3 h 16 [(0, va_rf l0), (1, .int l1)] [] := by
  unfold f_X2_writeLeaves_B16 at hE
  refine zg_iload_n ok dX2_writeLeaves_16 rfl 1 rfl ?_
  refine zg_iconst (v := 1) ok dX2_writeLeaves_17 (by decide) ?_
  refine zg_aload_n ok dX2_writeLeaves_18 rfl 0 rfl ?_
  refine zg_getA ok lf_X2_9 dX2_writeLeaves_19 hE (fun v2 hE => ?_)
  refine zg_iconst (v := 3) ok dX2_writeLeaves_22 (by decide) ?_
  refine zg_iald ok dX2_writeLeaves_23 hE (fun v3 hE => ?_)
  refine zg_ishl ok dX2_writeLeaves_24 ?_
  refine zg_icmp_ge (tgt := 70) ok dX2_writeLeaves_25 (by decide) hE (fun hE => ?_) (fun hE => ?_)
  · refine zg_sub (L' := [(0, va_rf l0)]) [0] rfl ?_
    exact hk70 _ hE
  · refine zg_aload_n ok dX2_writeLeaves_28 rfl 0 rfl ?_
    refine zg_aload_n ok dX2_writeLeaves_29 rfl 0 rfl ?_
    refine zg_getA ok lf_X2_9 dX2_writeLeaves_30 hE (fun v4 hE => ?_)
    refine zg_iconst (v := 3) ok dX2_writeLeaves_33 (by decide) ?_
    refine zg_iald ok dX2_writeLeaves_34 hE (fun v5 hE => ?_)
    refine zg_iload_n ok dX2_writeLeaves_35 rfl 1 rfl ?_
    refine zg_callV (vs := [zI v5, zI l1]) (rest := []) (rm := rm_X2_bodiesIn) ok hRm lk_X2_190 dX2_writeLeaves_36 hE (fun hE => mt_X2_bodiesIn hl hE) rfl (Nat.le_of_ble_eq_true rfl) ⟨⟨Nat.le_of_ble_eq_true rfl, Nat.le_of_ble_eq_true rfl⟩, (by show kc + 0 ≤ 0; omega), (by show ks + 0 ≤ 0; omega)⟩ (zg_retI (fun v6 h3 hE => ?_)) (zg_xok ok tab fin ⟨(by show kc + 0 ≤ 0; omega), (by show ks + 0 ≤ 0; omega)⟩)
    refine zg_cost (kc2 := kc) (ks2 := ks) ⟨(by show kc + 0 = kc; omega), (by show ks + 0 = ks; omega)⟩ ?_
    refine zg_istore_n (L' := [(2, .int v6), (0, va_rf l0), (1, .int l1)]) ok dX2_writeLeaves_39 rfl (by decide) rfl ?_
    refine zg_aload_n ok dX2_writeLeaves_40 rfl 1 rfl ?_
    refine zg_iload_n ok dX2_writeLeaves_41 rfl 0 rfl ?_
    refine zg_bipush (v := 10) ok dX2_writeLeaves_42 (by decide) ?_
    refine zg_icmp_ge (tgt := 54) ok dX2_writeLeaves_44 (by decide) hE (fun hE => ?_) (fun hE => ?_)
    · refine zg_bipush (v := 97) ok dX2_writeLeaves_54 (by decide) ?_
      refine zg_iload_n ok dX2_writeLeaves_56 rfl 0 rfl ?_
      refine zg_iadd ok dX2_writeLeaves_57 ?_
      refine zg_bipush (v := 10) ok dX2_writeLeaves_58 (by decide) ?_
      refine zg_isub ok dX2_writeLeaves_60 ?_
      refine zg_sub (L' := [(0, va_rf l0), (1, .int l1)]) [1, 2] rfl ?_
      exact gt_f_X2_writeLeaves_J61 hl ok tab fin hRm hb hR hk70 hE
    · refine zg_bipush (v := 48) ok dX2_writeLeaves_47 (by decide) ?_
      refine zg_iload_n ok dX2_writeLeaves_49 rfl 0 rfl ?_
      refine zg_iadd ok dX2_writeLeaves_50 ?_
      refine zg_goto (tgt := 61) ok dX2_writeLeaves_51 (by decide) ?_
      refine zg_sub (L' := [(0, va_rf l0), (1, .int l1)]) [1, 2] rfl ?_
      exact gt_f_X2_writeLeaves_J61 hl ok tab fin hRm hb hR hk70 hE
theorem gt_f_X2_writeLeaves_L16 {Xc : zw_X} {Q : Int32 → zw_H → Prop} {X : String → Nat → zw_H → Prop} (hl : (zw_l Xc).stackTraces = false) (ok : zw_ok Xc cX2_writeLeaves "MultipoleLineModel" yX2_writeLeaves.name 3) (tab : zw_tab Xc []) (fin : zw_fin Xc (Option.some Jvm.ClassFile.FieldType.int) (zq_I Q) X 0 0) (hRm : zw_rm Xc = rm_X2_writeLeaves) {kc ks : Nat} (hb : kc ≤ 0 ∧ ks ≤ 0) {l0 : Option Nat} {k70 : zw_H → Prop} (hk70 : ∀  (h : zw_H), k70  h → zw_G Xc kc ks 3 h 70 [(0, va_rf l0)] [])  : ∀ (n9 : Nat) (l1 : Int32) (h : zw_H), zl2 (f_X2_writeLeaves_B16 (zw_Zf Xc).2.2.2 Q X k70 l0) n9 l1 h → zw_G Xc kc ks 3 h 16 [(0, va_rf l0), (1, .int l1)] [] := by
  intro n9
  induction n9 with
  | zero => intro l1 h hE; exact hE.elim
  | succ n9 ih => intro l1 h hE; exact gt_f_X2_writeLeaves_B16 hl ok tab fin hRm hb ih hk70 hE
set_option maxHeartbeats 8000000 in
theorem mt_X2_writeLeaves {l : Launch} (hl : l.stackTraces = false) {Z : zw_Z} {a0 : Option Nat} {h : zw_H} {Q : Int32 → zw_H → Prop} {X : String → Nat → zw_H → Prop} (hE : f_X2_writeLeaves Z.2.2.2 a0 h Q X) : zw_Met l Z yX2_writeLeaves (ws_ yX2_writeLeaves cX2_writeLeaves 3 (Option.some Jvm.ClassFile.FieldType.int)) rm_X2_writeLeaves [zA a0] h (zq_I Q) X := by
  refine zg_start (own := "MultipoleLineModel") (by decide +kernel) rfl (Nat.le_of_ble_eq_true rfl) hl (fun Xc ok tab fin hRm hXl hXZ => ?_)
  subst hXl
  subst hXZ
  unfold f_X2_writeLeaves at hE
  refine zg_aload_n ok dX2_writeLeaves_0 rfl 0 rfl ?_
  refine zg_callV (vs := []) (rest := []) (rm := rm_X2_mayAsk) ok hRm lk_X2_229 dX2_writeLeaves_1 hE (fun hE => mt_X2_mayAsk hl hE) rfl (Nat.le_of_ble_eq_true rfl) ⟨⟨Nat.le_of_ble_eq_true rfl, Nat.le_of_ble_eq_true rfl⟩, Nat.le_of_ble_eq_true rfl, Nat.le_of_ble_eq_true rfl⟩ (zg_retI (fun v1 h1 hE => ?_)) (zg_xok ok tab fin ⟨Nat.le_of_ble_eq_true rfl, Nat.le_of_ble_eq_true rfl⟩)
  refine zg_cost (kc2 := 0) (ks2 := 0) ⟨rfl, rfl⟩ ?_
  refine zg_if_ne (tgt := 9) ok dX2_writeLeaves_4 (by decide) hE (fun hE => ?_) (fun hE => ?_)
  · refine zg_aload_n ok dX2_writeLeaves_9 rfl 0 rfl ?_
    refine zg_iconst (v := 0) ok dX2_writeLeaves_10 (by decide) ?_
    refine zg_put (ty := .int) ok lf_X2_382 (Or.inl rfl) (by decide) (by decide +kernel) rfl rfl dX2_writeLeaves_11 hE (fun h2 hE => ?_)
    refine zg_iconst (v := 0) ok dX2_writeLeaves_14 (by decide) ?_
    refine zg_istore_nR (L' := [(1, .int 0), (0, va_rf a0)]) ok dX2_writeLeaves_15 rfl (by decide) 0 rfl rfl rfl ?_
    refine zg_sub (L' := [(0, va_rf a0), (1, .int 0)]) [1, 0] rfl ?_
    refine gt_f_X2_writeLeaves_L16 hl ok tab fin hRm ⟨Nat.le_of_ble_eq_true rfl, Nat.le_of_ble_eq_true rfl⟩ ?_ _ _ _ hE
    · intro h5 hE
      refine zg_aload_n ok dX2_writeLeaves_70 rfl 0 rfl ?_
      refine zg_getI ok lf_X2_382 dX2_writeLeaves_71 hE (fun v8 hE => ?_)
      exact zg_iret ok fin dX2_writeLeaves_74 ⟨Nat.le_of_ble_eq_true rfl, Nat.le_of_ble_eq_true rfl⟩ hE
  · refine zg_iconst (v := 0) ok dX2_writeLeaves_7 (by decide) ?_
    exact zg_iret ok fin dX2_writeLeaves_8 ⟨Nat.le_of_ble_eq_true rfl, Nat.le_of_ble_eq_true rfl⟩ hE
set_option maxHeartbeats 8000000 in
theorem gt_f_X2_writesNumber_B2 {Xc : zw_X} {Q : zw_H → Prop} {X : String → Nat → zw_H → Prop} (hl : (zw_l Xc).stackTraces = false) (ok : zw_ok Xc cX2_writesNumber "MultipoleLineModel" yX2_writesNumber.name 4) (tab : zw_tab Xc []) (fin : zw_fin Xc (Option.none : Option Jvm.ClassFile.FieldType) (zq_V Q) X 0 0) (hRm : zw_rm Xc = rm_X2_writesNumber) {kc ks : Nat} (hb : kc ≤ 0 ∧ ks ≤ 0) {R : Int32 → zw_H → Prop} {l0 : Option Nat} {l1 : Int32} (hR : ∀ (l2 : Int32) (h : zw_H), R l2 h → zw_G Xc kc ks 4 h 2 [(0, va_rf l0), (1, .int l1), (2, .int l2)] []) {k18 : Int32 → zw_H → Prop} (hk18 : ∀ (l2 : Int32) (h : zw_H), k18 l2 h → zw_G Xc kc ks 4 h 18 [(0, va_rf l0), (1, .int l1), (2, .int l2)] [])  {l2 : Int32} {h : zw_H} (hE : f_X2_writesNumber_B2 (zw_Zf Xc).2.2.2 Q X k18 l0 l1 R l2 h) : zw_G Xc kc ks 4 h 2 [(0, va_rf l0), (1, .int l1), (2, .int l2)] [] := by
  unfold f_X2_writesNumber_B2 at hE
  refine zg_iload_n ok dX2_writesNumber_2 rfl 1 rfl ?_
  refine zg_iload_n ok dX2_writesNumber_3 rfl 2 rfl ?_
  refine zg_idivE ok dX2_writesNumber_4 hE (fun hE => ?_)
  refine zg_bipush (v := 9) ok dX2_writesNumber_5 (by decide) ?_
  refine zg_icmp_le (tgt := 18) ok dX2_writesNumber_7 (by decide) hE (fun hE => ?_) (fun hE => ?_)
  · exact hk18 _ _ hE
  · refine zg_iload_n ok dX2_writesNumber_10 rfl 2 rfl ?_
    refine zg_bipush (v := 10) ok dX2_writesNumber_11 (by decide) ?_
    refine zg_imul ok dX2_writesNumber_13 ?_
    refine zg_letI hE (fun v1 hE => ?_)
    refine zg_istore_n (L' := [(2, .int v1), (0, va_rf l0), (1, .int l1)]) ok dX2_writesNumber_14 rfl (by decide) rfl ?_
    refine zg_goto (tgt := 2) ok dX2_writesNumber_15 (by decide) ?_
    refine zg_sub (L' := [(0, va_rf l0), (1, .int l1), (2, .int v1)]) [1, 2, 0] rfl ?_
    exact hR _ _ hE
theorem gt_f_X2_writesNumber_L2 {Xc : zw_X} {Q : zw_H → Prop} {X : String → Nat → zw_H → Prop} (hl : (zw_l Xc).stackTraces = false) (ok : zw_ok Xc cX2_writesNumber "MultipoleLineModel" yX2_writesNumber.name 4) (tab : zw_tab Xc []) (fin : zw_fin Xc (Option.none : Option Jvm.ClassFile.FieldType) (zq_V Q) X 0 0) (hRm : zw_rm Xc = rm_X2_writesNumber) {kc ks : Nat} (hb : kc ≤ 0 ∧ ks ≤ 0) {l0 : Option Nat} {l1 : Int32} {k18 : Int32 → zw_H → Prop} (hk18 : ∀ (l2 : Int32) (h : zw_H), k18 l2 h → zw_G Xc kc ks 4 h 18 [(0, va_rf l0), (1, .int l1), (2, .int l2)] [])  : ∀ (n9 : Nat) (l2 : Int32) (h : zw_H), zl2 (f_X2_writesNumber_B2 (zw_Zf Xc).2.2.2 Q X k18 l0 l1) n9 l2 h → zw_G Xc kc ks 4 h 2 [(0, va_rf l0), (1, .int l1), (2, .int l2)] [] := by
  intro n9
  induction n9 with
  | zero => intro l2 h hE; exact hE.elim
  | succ n9 ih => intro l2 h hE; exact gt_f_X2_writesNumber_B2 hl ok tab fin hRm hb ih hk18 hE
set_option maxHeartbeats 8000000 in
theorem gt_f_X2_writesNumber_B20 {Xc : zw_X} {Q : zw_H → Prop} {X : String → Nat → zw_H → Prop} (hl : (zw_l Xc).stackTraces = false) (ok : zw_ok Xc cX2_writesNumber "MultipoleLineModel" yX2_writesNumber.name 4) (tab : zw_tab Xc []) (fin : zw_fin Xc (Option.none : Option Jvm.ClassFile.FieldType) (zq_V Q) X 0 0) (hRm : zw_rm Xc = rm_X2_writesNumber) {kc ks : Nat} (hb : kc ≤ 0 ∧ ks ≤ 0) {R : Int32 → zw_H → Prop} {l0 : Option Nat} {l1 : Int32} (hR : ∀ (l3 : Int32) (h : zw_H), R l3 h → zw_G Xc kc ks 4 h 20 [(0, va_rf l0), (1, .int l1), (3, .int l3)] []) {k45 : zw_H → Prop} (hk45 : ∀  (h : zw_H), k45  h → zw_G Xc kc ks 4 h 45 [] [])  {l3 : Int32} {h : zw_H} (hE : f_X2_writesNumber_B20 (zw_Zf Xc).2.2.2 Q X k45 l0 l1 R l3 h) : zw_G Xc kc ks 4 h 20 [(0, va_rf l0), (1, .int l1), (3, .int l3)] [] := by
  unfold f_X2_writesNumber_B20 at hE
  refine zg_iload_n ok dX2_writesNumber_20 rfl 2 rfl ?_
  refine zg_if_le (tgt := 45) ok dX2_writesNumber_21 (by decide) hE (fun hE => ?_) (fun hE => ?_)
  · refine zg_sub (L' := []) [] rfl ?_
    exact hk45 _ hE
  · refine zg_aload_n ok dX2_writesNumber_24 rfl 0 rfl ?_
    refine zg_bipush (v := 48) ok dX2_writesNumber_25 (by decide) ?_
    refine zg_iload_n ok dX2_writesNumber_27 rfl 1 rfl ?_
    refine zg_iload_n ok dX2_writesNumber_28 rfl 2 rfl ?_
    refine zg_idivE ok dX2_writesNumber_29 hE (fun hE => ?_)
    refine zg_bipush (v := 10) ok dX2_writesNumber_30 (by decide) ?_
    refine zg_iremE ok dX2_writesNumber_32 hE (fun hE => ?_)
    refine zg_iadd ok dX2_writesNumber_33 ?_
    refine zg_callV (vs := [zI ((48 : Int32) + ((l1 / l3) - (l1 / l3) / 10 * 10))]) (rest := []) (rm := rm_X2_writesByte) ok hRm lk_X2_385 dX2_writesNumber_34 hE (fun hE => mt_X2_writesByte hl hE) rfl (Nat.le_of_ble_eq_true rfl) ⟨⟨Nat.le_of_ble_eq_true rfl, Nat.le_of_ble_eq_true rfl⟩, (by show kc + 0 ≤ 0; omega), (by show ks + 0 ≤ 0; omega)⟩ (zg_retV (fun h2 hE => ?_)) (zg_xok ok tab fin ⟨(by show kc + 0 ≤ 0; omega), (by show ks + 0 ≤ 0; omega)⟩)
    refine zg_cost (kc2 := kc) (ks2 := ks) ⟨(by show kc + 0 = kc; omega), (by show ks + 0 = ks; omega)⟩ ?_
    refine zg_iload_n ok dX2_writesNumber_37 rfl 2 rfl ?_
    refine zg_bipush (v := 10) ok dX2_writesNumber_38 (by decide) ?_
    refine zg_idivE ok dX2_writesNumber_40 hE (fun hE => ?_)
    refine zg_letI hE (fun v3 hE => ?_)
    refine zg_istore_n (L' := [(3, .int v3), (0, va_rf l0), (1, .int l1)]) ok dX2_writesNumber_41 rfl (by decide) rfl ?_
    refine zg_goto (tgt := 20) ok dX2_writesNumber_42 (by decide) ?_
    refine zg_sub (L' := [(0, va_rf l0), (1, .int l1), (3, .int v3)]) [1, 2, 0] rfl ?_
    exact hR _ _ hE
theorem gt_f_X2_writesNumber_L20 {Xc : zw_X} {Q : zw_H → Prop} {X : String → Nat → zw_H → Prop} (hl : (zw_l Xc).stackTraces = false) (ok : zw_ok Xc cX2_writesNumber "MultipoleLineModel" yX2_writesNumber.name 4) (tab : zw_tab Xc []) (fin : zw_fin Xc (Option.none : Option Jvm.ClassFile.FieldType) (zq_V Q) X 0 0) (hRm : zw_rm Xc = rm_X2_writesNumber) {kc ks : Nat} (hb : kc ≤ 0 ∧ ks ≤ 0) {l0 : Option Nat} {l1 : Int32} {k45 : zw_H → Prop} (hk45 : ∀  (h : zw_H), k45  h → zw_G Xc kc ks 4 h 45 [] [])  : ∀ (n9 : Nat) (l3 : Int32) (h : zw_H), zl2 (f_X2_writesNumber_B20 (zw_Zf Xc).2.2.2 Q X k45 l0 l1) n9 l3 h → zw_G Xc kc ks 4 h 20 [(0, va_rf l0), (1, .int l1), (3, .int l3)] [] := by
  intro n9
  induction n9 with
  | zero => intro l3 h hE; exact hE.elim
  | succ n9 ih => intro l3 h hE; exact gt_f_X2_writesNumber_B20 hl ok tab fin hRm hb ih hk45 hE
set_option maxHeartbeats 8000000 in
theorem mt_X2_writesNumber {l : Launch} (hl : l.stackTraces = false) {Z : zw_Z} {a0 : Option Nat} {a1 : Int32} {h : zw_H} {Q : zw_H → Prop} {X : String → Nat → zw_H → Prop} (hE : f_X2_writesNumber Z.2.2.2 a0 a1 h Q X) : zw_Met l Z yX2_writesNumber (ws_ yX2_writesNumber cX2_writesNumber 4 (Option.none : Option Jvm.ClassFile.FieldType)) rm_X2_writesNumber [zA a0, zI a1] h (zq_V Q) X := by
  refine zg_start (own := "MultipoleLineModel") (by decide +kernel) rfl (Nat.le_of_ble_eq_true rfl) hl (fun Xc ok tab fin hRm hXl hXZ => ?_)
  subst hXl
  subst hXZ
  unfold f_X2_writesNumber at hE
  refine zg_iconst (v := 1) ok dX2_writesNumber_0 (by decide) ?_
  refine zg_istore_n (L' := [(2, .int 1), (0, va_rf a0), (1, .int a1)]) ok dX2_writesNumber_1 rfl (by decide) rfl ?_
  refine zg_sub (L' := [(0, va_rf a0), (1, .int a1), (2, .int 1)]) [1, 2, 0] rfl ?_
  refine gt_f_X2_writesNumber_L2 hl ok tab fin hRm ⟨Nat.le_of_ble_eq_true rfl, Nat.le_of_ble_eq_true rfl⟩ ?_ _ _ _ hE
  · intro v2 h1 hE
    refine zg_iload_n ok dX2_writesNumber_18 rfl 2 rfl ?_
    refine zg_istore_n (L' := [(3, .int v2), (0, va_rf a0), (1, .int a1), (2, .int v2)]) ok dX2_writesNumber_19 rfl (by decide) rfl ?_
    refine zg_sub (L' := [(0, va_rf a0), (1, .int a1), (3, .int v2)]) [1, 2, 0] rfl ?_
    refine gt_f_X2_writesNumber_L20 hl ok tab fin hRm ⟨Nat.le_of_ble_eq_true rfl, Nat.le_of_ble_eq_true rfl⟩ ?_ _ _ _ hE
    · intro h3 hE
      exact zg_vret ok fin dX2_writesNumber_45 ⟨Nat.le_of_ble_eq_true rfl, Nat.le_of_ble_eq_true rfl⟩ hE
set_option maxHeartbeats 8000000 in
theorem gt_f_X2_writesBody_J47 {Xc : zw_X} {Q : zw_H → Prop} {X : String → Nat → zw_H → Prop} (hl : (zw_l Xc).stackTraces = false) (ok : zw_ok Xc cX2_writesBody "MultipoleLineModel" yX2_writesBody.name 2) (tab : zw_tab Xc []) (fin : zw_fin Xc (Option.none : Option Jvm.ClassFile.FieldType) (zq_V Q) X 0 0) (hRm : zw_rm Xc = rm_X2_writesBody)  {l0 : Option Nat} {l1 : Int32}  {h : zw_H} (hE : f_X2_writesBody_J47 (zw_Zf Xc).2.2.2 Q X  l0 l1 h) : zw_G Xc 0 0 2 h 47 [(0, va_rf l0), (1, .int l1)] [] := by
  unfold f_X2_writesBody_J47 at hE
  refine zg_aload_n ok dX2_writesBody_47 rfl 0 rfl ?_
  refine zg_aload_n ok dX2_writesBody_48 rfl 0 rfl ?_
  refine zg_iload_n ok dX2_writesBody_49 rfl 1 rfl ?_
  refine zg_iconst (v := 1) ok dX2_writesBody_50 (by decide) ?_
  refine zg_callV (vs := [zI l1, zI 1]) (rest := [va_rf l0]) (rm := rm_X2_of) ok hRm lk_X2_163 dX2_writesBody_51 hE (fun hE => mt_X2_of hl hE) rfl (Nat.le_of_ble_eq_true rfl) ⟨⟨Nat.le_of_ble_eq_true rfl, Nat.le_of_ble_eq_true rfl⟩, Nat.le_of_ble_eq_true rfl, Nat.le_of_ble_eq_true rfl⟩ (zg_retI (fun v4 h6 hE => ?_)) (zg_xok ok tab fin ⟨Nat.le_of_ble_eq_true rfl, Nat.le_of_ble_eq_true rfl⟩)
  refine zg_cost (kc2 := 0) (ks2 := 0) ⟨rfl, rfl⟩ ?_
  refine zg_iconst (v := 0) ok dX2_writesBody_54 (by decide) ?_
  refine zg_callS (vs := [zI v4, zI 0]) (rest := [va_rf l0]) (rm := rm_X2_far) ok hRm lk_X2_187 dX2_writesBody_55 hE (fun hE => mt_X2_far hl hE) rfl (Nat.le_of_ble_eq_true rfl) ⟨⟨Nat.le_of_ble_eq_true rfl, Nat.le_of_ble_eq_true rfl⟩, Nat.le_of_ble_eq_true rfl, Nat.le_of_ble_eq_true rfl⟩ (zg_retI (fun v5 h7 hE => ?_)) (zg_xok ok tab fin ⟨Nat.le_of_ble_eq_true rfl, Nat.le_of_ble_eq_true rfl⟩)
  refine zg_cost (kc2 := 0) (ks2 := 0) ⟨rfl, rfl⟩ ?_
  refine zg_callV (vs := [zI v5]) (rest := []) (rm := rm_X2_writesNumber) ok hRm lk_X2_388 dX2_writesBody_58 hE (fun hE => mt_X2_writesNumber hl hE) rfl (Nat.le_of_ble_eq_true rfl) ⟨⟨Nat.le_of_ble_eq_true rfl, Nat.le_of_ble_eq_true rfl⟩, Nat.le_of_ble_eq_true rfl, Nat.le_of_ble_eq_true rfl⟩ (zg_retV (fun h8 hE => ?_)) (zg_xok ok tab fin ⟨Nat.le_of_ble_eq_true rfl, Nat.le_of_ble_eq_true rfl⟩)
  refine zg_cost (kc2 := 0) (ks2 := 0) ⟨rfl, rfl⟩ ?_
  exact zg_vret ok fin dX2_writesBody_61 ⟨Nat.le_of_ble_eq_true rfl, Nat.le_of_ble_eq_true rfl⟩ hE
set_option maxHeartbeats 8000000 in
theorem gt_f_X2_writesBody_J26 {Xc : zw_X} {Q : zw_H → Prop} {X : String → Nat → zw_H → Prop} (hl : (zw_l Xc).stackTraces = false) (ok : zw_ok Xc cX2_writesBody "MultipoleLineModel" yX2_writesBody.name 2) (tab : zw_tab Xc []) (fin : zw_fin Xc (Option.none : Option Jvm.ClassFile.FieldType) (zq_V Q) X 0 0) (hRm : zw_rm Xc = rm_X2_writesBody)  {l0 : Option Nat} {l1 : Int32}  {h : zw_H} (hE : f_X2_writesBody_J26 (zw_Zf Xc).2.2.2 Q X  l0 l1 h) : zw_G Xc 0 0 2 h 26 [(0, va_rf l0), (1, .int l1)] [] := by
  unfold f_X2_writesBody_J26 at hE
  refine zg_aload_n ok dX2_writesBody_26 rfl 0 rfl ?_
  refine zg_bipush (v := 58) ok dX2_writesBody_27 (by decide) ?_
  refine zg_callV (vs := [zI 58]) (rest := []) (rm := rm_X2_writesByte) ok hRm lk_X2_385 dX2_writesBody_29 hE (fun hE => mt_X2_writesByte hl hE) rfl (Nat.le_of_ble_eq_true rfl) ⟨⟨Nat.le_of_ble_eq_true rfl, Nat.le_of_ble_eq_true rfl⟩, Nat.le_of_ble_eq_true rfl, Nat.le_of_ble_eq_true rfl⟩ (zg_retV (fun h4 hE => ?_)) (zg_xok ok tab fin ⟨Nat.le_of_ble_eq_true rfl, Nat.le_of_ble_eq_true rfl⟩)
  refine zg_cost (kc2 := 0) (ks2 := 0) ⟨rfl, rfl⟩ ?_
  refine zg_aload_n ok dX2_writesBody_32 rfl 0 rfl ?_
  refine zg_iload_n ok dX2_writesBody_33 rfl 1 rfl ?_
  refine zg_iconst (v := 1) ok dX2_writesBody_34 (by decide) ?_
  refine zg_callV (vs := [zI l1, zI 1]) (rest := []) (rm := rm_X2_of) ok hRm lk_X2_163 dX2_writesBody_35 hE (fun hE => mt_X2_of hl hE) rfl (Nat.le_of_ble_eq_true rfl) ⟨⟨Nat.le_of_ble_eq_true rfl, Nat.le_of_ble_eq_true rfl⟩, Nat.le_of_ble_eq_true rfl, Nat.le_of_ble_eq_true rfl⟩ (zg_retI (fun v3 h5 hE => ?_)) (zg_xok ok tab fin ⟨Nat.le_of_ble_eq_true rfl, Nat.le_of_ble_eq_true rfl⟩)
  refine zg_cost (kc2 := 0) (ks2 := 0) ⟨rfl, rfl⟩ ?_
  refine zg_if_ge (tgt := 47) ok dX2_writesBody_38 (by decide) hE (fun hE => ?_) (fun hE => ?_)
  · exact gt_f_X2_writesBody_J47 hl ok tab fin hRm  hE
  · refine zg_aload_n ok dX2_writesBody_41 rfl 0 rfl ?_
    refine zg_bipush (v := 45) ok dX2_writesBody_42 (by decide) ?_
    refine zg_callV (vs := [zI 45]) (rest := []) (rm := rm_X2_writesByte) ok hRm lk_X2_385 dX2_writesBody_44 hE (fun hE => mt_X2_writesByte hl hE) rfl (Nat.le_of_ble_eq_true rfl) ⟨⟨Nat.le_of_ble_eq_true rfl, Nat.le_of_ble_eq_true rfl⟩, Nat.le_of_ble_eq_true rfl, Nat.le_of_ble_eq_true rfl⟩ (zg_retV (fun h9 hE => ?_)) (zg_xok ok tab fin ⟨Nat.le_of_ble_eq_true rfl, Nat.le_of_ble_eq_true rfl⟩)
    refine zg_cost (kc2 := 0) (ks2 := 0) ⟨rfl, rfl⟩ ?_
    exact gt_f_X2_writesBody_J47 hl ok tab fin hRm  hE
set_option maxHeartbeats 8000000 in
theorem mt_X2_writesBody {l : Launch} (hl : l.stackTraces = false) {Z : zw_Z} {a0 : Option Nat} {a1 : Int32} {h : zw_H} {Q : zw_H → Prop} {X : String → Nat → zw_H → Prop} (hE : f_X2_writesBody Z.2.2.2 a0 a1 h Q X) : zw_Met l Z yX2_writesBody (ws_ yX2_writesBody cX2_writesBody 2 (Option.none : Option Jvm.ClassFile.FieldType)) rm_X2_writesBody [zA a0, zI a1] h (zq_V Q) X := by
  refine zg_start (own := "MultipoleLineModel") (by decide +kernel) rfl (Nat.le_of_ble_eq_true rfl) hl (fun Xc ok tab fin hRm hXl hXZ => ?_)
  subst hXl
  subst hXZ
  unfold f_X2_writesBody at hE
  refine zg_aload_n ok dX2_writesBody_0 rfl 0 rfl ?_
  refine zg_aload_n ok dX2_writesBody_1 rfl 0 rfl ?_
  refine zg_iload_n ok dX2_writesBody_2 rfl 1 rfl ?_
  refine zg_iconst (v := 0) ok dX2_writesBody_3 (by decide) ?_
  refine zg_callV (vs := [zI a1, zI 0]) (rest := [va_rf a0]) (rm := rm_X2_of) ok hRm lk_X2_163 dX2_writesBody_4 hE (fun hE => mt_X2_of hl hE) rfl (Nat.le_of_ble_eq_true rfl) ⟨⟨Nat.le_of_ble_eq_true rfl, Nat.le_of_ble_eq_true rfl⟩, Nat.le_of_ble_eq_true rfl, Nat.le_of_ble_eq_true rfl⟩ (zg_retI (fun v1 h1 hE => ?_)) (zg_xok ok tab fin ⟨Nat.le_of_ble_eq_true rfl, Nat.le_of_ble_eq_true rfl⟩)
  refine zg_cost (kc2 := 0) (ks2 := 0) ⟨rfl, rfl⟩ ?_
  refine zg_callV (vs := [zI v1]) (rest := []) (rm := rm_X2_writesNumber) ok hRm lk_X2_388 dX2_writesBody_7 hE (fun hE => mt_X2_writesNumber hl hE) rfl (Nat.le_of_ble_eq_true rfl) ⟨⟨Nat.le_of_ble_eq_true rfl, Nat.le_of_ble_eq_true rfl⟩, Nat.le_of_ble_eq_true rfl, Nat.le_of_ble_eq_true rfl⟩ (zg_retV (fun h2 hE => ?_)) (zg_xok ok tab fin ⟨Nat.le_of_ble_eq_true rfl, Nat.le_of_ble_eq_true rfl⟩)
  refine zg_cost (kc2 := 0) (ks2 := 0) ⟨rfl, rfl⟩ ?_
  refine zg_aload_n ok dX2_writesBody_10 rfl 0 rfl ?_
  refine zg_iload_n ok dX2_writesBody_11 rfl 1 rfl ?_
  refine zg_iconst (v := 2) ok dX2_writesBody_12 (by decide) ?_
  refine zg_callV (vs := [zI a1, zI 2]) (rest := []) (rm := rm_X2_of) ok hRm lk_X2_163 dX2_writesBody_13 hE (fun hE => mt_X2_of hl hE) rfl (Nat.le_of_ble_eq_true rfl) ⟨⟨Nat.le_of_ble_eq_true rfl, Nat.le_of_ble_eq_true rfl⟩, Nat.le_of_ble_eq_true rfl, Nat.le_of_ble_eq_true rfl⟩ (zg_retI (fun v2 h3 hE => ?_)) (zg_xok ok tab fin ⟨Nat.le_of_ble_eq_true rfl, Nat.le_of_ble_eq_true rfl⟩)
  refine zg_cost (kc2 := 0) (ks2 := 0) ⟨rfl, rfl⟩ ?_
  refine zg_iconst (v := 1) ok dX2_writesBody_16 (by decide) ?_
  refine zg_icmp_ne (tgt := 26) ok dX2_writesBody_17 (by decide) hE (fun hE => ?_) (fun hE => ?_)
  · exact gt_f_X2_writesBody_J26 hl ok tab fin hRm  hE
  · refine zg_aload_n ok dX2_writesBody_20 rfl 0 rfl ?_
    refine zg_bipush (v := 42) ok dX2_writesBody_21 (by decide) ?_
    refine zg_callV (vs := [zI 42]) (rest := []) (rm := rm_X2_writesByte) ok hRm lk_X2_385 dX2_writesBody_23 hE (fun hE => mt_X2_writesByte hl hE) rfl (Nat.le_of_ble_eq_true rfl) ⟨⟨Nat.le_of_ble_eq_true rfl, Nat.le_of_ble_eq_true rfl⟩, Nat.le_of_ble_eq_true rfl, Nat.le_of_ble_eq_true rfl⟩ (zg_retV (fun h10 hE => ?_)) (zg_xok ok tab fin ⟨Nat.le_of_ble_eq_true rfl, Nat.le_of_ble_eq_true rfl⟩)
    refine zg_cost (kc2 := 0) (ks2 := 0) ⟨rfl, rfl⟩ ?_
    exact gt_f_X2_writesBody_J26 hl ok tab fin hRm  hE
set_option maxHeartbeats 8000000 in
theorem gt_f_X2_writeBodies_J51 {Xc : zw_X} {Q : Int32 → zw_H → Prop} {X : String → Nat → zw_H → Prop} (hl : (zw_l Xc).stackTraces = false) (ok : zw_ok Xc cX2_writeBodies "MultipoleLineModel" yX2_writeBodies.name 2) (tab : zw_tab Xc []) (fin : zw_fin Xc (Option.some Jvm.ClassFile.FieldType.int) (zq_I Q) X 0 0) (hRm : zw_rm Xc = rm_X2_writeBodies) {kc ks : Nat} (hb : kc ≤ 0 ∧ ks ≤ 0) {R : Int32 → zw_H → Prop} {l0 : Option Nat} (hR : ∀ (l1 : Int32) (h : zw_H), R l1 h → zw_G Xc kc ks 2 h 31 [(0, va_rf l0), (1, .int l1)] []) {k62 : zw_H → Prop} (hk62 : ∀  (h : zw_H), k62  h → zw_G Xc kc ks 2 h 62 [(0, va_rf l0)] [])  {l1 : Int32}  {h : zw_H} (hE : f_X2_writeBodies_J51 (zw_Zf Xc).2.2.2 Q X R k62 l0 l1 h) : zw_G Xc kc ks 2 h 51 [(0, va_rf l0), (1, .int l1)] [] := by
  unfold f_X2_writeBodies_J51 at hE
  refine zg_aload_n ok dX2_writeBodies_51 rfl 0 rfl ?_
  refine zg_iload_n ok dX2_writeBodies_52 rfl 1 rfl ?_
  refine zg_callV (vs := [zI l1]) (rest := []) (rm := rm_X2_writesBody) ok hRm lk_X2_391 dX2_writeBodies_53 hE (fun hE => mt_X2_writesBody hl hE) rfl (Nat.le_of_ble_eq_true rfl) ⟨⟨Nat.le_of_ble_eq_true rfl, Nat.le_of_ble_eq_true rfl⟩, (by show kc + 0 ≤ 0; omega), (by show ks + 0 ≤ 0; omega)⟩ (zg_retV (fun h3 hE => ?_)) (zg_xok ok tab fin ⟨(by show kc + 0 ≤ 0; omega), (by show ks + 0 ≤ 0; omega)⟩)
  refine zg_cost (kc2 := kc) (ks2 := ks) ⟨(by show kc + 0 = kc; omega), (by show ks + 0 = ks; omega)⟩ ?_
  refine zg_iincLR (k := 1) (L' := fun v6 => [(1, .int v6), (0, va_rf l0)]) ok dX2_writeBodies_56 (by decide +kernel) hE rfl (by decide) rfl (k9 := 0) rfl (fun _ => rfl) (fun v6 hE => ?_)
  refine zg_goto (tgt := 31) ok dX2_writeBodies_59 (by decide) ?_
  refine zg_sub (L' := [(0, va_rf l0), (1, .int v6)]) [1, 0] rfl ?_
  exact hR _ _ hE
set_option maxHeartbeats 8000000 in
theorem gt_f_X2_writeBodies_B31 {Xc : zw_X} {Q : Int32 → zw_H → Prop} {X : String → Nat → zw_H → Prop} (hl : (zw_l Xc).stackTraces = false) (ok : zw_ok Xc cX2_writeBodies "MultipoleLineModel" yX2_writeBodies.name 2) (tab : zw_tab Xc []) (fin : zw_fin Xc (Option.some Jvm.ClassFile.FieldType.int) (zq_I Q) X 0 0) (hRm : zw_rm Xc = rm_X2_writeBodies) {kc ks : Nat} (hb : kc ≤ 0 ∧ ks ≤ 0) {R : Int32 → zw_H → Prop} {l0 : Option Nat} (hR : ∀ (l1 : Int32) (h : zw_H), R l1 h → zw_G Xc kc ks 2 h 31 [(0, va_rf l0), (1, .int l1)] []) {k62 : zw_H → Prop} (hk62 : ∀  (h : zw_H), k62  h → zw_G Xc kc ks 2 h 62 [(0, va_rf l0)] [])  {l1 : Int32} {h : zw_H} (hE : f_X2_writeBodies_B31 (zw_Zf Xc).2.2.2 Q X k62 l0 R l1 h) : zw_G Xc kc ks 2 h 31 [(0, va_rf l0), (1, .int l1)] [] := by
  unfold f_X2_writeBodies_B31 at hE
  refine zg_iload_n ok dX2_writeBodies_31 rfl 1 rfl ?_
  refine zg_aload_n ok dX2_writeBodies_32 rfl 0 rfl ?_
  refine zg_getA ok lf_X2_9 dX2_writeBodies_33 hE (fun v4 hE => ?_)
  refine zg_iconst (v := 0) ok dX2_writeBodies_36 (by decide) ?_
  refine zg_iald ok dX2_writeBodies_37 hE (fun v5 hE => ?_)
  refine zg_icmp_ge (tgt := 62) ok dX2_writeBodies_38 (by decide) hE (fun hE => ?_) (fun hE => ?_)
  · refine zg_sub (L' := [(0, va_rf l0)]) [0] rfl ?_
    exact hk62 _ hE
  · refine zg_iload_n ok dX2_writeBodies_41 rfl 1 rfl ?_
    refine zg_if_le (tgt := 51) ok dX2_writeBodies_42 (by decide) hE (fun hE => ?_) (fun hE => ?_)
    · exact gt_f_X2_writeBodies_J51 hl ok tab fin hRm hb hR hk62 hE
    · refine zg_aload_n ok dX2_writeBodies_45 rfl 0 rfl ?_
      refine zg_bipush (v := 32) ok dX2_writeBodies_46 (by decide) ?_
      refine zg_callV (vs := [zI 32]) (rest := []) (rm := rm_X2_writesByte) ok hRm lk_X2_385 dX2_writeBodies_48 hE (fun hE => mt_X2_writesByte hl hE) rfl (Nat.le_of_ble_eq_true rfl) ⟨⟨Nat.le_of_ble_eq_true rfl, Nat.le_of_ble_eq_true rfl⟩, (by show kc + 0 ≤ 0; omega), (by show ks + 0 ≤ 0; omega)⟩ (zg_retV (fun h4 hE => ?_)) (zg_xok ok tab fin ⟨(by show kc + 0 ≤ 0; omega), (by show ks + 0 ≤ 0; omega)⟩)
      refine zg_cost (kc2 := kc) (ks2 := ks) ⟨(by show kc + 0 = kc; omega), (by show ks + 0 = ks; omega)⟩ ?_
      exact gt_f_X2_writeBodies_J51 hl ok tab fin hRm hb hR hk62 hE
theorem gt_f_X2_writeBodies_L31 {Xc : zw_X} {Q : Int32 → zw_H → Prop} {X : String → Nat → zw_H → Prop} (hl : (zw_l Xc).stackTraces = false) (ok : zw_ok Xc cX2_writeBodies "MultipoleLineModel" yX2_writeBodies.name 2) (tab : zw_tab Xc []) (fin : zw_fin Xc (Option.some Jvm.ClassFile.FieldType.int) (zq_I Q) X 0 0) (hRm : zw_rm Xc = rm_X2_writeBodies) {kc ks : Nat} (hb : kc ≤ 0 ∧ ks ≤ 0) {l0 : Option Nat} {k62 : zw_H → Prop} (hk62 : ∀  (h : zw_H), k62  h → zw_G Xc kc ks 2 h 62 [(0, va_rf l0)] [])  : ∀ (n9 : Nat) (l1 : Int32) (h : zw_H), zl2 (f_X2_writeBodies_B31 (zw_Zf Xc).2.2.2 Q X k62 l0) n9 l1 h → zw_G Xc kc ks 2 h 31 [(0, va_rf l0), (1, .int l1)] [] := by
  intro n9
  induction n9 with
  | zero => intro l1 h hE; exact hE.elim
  | succ n9 ih => intro l1 h hE; exact gt_f_X2_writeBodies_B31 hl ok tab fin hRm hb ih hk62 hE
set_option maxHeartbeats 8000000 in
theorem gt_f_X2_writeBodies_J29 {Xc : zw_X} {Q : Int32 → zw_H → Prop} {X : String → Nat → zw_H → Prop} (hl : (zw_l Xc).stackTraces = false) (ok : zw_ok Xc cX2_writeBodies "MultipoleLineModel" yX2_writeBodies.name 2) (tab : zw_tab Xc []) (fin : zw_fin Xc (Option.some Jvm.ClassFile.FieldType.int) (zq_I Q) X 0 0) (hRm : zw_rm Xc = rm_X2_writeBodies)  {l0 : Option Nat}  {h : zw_H} (hE : f_X2_writeBodies_J29 (zw_Zf Xc).2.2.2 Q X  l0 h) : zw_G Xc 0 0 2 h 29 [(0, va_rf l0)] [] := by
  unfold f_X2_writeBodies_J29 at hE
  refine zg_iconst (v := 0) ok dX2_writeBodies_29 (by decide) ?_
  refine zg_istore_nR (L' := [(1, .int 0), (0, va_rf l0)]) ok dX2_writeBodies_30 rfl (by decide) 0 rfl rfl rfl ?_
  refine zg_sub (L' := [(0, va_rf l0), (1, .int 0)]) [1, 0] rfl ?_
  refine gt_f_X2_writeBodies_L31 hl ok tab fin hRm ⟨Nat.le_of_ble_eq_true rfl, Nat.le_of_ble_eq_true rfl⟩ ?_ _ _ _ hE
  · intro h5 hE
    refine zg_aload_n ok dX2_writeBodies_62 rfl 0 rfl ?_
    refine zg_getI ok lf_X2_382 dX2_writeBodies_63 hE (fun v7 hE => ?_)
    exact zg_iret ok fin dX2_writeBodies_66 ⟨Nat.le_of_ble_eq_true rfl, Nat.le_of_ble_eq_true rfl⟩ hE
set_option maxHeartbeats 8000000 in
theorem mt_X2_writeBodies {l : Launch} (hl : l.stackTraces = false) {Z : zw_Z} {a0 : Option Nat} {h : zw_H} {Q : Int32 → zw_H → Prop} {X : String → Nat → zw_H → Prop} (hE : f_X2_writeBodies Z.2.2.2 a0 h Q X) : zw_Met l Z yX2_writeBodies (ws_ yX2_writeBodies cX2_writeBodies 2 (Option.some Jvm.ClassFile.FieldType.int)) rm_X2_writeBodies [zA a0] h (zq_I Q) X := by
  refine zg_start (own := "MultipoleLineModel") (by decide +kernel) rfl (Nat.le_of_ble_eq_true rfl) hl (fun Xc ok tab fin hRm hXl hXZ => ?_)
  subst hXl
  subst hXZ
  unfold f_X2_writeBodies at hE
  refine zg_aload_n ok dX2_writeBodies_0 rfl 0 rfl ?_
  refine zg_callV (vs := []) (rest := []) (rm := rm_X2_mayAsk) ok hRm lk_X2_229 dX2_writeBodies_1 hE (fun hE => mt_X2_mayAsk hl hE) rfl (Nat.le_of_ble_eq_true rfl) ⟨⟨Nat.le_of_ble_eq_true rfl, Nat.le_of_ble_eq_true rfl⟩, Nat.le_of_ble_eq_true rfl, Nat.le_of_ble_eq_true rfl⟩ (zg_retI (fun v1 h1 hE => ?_)) (zg_xok ok tab fin ⟨Nat.le_of_ble_eq_true rfl, Nat.le_of_ble_eq_true rfl⟩)
  refine zg_cost (kc2 := 0) (ks2 := 0) ⟨rfl, rfl⟩ ?_
  refine zg_if_ne (tgt := 9) ok dX2_writeBodies_4 (by decide) hE (fun hE => ?_) (fun hE => ?_)
  · refine zg_aload_n ok dX2_writeBodies_9 rfl 0 rfl ?_
    refine zg_iconst (v := 0) ok dX2_writeBodies_10 (by decide) ?_
    refine zg_put (ty := .int) ok lf_X2_382 (Or.inl rfl) (by decide) (by decide +kernel) rfl rfl dX2_writeBodies_11 hE (fun h2 hE => ?_)
    refine zg_aload_n ok dX2_writeBodies_14 rfl 0 rfl ?_
    refine zg_getA ok lf_X2_9 dX2_writeBodies_15 hE (fun v2 hE => ?_)
    refine zg_iconst (v := 0) ok dX2_writeBodies_18 (by decide) ?_
    refine zg_iald ok dX2_writeBodies_19 hE (fun v3 hE => ?_)
    refine zg_if_ne (tgt := 29) ok dX2_writeBodies_20 (by decide) hE (fun hE => ?_) (fun hE => ?_)
    · exact gt_f_X2_writeBodies_J29 hl ok tab fin hRm  hE
    · refine zg_aload_n ok dX2_writeBodies_23 rfl 0 rfl ?_
      refine zg_bipush (v := 46) ok dX2_writeBodies_24 (by decide) ?_
      refine zg_callV (vs := [zI 46]) (rest := []) (rm := rm_X2_writesByte) ok hRm lk_X2_385 dX2_writeBodies_26 hE (fun hE => mt_X2_writesByte hl hE) rfl (Nat.le_of_ble_eq_true rfl) ⟨⟨Nat.le_of_ble_eq_true rfl, Nat.le_of_ble_eq_true rfl⟩, Nat.le_of_ble_eq_true rfl, Nat.le_of_ble_eq_true rfl⟩ (zg_retV (fun h6 hE => ?_)) (zg_xok ok tab fin ⟨Nat.le_of_ble_eq_true rfl, Nat.le_of_ble_eq_true rfl⟩)
      refine zg_cost (kc2 := 0) (ks2 := 0) ⟨rfl, rfl⟩ ?_
      exact gt_f_X2_writeBodies_J29 hl ok tab fin hRm  hE
  · refine zg_iconst (v := 0) ok dX2_writeBodies_7 (by decide) ?_
    exact zg_iret ok fin dX2_writeBodies_8 ⟨Nat.le_of_ble_eq_true rfl, Nat.le_of_ble_eq_true rfl⟩ hE
set_option maxHeartbeats 8000000 in
theorem gt_f_X2_writesWord_B2 {Xc : zw_X} {Q : zw_H → Prop} {X : String → Nat → zw_H → Prop} (hl : (zw_l Xc).stackTraces = false) (ok : zw_ok Xc cX2_writesWord "MultipoleLineModel" yX2_writesWord.name 3) (tab : zw_tab Xc []) (fin : zw_fin Xc (Option.none : Option Jvm.ClassFile.FieldType) (zq_V Q) X 0 0) (hRm : zw_rm Xc = rm_X2_writesWord) {kc ks : Nat} (hb : kc ≤ 0 ∧ ks ≤ 0) {R : Int32 → zw_H → Prop} {l0 : Option Nat} {l1 : Option Nat} (hR : ∀ (l2 : Int32) (h : zw_H), R l2 h → zw_G Xc kc ks 3 h 2 [(0, va_rf l0), (1, va_rf l1), (2, .int l2)] []) {k25 : zw_H → Prop} (hk25 : ∀  (h : zw_H), k25  h → zw_G Xc kc ks 3 h 25 [] [])  {l2 : Int32} {h : zw_H} (hE : f_X2_writesWord_B2 (zw_Zf Xc).2.2.2 Q X k25 l0 l1 R l2 h) : zw_G Xc kc ks 3 h 2 [(0, va_rf l0), (1, va_rf l1), (2, .int l2)] [] := by
  unfold f_X2_writesWord_B2 at hE
  refine zg_iload_n ok dX2_writesWord_2 rfl 2 rfl ?_
  refine zg_aload_n ok dX2_writesWord_3 rfl 1 rfl ?_
  refine zg_callV (vs := []) (rest := [.int l2]) (rm := rm_J4_length) ok hRm lk_X2_103 dX2_writesWord_4 hE (fun hE => mt_J4_length hl hE) rfl (Nat.le_of_ble_eq_true rfl) ⟨⟨Nat.le_of_ble_eq_true rfl, Nat.le_of_ble_eq_true rfl⟩, (by show kc + 0 ≤ 0; omega), (by show ks + 0 ≤ 0; omega)⟩ (zg_retI (fun v1 h1 hE => ?_)) (zg_xok ok tab fin ⟨(by show kc + 0 ≤ 0; omega), (by show ks + 0 ≤ 0; omega)⟩)
  refine zg_cost (kc2 := kc) (ks2 := ks) ⟨(by show kc + 0 = kc; omega), (by show ks + 0 = ks; omega)⟩ ?_
  refine zg_icmp_ge (tgt := 25) ok dX2_writesWord_7 (by decide) hE (fun hE => ?_) (fun hE => ?_)
  · refine zg_sub (L' := []) [] rfl ?_
    exact hk25 _ hE
  · refine zg_aload_n ok dX2_writesWord_10 rfl 0 rfl ?_
    refine zg_aload_n ok dX2_writesWord_11 rfl 1 rfl ?_
    refine zg_iload_n ok dX2_writesWord_12 rfl 2 rfl ?_
    refine zg_callV (vs := [zI l2]) (rest := [va_rf l0]) (rm := rm_J4_charAt) ok hRm lk_X2_109 dX2_writesWord_13 hE (fun hE => mt_J4_charAt hl hE) rfl (Nat.le_of_ble_eq_true rfl) ⟨⟨Nat.le_of_ble_eq_true rfl, Nat.le_of_ble_eq_true rfl⟩, (by show kc + 0 ≤ 0; omega), (by show ks + 0 ≤ 0; omega)⟩ (zg_retI (fun v2 h2 hE => ?_)) (zg_xok ok tab fin ⟨(by show kc + 0 ≤ 0; omega), (by show ks + 0 ≤ 0; omega)⟩)
    refine zg_cost (kc2 := kc) (ks2 := ks) ⟨(by show kc + 0 = kc; omega), (by show ks + 0 = ks; omega)⟩ ?_
    refine zg_callV (vs := [zI v2]) (rest := []) (rm := rm_X2_writesByte) ok hRm lk_X2_385 dX2_writesWord_16 hE (fun hE => mt_X2_writesByte hl hE) rfl (Nat.le_of_ble_eq_true rfl) ⟨⟨Nat.le_of_ble_eq_true rfl, Nat.le_of_ble_eq_true rfl⟩, (by show kc + 0 ≤ 0; omega), (by show ks + 0 ≤ 0; omega)⟩ (zg_retV (fun h3 hE => ?_)) (zg_xok ok tab fin ⟨(by show kc + 0 ≤ 0; omega), (by show ks + 0 ≤ 0; omega)⟩)
    refine zg_cost (kc2 := kc) (ks2 := ks) ⟨(by show kc + 0 = kc; omega), (by show ks + 0 = ks; omega)⟩ ?_
    refine zg_iincLR (k := 2) (L' := fun v3 => [(2, .int v3), (0, va_rf l0), (1, va_rf l1)]) ok dX2_writesWord_19 (by decide +kernel) hE rfl (by decide) rfl (k9 := 1) rfl (fun _ => rfl) (fun v3 hE => ?_)
    refine zg_goto (tgt := 2) ok dX2_writesWord_22 (by decide) ?_
    refine zg_sub (L' := [(0, va_rf l0), (1, va_rf l1), (2, .int v3)]) [1, 2, 0] rfl ?_
    exact hR _ _ hE
theorem gt_f_X2_writesWord_L2 {Xc : zw_X} {Q : zw_H → Prop} {X : String → Nat → zw_H → Prop} (hl : (zw_l Xc).stackTraces = false) (ok : zw_ok Xc cX2_writesWord "MultipoleLineModel" yX2_writesWord.name 3) (tab : zw_tab Xc []) (fin : zw_fin Xc (Option.none : Option Jvm.ClassFile.FieldType) (zq_V Q) X 0 0) (hRm : zw_rm Xc = rm_X2_writesWord) {kc ks : Nat} (hb : kc ≤ 0 ∧ ks ≤ 0) {l0 : Option Nat} {l1 : Option Nat} {k25 : zw_H → Prop} (hk25 : ∀  (h : zw_H), k25  h → zw_G Xc kc ks 3 h 25 [] [])  : ∀ (n9 : Nat) (l2 : Int32) (h : zw_H), zl2 (f_X2_writesWord_B2 (zw_Zf Xc).2.2.2 Q X k25 l0 l1) n9 l2 h → zw_G Xc kc ks 3 h 2 [(0, va_rf l0), (1, va_rf l1), (2, .int l2)] [] := by
  intro n9
  induction n9 with
  | zero => intro l2 h hE; exact hE.elim
  | succ n9 ih => intro l2 h hE; exact gt_f_X2_writesWord_B2 hl ok tab fin hRm hb ih hk25 hE
set_option maxHeartbeats 8000000 in
theorem mt_X2_writesWord {l : Launch} (hl : l.stackTraces = false) {Z : zw_Z} {a0 : Option Nat} {a1 : Option Nat} {h : zw_H} {Q : zw_H → Prop} {X : String → Nat → zw_H → Prop} (hE : f_X2_writesWord Z.2.2.2 a0 a1 h Q X) : zw_Met l Z yX2_writesWord (ws_ yX2_writesWord cX2_writesWord 3 (Option.none : Option Jvm.ClassFile.FieldType)) rm_X2_writesWord [zA a0, zA a1] h (zq_V Q) X := by
  refine zg_start (own := "MultipoleLineModel") (by decide +kernel) rfl (Nat.le_of_ble_eq_true rfl) hl (fun Xc ok tab fin hRm hXl hXZ => ?_)
  subst hXl
  subst hXZ
  unfold f_X2_writesWord at hE
  refine zg_iconst (v := 0) ok dX2_writesWord_0 (by decide) ?_
  refine zg_istore_nR (L' := [(2, .int 0), (0, va_rf a0), (1, va_rf a1)]) ok dX2_writesWord_1 rfl (by decide) 1 rfl rfl rfl ?_
  refine zg_sub (L' := [(0, va_rf a0), (1, va_rf a1), (2, .int 0)]) [1, 2, 0] rfl ?_
  refine gt_f_X2_writesWord_L2 hl ok tab fin hRm ⟨Nat.le_of_ble_eq_true rfl, Nat.le_of_ble_eq_true rfl⟩ ?_ _ _ _ hE
  · intro h4 hE
    exact zg_vret ok fin dX2_writesWord_25 ⟨Nat.le_of_ble_eq_true rfl, Nat.le_of_ble_eq_true rfl⟩ hE
set_option maxHeartbeats 8000000 in
theorem mt_X2_writesToken {l : Launch} (hl : l.stackTraces = false) {Z : zw_Z} {a0 : Option Nat} {a1 : Int32} {h : zw_H} {Q : zw_H → Prop} {X : String → Nat → zw_H → Prop} (hE : f_X2_writesToken Z.2.2.2 a0 a1 h Q X) : zw_Met l Z yX2_writesToken (ws_ yX2_writesToken cX2_writesToken 2 (Option.none : Option Jvm.ClassFile.FieldType)) rm_X2_writesToken [zA a0, zI a1] h (zq_V Q) X := by
  refine zg_start (own := "MultipoleLineModel") (by decide +kernel) rfl (Nat.le_of_ble_eq_true rfl) hl (fun Xc ok tab fin hRm hXl hXZ => ?_)
  subst hXl
  subst hXZ
  unfold f_X2_writesToken at hE
  refine zg_aload_n ok dX2_writesToken_0 rfl 0 rfl ?_
  refine zg_bipush (v := 32) ok dX2_writesToken_1 (by decide) ?_
  refine zg_callV (vs := [zI 32]) (rest := []) (rm := rm_X2_writesByte) ok hRm lk_X2_385 dX2_writesToken_3 hE (fun hE => mt_X2_writesByte hl hE) rfl (Nat.le_of_ble_eq_true rfl) ⟨⟨Nat.le_of_ble_eq_true rfl, Nat.le_of_ble_eq_true rfl⟩, Nat.le_of_ble_eq_true rfl, Nat.le_of_ble_eq_true rfl⟩ (zg_retV (fun h1 hE => ?_)) (zg_xok ok tab fin ⟨Nat.le_of_ble_eq_true rfl, Nat.le_of_ble_eq_true rfl⟩)
  refine zg_cost (kc2 := 0) (ks2 := 0) ⟨rfl, rfl⟩ ?_
  refine zg_aload_n ok dX2_writesToken_6 rfl 0 rfl ?_
  refine zg_iload_n ok dX2_writesToken_7 rfl 1 rfl ?_
  refine zg_callV (vs := [zI a1]) (rest := []) (rm := rm_X2_writesNumber) ok hRm lk_X2_388 dX2_writesToken_8 hE (fun hE => mt_X2_writesNumber hl hE) rfl (Nat.le_of_ble_eq_true rfl) ⟨⟨Nat.le_of_ble_eq_true rfl, Nat.le_of_ble_eq_true rfl⟩, Nat.le_of_ble_eq_true rfl, Nat.le_of_ble_eq_true rfl⟩ (zg_retV (fun h2 hE => ?_)) (zg_xok ok tab fin ⟨Nat.le_of_ble_eq_true rfl, Nat.le_of_ble_eq_true rfl⟩)
  refine zg_cost (kc2 := 0) (ks2 := 0) ⟨rfl, rfl⟩ ?_
  exact zg_vret ok fin dX2_writesToken_11 ⟨Nat.le_of_ble_eq_true rfl, Nat.le_of_ble_eq_true rfl⟩ hE
