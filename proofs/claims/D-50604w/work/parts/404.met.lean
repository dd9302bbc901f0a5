set_option maxRecDepth 100000
set_option maxHeartbeats 8000000 in
theorem mt_J32_checkForComodification {l : Launch} (hl : l.stackTraces = false) {Z : zw_Z} {a0 : Option Nat} {h : zw_H} {Q : zw_H → Prop} {X : String → Nat → zw_H → Prop} (hE : f_J32_checkForComodification Z.2.2.2 a0 h Q X) : zw_Met l Z yJ32_checkForComodification (ws_ yJ32_checkForComodification cJ32_checkForComodification 1 (Option.none : Option Jvm.ClassFile.FieldType)) rm_J32_checkForComodification [zA a0] h (zq_V Q) X := by
  refine zg_start (own := "java/util/LinkedList$ListItr") (by decide +kernel) rfl (Nat.le_of_ble_eq_true rfl) hl (fun Xc ok tab fin hRm hXl hXZ => ?_)
  subst hXl
  subst hXZ
  unfold f_J32_checkForComodification at hE
  refine zg_aload_n ok dJ32_checkForComodification_0 rfl 0 rfl ?_
  refine zg_getA ok lf_J32_1 dJ32_checkForComodification_1 hE (fun v1 hE => ?_)
  refine zg_getI ok lf_J32_13 dJ32_checkForComodification_4 hE (fun v2 hE => ?_)
  refine zg_aload_n ok dJ32_checkForComodification_7 rfl 0 rfl ?_
  refine zg_getI ok lf_J32_19 dJ32_checkForComodification_8 hE (fun v3 hE => ?_)
  refine zg_icmp_eq (tgt := 22) ok dJ32_checkForComodification_11 (by decide) hE (fun hE => ?_) (fun hE => ?_)
  · exact zg_vret ok fin dJ32_checkForComodification_22 ⟨Nat.le_of_ble_eq_true rfl, Nat.le_of_ble_eq_true rfl⟩ hE
  · exact hE.elim
set_option maxHeartbeats 8000000 in
theorem mt_J32_next {l : Launch} (hl : l.stackTraces = false) {Z : zw_Z} {a0 : Option Nat} {h : zw_H} {Q : Option Nat → zw_H → Prop} {X : String → Nat → zw_H → Prop} (hE : f_J32_next Z.2.2.2 a0 h Q X) : zw_Met l Z yJ32_next (ws_ yJ32_next cJ32_next 1 (Option.some (Jvm.ClassFile.FieldType.object "java/lang/Object"))) rm_J32_next [zA a0] h (zq_A Q) X := by
  refine zg_start (own := "java/util/LinkedList$ListItr") (by decide +kernel) rfl (Nat.le_of_ble_eq_true rfl) hl (fun Xc ok tab fin hRm hXl hXZ => ?_)
  subst hXl
  subst hXZ
  unfold f_J32_next at hE
  refine zg_aload_n ok dJ32_next_0 rfl 0 rfl ?_
  refine zg_callV (vs := []) (rest := []) (rm := rm_J32_checkForComodification) ok hRm lk_J32_36 dJ32_next_1 hE (fun hE => mt_J32_checkForComodification hl hE) rfl (Nat.le_of_ble_eq_true rfl) ⟨⟨Nat.le_of_ble_eq_true rfl, Nat.le_of_ble_eq_true rfl⟩, Nat.le_of_ble_eq_true rfl, Nat.le_of_ble_eq_true rfl⟩ (zg_retV (fun h1 hE => ?_)) (zg_xok ok tab fin ⟨Nat.le_of_ble_eq_true rfl, Nat.le_of_ble_eq_true rfl⟩)
  refine zg_cost (kc2 := 0) (ks2 := 0) ⟨rfl, rfl⟩ ?_
  refine zg_aload_n ok dJ32_next_4 rfl 0 rfl ?_
  refine zg_callV (vs := []) (rest := []) (rm := rm_J32_hasNext) ok hRm lk_J32_39 dJ32_next_5 hE (fun hE => mt_J32_hasNext hl hE) rfl (Nat.le_of_ble_eq_true rfl) ⟨⟨Nat.le_of_ble_eq_true rfl, Nat.le_of_ble_eq_true rfl⟩, Nat.le_of_ble_eq_true rfl, Nat.le_of_ble_eq_true rfl⟩ (zg_retI (fun v1 h2 hE => ?_)) (zg_xok ok tab fin ⟨Nat.le_of_ble_eq_true rfl, Nat.le_of_ble_eq_true rfl⟩)
  refine zg_cost (kc2 := 0) (ks2 := 0) ⟨rfl, rfl⟩ ?_
  refine zg_if_ne (tgt := 19) ok dJ32_next_8 (by decide) hE (fun hE => ?_) (fun hE => ?_)
  · refine zg_aload_n ok dJ32_next_19 rfl 0 rfl ?_
    refine zg_aload_n ok dJ32_next_20 rfl 0 rfl ?_
    refine zg_getA ok lf_J32_29 dJ32_next_21 hE (fun v2 hE => ?_)
    refine zg_put (ty := (.object "java/util/LinkedList$Node")) ok lf_J32_46 (Or.inl rfl) (by decide) (by decide +kernel) (zw_nrO _ _) (zw_frO _ _) dJ32_next_24 hE (fun h3 hE => ?_)
    refine zg_aload_n ok dJ32_next_27 rfl 0 rfl ?_
    refine zg_aload_n ok dJ32_next_28 rfl 0 rfl ?_
    refine zg_getA ok lf_J32_29 dJ32_next_29 hE (fun v3 hE => ?_)
    refine zg_getA ok lf_J32_49 dJ32_next_32 hE (fun v4 hE => ?_)
    refine zg_put (ty := (.object "java/util/LinkedList$Node")) ok lf_J32_29 (Or.inl rfl) (by decide) (by decide +kernel) (zw_nrO _ _) (zw_frO _ _) dJ32_next_35 hE (fun h4 hE => ?_)
    refine zg_aload_n ok dJ32_next_38 rfl 0 rfl ?_
    refine zg_dup ok dJ32_next_39 (zw_rfc _) ?_
    refine zg_getI ok lf_J32_33 dJ32_next_40 hE (fun v5 hE => ?_)
    refine zg_iconst (v := 1) ok dJ32_next_43 (by decide) ?_
    refine zg_iadd ok dJ32_next_44 ?_
    refine zg_put (ty := .int) ok lf_J32_33 (Or.inl rfl) (by decide) (by decide +kernel) rfl rfl dJ32_next_45 hE (fun h5 hE => ?_)
    refine zg_aload_n ok dJ32_next_48 rfl 0 rfl ?_
    refine zg_getA ok lf_J32_46 dJ32_next_49 hE (fun v6 hE => ?_)
    refine zg_getA ok lf_J32_52 dJ32_next_52 hE (fun v7 hE => ?_)
    exact zg_aret ok fin (Or.inl ⟨_, rfl⟩) dJ32_next_55 ⟨Nat.le_of_ble_eq_true rfl, Nat.le_of_ble_eq_true rfl⟩ hE
  · exact hE.elim
set_option maxHeartbeats 8000000 in
theorem mt_J20_intValue {l : Launch} (hl : l.stackTraces = false) {Z : zw_Z} {a0 : Option Nat} {h : zw_H} {Q : Int32 → zw_H → Prop} {X : String → Nat → zw_H → Prop} (hE : f_J20_intValue Z.2.2.2 a0 h Q X) : zw_Met l Z yJ20_intValue (ws_ yJ20_intValue cJ20_intValue 1 (Option.some Jvm.ClassFile.FieldType.int)) rm_J20_intValue [zA a0] h (zq_I Q) X := by
  refine zg_startF (own := "java/lang/Integer") (by decide +kernel) rfl (Nat.le_of_ble_eq_true rfl) hl (fun Xc ok tab fin hRm hXl hXZ => ?_)
  subst hXl
  subst hXZ
  unfold f_J20_intValue at hE
  refine zg_aload_n ok dJ20_intValue_0 rfl 0 rfl ?_
  refine zg_getI ok lf_J20_205 dJ20_intValue_1 hE (fun v1 hE => ?_)
  exact zg_iret ok fin dJ20_intValue_4 ⟨Nat.le_of_ble_eq_true rfl, Nat.le_of_ble_eq_true rfl⟩ hE
set_option maxHeartbeats 8000000 in
theorem gt_f_X1_nearBody_B16 {Xc : zw_X} {Q : Int32 → zw_H → Prop} {X : String → Nat → zw_H → Prop} (hl : (zw_l Xc).stackTraces = false) (ok : zw_ok Xc cX1_nearBody "MultipoleLine" yX1_nearBody.name 6) (tab : zw_tab Xc []) (fin : zw_fin Xc (Option.some Jvm.ClassFile.FieldType.int) (zq_I Q) X 54 121) (hRm : zw_rm Xc = rm_X1_nearBody) {kc ks : Nat} (hb : kc ≤ 54 ∧ ks ≤ 121) {R : Int32 → zw_H → Prop} {l3 : Option Nat} (hR : ∀ (l4 : Int32) (h : zw_H), R l4 h → zw_G Xc kc ks 6 h 16 [(3, va_rf l3), (4, .int l4)] []) {k44 : Int32 → zw_H → Prop} (hk44 : ∀ (l5 : Int32) (h : zw_H), k44 l5 h → zw_G Xc kc ks 6 h 44 [(5, .int l5)] []) {k53 : zw_H → Prop} (hk53 : ∀  (h : zw_H), k53  h → zw_G Xc kc ks 6 h 53 [] [])  {l4 : Int32} {h : zw_H} (hE : f_X1_nearBody_B16 (zw_Zf Xc).2.2.2 Q X k44 k53 l3 R l4 h) : zw_G Xc kc ks 6 h 16 [(3, va_rf l3), (4, .int l4)] [] := by
  unfold f_X1_nearBody_B16 at hE
  refine zg_aload_n ok dX1_nearBody_16 rfl 0 rfl ?_
  refine zg_callF (vs := []) (rest := []) (rm := rm_J32_hasNext) ok hRm lk_X1_255 dX1_nearBody_17 hE (fun hE => mt_J32_hasNext hl hE) rfl (Nat.le_of_ble_eq_true rfl) ⟨⟨Nat.le_of_ble_eq_true rfl, Nat.le_of_ble_eq_true rfl⟩, (by show kc + 0 ≤ 54; omega), (by show ks + 0 ≤ 121; omega)⟩ (zg_retI (fun v4 h4 hE => ?_)) (zg_xok ok tab fin ⟨(by show kc + 0 ≤ 54; omega), (by show ks + 0 ≤ 121; omega)⟩)
  refine zg_cost (kc2 := kc) (ks2 := ks) ⟨(by show kc + 0 = kc; omega), (by show ks + 0 = ks; omega)⟩ ?_
  refine zg_if_eq (tgt := 53) ok dX1_nearBody_22 (by decide) hE (fun hE => ?_) (fun hE => ?_)
  · refine zg_sub (L' := []) [] rfl ?_
    exact hk53 _ hE
  · refine zg_aload_n ok dX1_nearBody_25 rfl 0 rfl ?_
    refine zg_callF (vs := []) (rest := []) (rm := rm_J32_next) ok hRm lk_X1_261 dX1_nearBody_26 hE (fun hE => mt_J32_next hl hE) rfl (Nat.le_of_ble_eq_true rfl) ⟨⟨Nat.le_of_ble_eq_true rfl, Nat.le_of_ble_eq_true rfl⟩, (by show kc + 0 ≤ 54; omega), (by show ks + 0 ≤ 121; omega)⟩ (zg_retA (fun v5 h5 hE => ?_)) (zg_xok ok tab fin ⟨(by show kc + 0 ≤ 54; omega), (by show ks + 0 ≤ 121; omega)⟩)
    refine zg_cost (kc2 := kc) (ks2 := ks) ⟨(by show kc + 0 = kc; omega), (by show ks + 0 = ks; omega)⟩ ?_
    refine zg_castE ok lc_X1_265 dX1_nearBody_31 hE (fun hE => ?_)
    refine zg_callV (vs := []) (rest := []) (rm := rm_J20_intValue) ok hRm lk_X1_267 dX1_nearBody_34 hE (fun hE => mt_J20_intValue hl hE) rfl (Nat.le_of_ble_eq_true rfl) ⟨⟨Nat.le_of_ble_eq_true rfl, Nat.le_of_ble_eq_true rfl⟩, (by show kc + 0 ≤ 54; omega), (by show ks + 0 ≤ 121; omega)⟩ (zg_retI (fun v6 h6 hE => ?_)) (zg_xok ok tab fin ⟨(by show kc + 0 ≤ 54; omega), (by show ks + 0 ≤ 121; omega)⟩)
    refine zg_cost (kc2 := kc) (ks2 := ks) ⟨(by show kc + 0 = kc; omega), (by show ks + 0 = ks; omega)⟩ ?_
    refine zg_istore (L' := [(5, .int v6), (3, va_rf l3), (4, .int l4)]) ok dX1_nearBody_37 (by decide) rfl ?_
    refine zg_iload ok dX1_nearBody_39 2 rfl ?_
    refine zg_if_ne (tgt := 47) ok dX1_nearBody_41 (by decide) hE (fun hE => ?_) (fun hE => ?_)
    · refine zg_iincLR (k := 2) (L' := fun v7 => [(4, .int v7), (5, .int v6), (3, va_rf l3)]) ok dX1_nearBody_47 (by decide +kernel) hE rfl (by decide) rfl (k9 := 1) rfl (fun _ => rfl) (fun v7 hE => ?_)
      refine zg_goto (tgt := 16) ok dX1_nearBody_50 (by decide) ?_
      refine zg_sub (L' := [(3, va_rf l3), (4, .int v7)]) [2, 0] rfl ?_
      exact hR _ _ hE
    · refine zg_sub (L' := [(5, .int v6)]) [0] rfl ?_
      exact hk44 _ _ hE
theorem gt_f_X1_nearBody_L16 {Xc : zw_X} {Q : Int32 → zw_H → Prop} {X : String → Nat → zw_H → Prop} (hl : (zw_l Xc).stackTraces = false) (ok : zw_ok Xc cX1_nearBody "MultipoleLine" yX1_nearBody.name 6) (tab : zw_tab Xc []) (fin : zw_fin Xc (Option.some Jvm.ClassFile.FieldType.int) (zq_I Q) X 54 121) (hRm : zw_rm Xc = rm_X1_nearBody) {kc ks : Nat} (hb : kc ≤ 54 ∧ ks ≤ 121) {l3 : Option Nat} {k44 : Int32 → zw_H → Prop} (hk44 : ∀ (l5 : Int32) (h : zw_H), k44 l5 h → zw_G Xc kc ks 6 h 44 [(5, .int l5)] []) {k53 : zw_H → Prop} (hk53 : ∀  (h : zw_H), k53  h → zw_G Xc kc ks 6 h 53 [] [])  : ∀ (n9 : Nat) (l4 : Int32) (h : zw_H), zl2 (f_X1_nearBody_B16 (zw_Zf Xc).2.2.2 Q X k44 k53 l3) n9 l4 h → zw_G Xc kc ks 6 h 16 [(3, va_rf l3), (4, .int l4)] [] := by
  intro n9
  induction n9 with
  | zero => intro l4 h hE; exact hE.elim
  | succ n9 ih => intro l4 h hE; exact gt_f_X1_nearBody_B16 hl ok tab fin hRm hb ih hk44 hk53 hE
set_option maxHeartbeats 8000000 in
theorem mt_X1_nearBody {l : Launch} (hl : l.stackTraces = false) {Z : zw_Z} {a0 : Option Nat} {a1 : Int32} {a2 : Int32} {h : zw_H} {Q : Int32 → zw_H → Prop} {X : String → Nat → zw_H → Prop} (hE : f_X1_nearBody Z.2.2.2 a0 a1 a2 h Q X) : zw_Met l Z yX1_nearBody (ws_ yX1_nearBody cX1_nearBody 6 (Option.some Jvm.ClassFile.FieldType.int)) rm_X1_nearBody [zA a0, zI a1, zI a2] h (zq_I Q) X := by
  refine zg_start (own := "MultipoleLine") (by decide +kernel) rfl (Nat.le_of_ble_eq_true rfl) hl (fun Xc ok tab fin hRm hXl hXZ => ?_)
  subst hXl
  subst hXZ
  unfold f_X1_nearBody at hE
  refine zg_aload_n ok dX1_nearBody_0 rfl 0 rfl ?_
  refine zg_iload_n ok dX1_nearBody_1 rfl 1 rfl ?_
  refine zg_callV (vs := [zI a1]) (rest := []) (rm := rm_X1_at) ok hRm lk_X1_193 dX1_nearBody_2 hE (fun hE => mt_X1_at hl hE) rfl (Nat.le_of_ble_eq_true rfl) ⟨⟨Nat.le_of_ble_eq_true rfl, Nat.le_of_ble_eq_true rfl⟩, Nat.le_of_ble_eq_true rfl, Nat.le_of_ble_eq_true rfl⟩ (zg_retA (fun v1 h1 hE => ?_)) (zg_xok ok tab fin ⟨Nat.le_of_ble_eq_true rfl, Nat.le_of_ble_eq_true rfl⟩)
  refine zg_cost (kc2 := 2) (ks2 := 12) ⟨rfl, rfl⟩ ?_
  refine zg_iload_n ok dX1_nearBody_5 rfl 1 rfl ?_
  refine zg_callV (vs := [zI a1]) (rest := []) (rm := rm_X4_near) ok hRm lk_X1_244 dX1_nearBody_6 hE (fun hE => mt_X4_near hl hE) rfl (Nat.le_of_ble_eq_true rfl) ⟨⟨Nat.le_of_ble_eq_true rfl, Nat.le_of_ble_eq_true rfl⟩, Nat.le_of_ble_eq_true rfl, Nat.le_of_ble_eq_true rfl⟩ (zg_retA (fun v2 h2 hE => ?_)) (zg_xok ok tab fin ⟨Nat.le_of_ble_eq_true rfl, Nat.le_of_ble_eq_true rfl⟩)
  refine zg_cost (kc2 := 53) (ks2 := 116) ⟨rfl, rfl⟩ ?_
  refine zg_callU (vs := []) (rest := []) (rm := rm_J27_iterator) ok hRm lk_X1_251 dX1_nearBody_9 hE (fun hE => mt_J27_iterator hl hE) rfl (Nat.le_of_ble_eq_true rfl) ⟨⟨Nat.le_of_ble_eq_true rfl, Nat.le_of_ble_eq_true rfl⟩, Nat.le_of_ble_eq_true rfl, Nat.le_of_ble_eq_true rfl⟩ (zg_retA (fun v3 h3 hE => ?_)) (zg_xok ok tab fin ⟨Nat.le_of_ble_eq_true rfl, Nat.le_of_ble_eq_true rfl⟩)
  refine zg_cost (kc2 := 54) (ks2 := 121) ⟨rfl, rfl⟩ ?_
  refine zg_astore_n (L' := [(3, va_rf v3), (0, va_rf a0), (1, .int a1), (2, .int a2)]) ok dX1_nearBody_12 rfl (by decide) rfl ?_
  refine zg_iload_n ok dX1_nearBody_13 rfl 3 rfl ?_
  refine zg_istoreR (L' := [(4, .int a2), (3, va_rf v3), (0, va_rf a0), (1, .int a1), (2, .int a2)]) ok dX1_nearBody_14 (by decide) 0 rfl rfl rfl ?_
  refine zg_sub (L' := [(3, va_rf v3), (4, .int a2)]) [1, 0] rfl ?_
  refine gt_f_X1_nearBody_L16 hl ok tab fin hRm ⟨Nat.le_of_ble_eq_true rfl, Nat.le_of_ble_eq_true rfl⟩ ?_ ?_ _ _ _ hE
  · intro v8 h7 hE
    refine zg_iload ok dX1_nearBody_44 0 rfl ?_
    exact zg_iret ok fin dX1_nearBody_46 ⟨Nat.le_of_ble_eq_true rfl, Nat.le_of_ble_eq_true rfl⟩ hE
  · intro h8 hE
    refine zg_iconst (v := (-1)) ok dX1_nearBody_53 (by decide) ?_
    exact zg_iret ok fin dX1_nearBody_54 ⟨Nat.le_of_ble_eq_true rfl, Nat.le_of_ble_eq_true rfl⟩ hE
set_option maxHeartbeats 8000000 in
theorem mt_X5_isFarFrom {l : Launch} (hl : l.stackTraces = false) {Z : zw_Z} {a0 : Option Nat} {a1 : Int32} {h : zw_H} {Q : Int32 → zw_H → Prop} {X : String → Nat → zw_H → Prop} (hE : f_X5_isFarFrom Z.2.2.2 a0 a1 h Q X) : zw_Met l Z yX5_isFarFrom (ws_ yX5_isFarFrom cX5_isFarFrom 2 (Option.some Jvm.ClassFile.FieldType.boolean)) rm_X5_isFarFrom [zA a0, zI a1] h (zq_I Q) X := by
  refine zg_start (own := "MultipoleLine$Box") (by decide +kernel) rfl (Nat.le_of_ble_eq_true rfl) hl (fun Xc ok tab fin hRm hXl hXZ => ?_)
  subst hXl
  subst hXZ
  unfold f_X5_isFarFrom at hE
  refine zg_iload_n ok dX5_isFarFrom_0 rfl 1 rfl ?_
  refine zg_aload_n ok dX5_isFarFrom_1 rfl 0 rfl ?_
  refine zg_getI ok lf_X5_15 dX5_isFarFrom_2 hE (fun v1 hE => ?_)
  refine zg_isub ok dX5_isFarFrom_5 ?_
  refine zg_i2l ok dX5_isFarFrom_6 ?_
  refine zg_ldc2 (v := (-1 : Int64)) ok q1727 dX5_isFarFrom_7 ?_
  refine zg_lconst (v := 1) ok dX5_isFarFrom_10 (by decide) ?_
  refine zg_callSN (vs := [zJ ((a1 - v1).toInt64), zJ (-1 : Int64), zJ 1]) (rest := []) (rm := rm_X1_in) ok hRm lk_X5_26 dX5_isFarFrom_11 hE (fun hE => mt_X1_in hl hE) rfl (Nat.le_of_ble_eq_true rfl) ⟨⟨Nat.le_of_ble_eq_true rfl, Nat.le_of_ble_eq_true rfl⟩, Nat.le_of_ble_eq_true rfl, Nat.le_of_ble_eq_true rfl⟩ (zg_retI (fun v2 h1 hE => ?_)) (zg_xok ok tab fin ⟨Nat.le_of_ble_eq_true rfl, Nat.le_of_ble_eq_true rfl⟩)
  refine zg_cost (kc2 := 0) (ks2 := 0) ⟨rfl, rfl⟩ ?_
  refine zg_if_ne (tgt := 42) ok dX5_isFarFrom_14 (by decide) hE (fun hE => ?_) (fun hE => ?_)
  · refine zg_iconst (v := 0) ok dX5_isFarFrom_42 (by decide) ?_
    exact zg_zret ok fin dX5_isFarFrom_43 ⟨Nat.le_of_ble_eq_true rfl, Nat.le_of_ble_eq_true rfl⟩ rfl hE
  · refine zg_iload_n ok dX5_isFarFrom_17 rfl 1 rfl ?_
    refine zg_iconst (v := 2) ok dX5_isFarFrom_18 (by decide) ?_
    refine zg_idivE ok dX5_isFarFrom_19 hE (fun hE => ?_)
    refine zg_aload_n ok dX5_isFarFrom_20 rfl 0 rfl ?_
    refine zg_getI ok lf_X5_15 dX5_isFarFrom_21 hE (fun v3 hE => ?_)
    refine zg_iconst (v := 2) ok dX5_isFarFrom_24 (by decide) ?_
    refine zg_idivE ok dX5_isFarFrom_25 hE (fun hE => ?_)
    refine zg_isub ok dX5_isFarFrom_26 ?_
    refine zg_i2l ok dX5_isFarFrom_27 ?_
    refine zg_ldc2 (v := (-1 : Int64)) ok q1727 dX5_isFarFrom_28 ?_
    refine zg_lconst (v := 1) ok dX5_isFarFrom_31 (by decide) ?_
    refine zg_callSN (vs := [zJ (((a1 / 2) - (v3 / 2)).toInt64), zJ (-1 : Int64), zJ 1]) (rest := []) (rm := rm_X1_in) ok hRm lk_X5_26 dX5_isFarFrom_32 hE (fun hE => mt_X1_in hl hE) rfl (Nat.le_of_ble_eq_true rfl) ⟨⟨Nat.le_of_ble_eq_true rfl, Nat.le_of_ble_eq_true rfl⟩, Nat.le_of_ble_eq_true rfl, Nat.le_of_ble_eq_true rfl⟩ (zg_retI (fun v4 h2 hE => ?_)) (zg_xok ok tab fin ⟨Nat.le_of_ble_eq_true rfl, Nat.le_of_ble_eq_true rfl⟩)
    refine zg_cost (kc2 := 0) (ks2 := 0) ⟨rfl, rfl⟩ ?_
    refine zg_if_eq (tgt := 42) ok dX5_isFarFrom_35 (by decide) hE (fun hE => ?_) (fun hE => ?_)
    · refine zg_iconst (v := 0) ok dX5_isFarFrom_42 (by decide) ?_
      exact zg_zret ok fin dX5_isFarFrom_43 ⟨Nat.le_of_ble_eq_true rfl, Nat.le_of_ble_eq_true rfl⟩ rfl hE
    · refine zg_iconst (v := 1) ok dX5_isFarFrom_38 (by decide) ?_
      refine zg_goto (tgt := 43) ok dX5_isFarFrom_39 (by decide) ?_
      exact zg_zret ok fin dX5_isFarFrom_43 ⟨Nat.le_of_ble_eq_true rfl, Nat.le_of_ble_eq_true rfl⟩ rfl hE
set_option maxHeartbeats 8000000 in
theorem gt_f_X4_laysFar_2_J84 {Xc : zw_X} {Q : zw_H → Prop} {X : String → Nat → zw_H → Prop} (hl : (zw_l Xc).stackTraces = false) (ok : zw_ok Xc cX4_laysFar_2 "MultipoleLine$Line" yX4_laysFar_2.name 6) (tab : zw_tab Xc []) (fin : zw_fin Xc (Option.none : Option Jvm.ClassFile.FieldType) (zq_V Q) X 0 0) (hRm : zw_rm Xc = rm_X4_laysFar_2) {kc ks : Nat} (hb : kc ≤ 0 ∧ ks ≤ 0) {R : Int32 → zw_H → Prop} {l0 : Option Nat} {l1 : Int32} {l3 : Int32} (hR : ∀ (l4 : Int32) (h : zw_H), R l4 h → zw_G Xc kc ks 6 h 19 [(0, va_rf l0), (1, .int l1), (3, .int l3), (4, .int l4)] []) {k90 : zw_H → Prop} (hk90 : ∀  (h : zw_H), k90  h → zw_G Xc kc ks 6 h 90 [] [])  {l4 : Int32}  {h : zw_H} (hE : f_X4_laysFar_2_J84 (zw_Zf Xc).2.2.2 Q X R k90 l0 l1 l3 l4 h) : zw_G Xc kc ks 6 h 84 [(0, va_rf l0), (1, .int l1), (3, .int l3), (4, .int l4)] [] := by
  unfold f_X4_laysFar_2_J84 at hE
  refine zg_iincL (k := 3) (L' := fun v7 => [(4, .int v7), (0, va_rf l0), (1, .int l1), (3, .int l3)]) ok dX4_laysFar_2_84 (by decide +kernel) hE rfl (by decide) (fun _ => rfl) (fun v7 hE => ?_)
  refine zg_goto (tgt := 19) ok dX4_laysFar_2_87 (by decide) ?_
  refine zg_sub (L' := [(0, va_rf l0), (1, .int l1), (3, .int l3), (4, .int v7)]) [1, 2, 3, 0] rfl ?_
  exact hR _ _ hE
set_option maxHeartbeats 8000000 in
theorem gt_f_X4_laysFar_2_B19 {Xc : zw_X} {Q : zw_H → Prop} {X : String → Nat → zw_H → Prop} (hl : (zw_l Xc).stackTraces = false) (ok : zw_ok Xc cX4_laysFar_2 "MultipoleLine$Line" yX4_laysFar_2.name 6) (tab : zw_tab Xc []) (fin : zw_fin Xc (Option.none : Option Jvm.ClassFile.FieldType) (zq_V Q) X 0 0) (hRm : zw_rm Xc = rm_X4_laysFar_2) {kc ks : Nat} (hb : kc ≤ 0 ∧ ks ≤ 0) {R : Int32 → zw_H → Prop} {l0 : Option Nat} {l1 : Int32} {l3 : Int32} (hR : ∀ (l4 : Int32) (h : zw_H), R l4 h → zw_G Xc kc ks 6 h 19 [(0, va_rf l0), (1, .int l1), (3, .int l3), (4, .int l4)] []) {k90 : zw_H → Prop} (hk90 : ∀  (h : zw_H), k90  h → zw_G Xc kc ks 6 h 90 [] [])  {l4 : Int32} {h : zw_H} (hE : f_X4_laysFar_2_B19 (zw_Zf Xc).2.2.2 Q X k90 l0 l1 l3 R l4 h) : zw_G Xc kc ks 6 h 19 [(0, va_rf l0), (1, .int l1), (3, .int l3), (4, .int l4)] [] := by
  unfold f_X4_laysFar_2_B19 at hE
  refine zg_iload ok dX4_laysFar_2_19 3 rfl ?_
  refine zg_iconst (v := 1) ok dX4_laysFar_2_21 (by decide) ?_
  refine zg_iload_n ok dX4_laysFar_2_22 rfl 1 rfl ?_
  refine zg_ishl ok dX4_laysFar_2_23 ?_
  refine zg_iload_n ok dX4_laysFar_2_24 rfl 2 rfl ?_
  refine zg_iconst (v := 4) ok dX4_laysFar_2_25 (by decide) ?_
  refine zg_iadd ok dX4_laysFar_2_26 ?_
  refine zg_callS (vs := [zI ((1 : Int32) <<< (l1 &&& 31)), zI (l3 + 4)]) (rest := [.int l4]) (rm := rm_J14_min) ok hRm lk_X4_179 dX4_laysFar_2_27 hE (fun hE => mt_J14_min hl hE) rfl (Nat.le_of_ble_eq_true rfl) ⟨⟨Nat.le_of_ble_eq_true rfl, Nat.le_of_ble_eq_true rfl⟩, (by show kc + 0 ≤ 0; omega), (by show ks + 0 ≤ 0; omega)⟩ (zg_retI (fun v4 h3 hE => ?_)) (zg_xok ok tab fin ⟨(by show kc + 0 ≤ 0; omega), (by show ks + 0 ≤ 0; omega)⟩)
  refine zg_cost (kc2 := kc) (ks2 := ks) ⟨(by show kc + 0 = kc; omega), (by show ks + 0 = ks; omega)⟩ ?_
  refine zg_icmp_ge (tgt := 90) ok dX4_laysFar_2_30 (by decide) hE (fun hE => ?_) (fun hE => ?_)
  · refine zg_sub (L' := []) [] rfl ?_
    exact hk90 _ hE
  · refine zg_aload_n ok dX4_laysFar_2_33 rfl 0 rfl ?_
    refine zg_iload_n ok dX4_laysFar_2_34 rfl 1 rfl ?_
    refine zg_iload ok dX4_laysFar_2_35 3 rfl ?_
    refine zg_callV (vs := [zI l1, zI l4]) (rest := []) (rm := rm_X4_box) ok hRm lk_X4_142 dX4_laysFar_2_37 hE (fun hE => mt_X4_box hl hE) rfl (Nat.le_of_ble_eq_true rfl) ⟨⟨Nat.le_of_ble_eq_true rfl, Nat.le_of_ble_eq_true rfl⟩, (by show kc + 0 ≤ 0; omega), (by show ks + 0 ≤ 0; omega)⟩ (zg_retA (fun v5 h4 hE => ?_)) (zg_xok ok tab fin ⟨(by show kc + 0 ≤ 0; omega), (by show ks + 0 ≤ 0; omega)⟩)
    refine zg_cost (kc2 := kc) (ks2 := ks) ⟨(by show kc + 0 = kc; omega), (by show ks + 0 = ks; omega)⟩ ?_
    refine zg_astore (L' := [(5, va_rf v5), (0, va_rf l0), (1, .int l1), (3, .int l3), (4, .int l4)]) ok dX4_laysFar_2_40 (by decide) rfl ?_
    refine zg_aload ok dX4_laysFar_2_42 0 rfl ?_
    refine zg_iload_n ok dX4_laysFar_2_44 rfl 3 rfl ?_
    refine zg_callV (vs := [zI l3]) (rest := []) (rm := rm_X5_isFarFrom) ok hRm lk_X4_182 dX4_laysFar_2_45 hE (fun hE => mt_X5_isFarFrom hl hE) rfl (Nat.le_of_ble_eq_true rfl) ⟨⟨Nat.le_of_ble_eq_true rfl, Nat.le_of_ble_eq_true rfl⟩, (by show kc + 0 ≤ 0; omega), (by show ks + 0 ≤ 0; omega)⟩ (zg_retI (fun v6 h5 hE => ?_)) (zg_xok ok tab fin ⟨(by show kc + 0 ≤ 0; omega), (by show ks + 0 ≤ 0; omega)⟩)
    refine zg_cost (kc2 := kc) (ks2 := ks) ⟨(by show kc + 0 = kc; omega), (by show ks + 0 = ks; omega)⟩ ?_
    refine zg_if_eq (tgt := 84) ok dX4_laysFar_2_48 (by decide) hE (fun hE => ?_) (fun hE => ?_)
    · refine zg_sub (L' := [(0, va_rf l0), (1, .int l1), (3, .int l3), (4, .int l4)]) [1, 2, 3, 4] rfl ?_
      exact gt_f_X4_laysFar_2_J84 hl ok tab fin hRm hb hR hk90 hE
    · refine zg_aload_n ok dX4_laysFar_2_51 rfl 1 rfl ?_
      refine zg_aload ok dX4_laysFar_2_52 0 rfl ?_
      refine zg_callV (vs := [zA v5]) (rest := []) (rm := rm_X4_bodiesIn) ok hRm lk_X4_185 dX4_laysFar_2_54 hE (fun hE => mt_X4_bodiesIn hl hE) rfl (Nat.le_of_ble_eq_true rfl) ⟨⟨Nat.le_of_ble_eq_true rfl, Nat.le_of_ble_eq_true rfl⟩, (by show kc + 0 ≤ 0; omega), (by show ks + 0 ≤ 0; omega)⟩ (zg_retI (fun v8 h6 hE => ?_)) (zg_xok ok tab fin ⟨(by show kc + 0 ≤ 0; omega), (by show ks + 0 ≤ 0; omega)⟩)
      refine zg_cost (kc2 := kc) (ks2 := ks) ⟨(by show kc + 0 = kc; omega), (by show ks + 0 = ks; omega)⟩ ?_
      refine zg_if_ne (tgt := 63) ok dX4_laysFar_2_57 (by decide) hE (fun hE => ?_) (fun hE => ?_)
      · refine zg_aload_n ok dX4_laysFar_2_63 rfl 1 rfl ?_
        refine zg_getA ok lf_X4_26 dX4_laysFar_2_64 hE (fun v9 hE => ?_)
        refine zg_aload_n ok dX4_laysFar_2_67 rfl 1 rfl ?_
        refine zg_getI ok lf_X4_189 dX4_laysFar_2_68 hE (fun v10 hE => ?_)
        refine zg_aload ok dX4_laysFar_2_71 0 rfl ?_
        refine zg_aastB ok lt_6 dX4_laysFar_2_73 hE (fun h7 hE => ?_)
        refine zg_aload_n ok dX4_laysFar_2_74 rfl 1 rfl ?_
        refine zg_dup ok dX4_laysFar_2_75 (zw_rfc _) ?_
        refine zg_getI ok lf_X4_189 dX4_laysFar_2_76 hE (fun v11 hE => ?_)
        refine zg_iconst (v := 1) ok dX4_laysFar_2_79 (by decide) ?_
        refine zg_iadd ok dX4_laysFar_2_80 ?_
        refine zg_put (ty := .int) ok lf_X4_189 (Or.inl rfl) (by decide) (by decide +kernel) rfl rfl dX4_laysFar_2_81 hE (fun h8 hE => ?_)
        refine zg_sub (L' := [(0, va_rf l0), (1, .int l1), (3, .int l3), (4, .int l4)]) [1, 2, 3, 4] rfl ?_
        exact gt_f_X4_laysFar_2_J84 hl ok tab fin hRm hb hR hk90 hE
      · refine zg_goto (tgt := 84) ok dX4_laysFar_2_60 (by decide) ?_
        refine zg_sub (L' := [(0, va_rf l0), (1, .int l1), (3, .int l3), (4, .int l4)]) [1, 2, 3, 4] rfl ?_
        exact gt_f_X4_laysFar_2_J84 hl ok tab fin hRm hb hR hk90 hE
theorem gt_f_X4_laysFar_2_L19 {Xc : zw_X} {Q : zw_H → Prop} {X : String → Nat → zw_H → Prop} (hl : (zw_l Xc).stackTraces = false) (ok : zw_ok Xc cX4_laysFar_2 "MultipoleLine$Line" yX4_laysFar_2.name 6) (tab : zw_tab Xc []) (fin : zw_fin Xc (Option.none : Option Jvm.ClassFile.FieldType) (zq_V Q) X 0 0) (hRm : zw_rm Xc = rm_X4_laysFar_2) {kc ks : Nat} (hb : kc ≤ 0 ∧ ks ≤ 0) {l0 : Option Nat} {l1 : Int32} {l3 : Int32} {k90 : zw_H → Prop} (hk90 : ∀  (h : zw_H), k90  h → zw_G Xc kc ks 6 h 90 [] [])  : ∀ (n9 : Nat) (l4 : Int32) (h : zw_H), zl2 (f_X4_laysFar_2_B19 (zw_Zf Xc).2.2.2 Q X k90 l0 l1 l3) n9 l4 h → zw_G Xc kc ks 6 h 19 [(0, va_rf l0), (1, .int l1), (3, .int l3), (4, .int l4)] [] := by
  intro n9
  induction n9 with
  | zero => intro l4 h hE; exact hE.elim
  | succ n9 ih => intro l4 h hE; exact gt_f_X4_laysFar_2_B19 hl ok tab fin hRm hb ih hk90 hE
set_option maxHeartbeats 8000000 in
theorem mt_X4_laysFar_2 {l : Launch} (hl : l.stackTraces = false) {Z : zw_Z} {a0 : Option Nat} {a1 : Int32} {a2 : Int32} {h : zw_H} {Q : zw_H → Prop} {X : String → Nat → zw_H → Prop} (hE : f_X4_laysFar_2 Z.2.2.2 a0 a1 a2 h Q X) : zw_Met l Z yX4_laysFar_2 (ws_ yX4_laysFar_2 cX4_laysFar_2 6 (Option.none : Option Jvm.ClassFile.FieldType)) rm_X4_laysFar_2 [zA a0, zI a1, zI a2] h (zq_V Q) X := by
  refine zg_start (own := "MultipoleLine$Line") (by decide +kernel) rfl (Nat.le_of_ble_eq_true rfl) hl (fun Xc ok tab fin hRm hXl hXZ => ?_)
  subst hXl
  subst hXZ
  unfold f_X4_laysFar_2 at hE
  refine zg_aload_n ok dX4_laysFar_2_0 rfl 0 rfl ?_
  refine zg_iload_n ok dX4_laysFar_2_1 rfl 1 rfl ?_
  refine zg_iload_n ok dX4_laysFar_2_2 rfl 2 rfl ?_
  refine zg_callV (vs := [zI a1, zI a2]) (rest := []) (rm := rm_X4_around) ok hRm lk_X4_98 dX4_laysFar_2_3 hE (fun hE => mt_X4_around hl hE) rfl (Nat.le_of_ble_eq_true rfl) ⟨⟨Nat.le_of_ble_eq_true rfl, Nat.le_of_ble_eq_true rfl⟩, Nat.le_of_ble_eq_true rfl, Nat.le_of_ble_eq_true rfl⟩ (zg_retA (fun v1 h1 hE => ?_)) (zg_xok ok tab fin ⟨Nat.le_of_ble_eq_true rfl, Nat.le_of_ble_eq_true rfl⟩)
  refine zg_cost (kc2 := 0) (ks2 := 0) ⟨rfl, rfl⟩ ?_
  refine zg_getI ok lf_X4_119 dX4_laysFar_2_6 hE (fun v2 hE => ?_)
  refine zg_istore_n (L' := [(3, .int v2), (0, va_rf a0), (1, .int a1), (2, .int a2)]) ok dX4_laysFar_2_9 rfl (by decide) rfl ?_
  refine zg_iconst (v := 0) ok dX4_laysFar_2_10 (by decide) ?_
  refine zg_iload_n ok dX4_laysFar_2_11 rfl 0 rfl ?_
  refine zg_iconst (v := 3) ok dX4_laysFar_2_12 (by decide) ?_
  refine zg_isub ok dX4_laysFar_2_13 ?_
  refine zg_callS (vs := [zI 0, zI (v2 - 3)]) (rest := []) (rm := rm_J14_max) ok hRm lk_X4_175 dX4_laysFar_2_14 hE (fun hE => mt_J14_max hl hE) rfl (Nat.le_of_ble_eq_true rfl) ⟨⟨Nat.le_of_ble_eq_true rfl, Nat.le_of_ble_eq_true rfl⟩, Nat.le_of_ble_eq_true rfl, Nat.le_of_ble_eq_true rfl⟩ (zg_retI (fun v3 h2 hE => ?_)) (zg_xok ok tab fin ⟨Nat.le_of_ble_eq_true rfl, Nat.le_of_ble_eq_true rfl⟩)
  refine zg_cost (kc2 := 0) (ks2 := 0) ⟨rfl, rfl⟩ ?_
  refine zg_istore (L' := [(4, .int v3), (3, .int v2), (0, va_rf a0), (1, .int a1), (2, .int a2)]) ok dX4_laysFar_2_17 (by decide) rfl ?_
  refine zg_sub (L' := [(0, va_rf a0), (1, .int a1), (3, .int v2), (4, .int v3)]) [2, 3, 1, 0] rfl ?_
  refine gt_f_X4_laysFar_2_L19 hl ok tab fin hRm ⟨Nat.le_of_ble_eq_true rfl, Nat.le_of_ble_eq_true rfl⟩ ?_ _ _ _ hE
  · intro h9 hE
    exact zg_vret ok fin dX4_laysFar_2_90 ⟨Nat.le_of_ble_eq_true rfl, Nat.le_of_ble_eq_true rfl⟩ hE
set_option maxHeartbeats 8000000 in
theorem gt_f_X4_laysFar_B7 {Xc : zw_X} {Q : Int32 → zw_H → Prop} {X : String → Nat → zw_H → Prop} (hl : (zw_l Xc).stackTraces = false) (ok : zw_ok Xc cX4_laysFar "MultipoleLine$Line" yX4_laysFar.name 3) (tab : zw_tab Xc []) (fin : zw_fin Xc (Option.some Jvm.ClassFile.FieldType.int) (zq_I Q) X 0 0) (hRm : zw_rm Xc = rm_X4_laysFar) {kc ks : Nat} (hb : kc ≤ 0 ∧ ks ≤ 0) {R : Int32 → zw_H → Prop} {l0 : Option Nat} {l1 : Int32} (hR : ∀ (l2 : Int32) (h : zw_H), R l2 h → zw_G Xc kc ks 3 h 7 [(0, va_rf l0), (1, .int l1), (2, .int l2)] []) {k27 : zw_H → Prop} (hk27 : ∀  (h : zw_H), k27  h → zw_G Xc kc ks 3 h 27 [(0, va_rf l0)] [])  {l2 : Int32} {h : zw_H} (hE : f_X4_laysFar_B7 (zw_Zf Xc).2.2.2 Q X k27 l0 l1 R l2 h) : zw_G Xc kc ks 3 h 7 [(0, va_rf l0), (1, .int l1), (2, .int l2)] [] := by
  unfold f_X4_laysFar_B7 at hE
  refine zg_iload_n ok dX4_laysFar_7 rfl 2 rfl ?_
  refine zg_aload_n ok dX4_laysFar_8 rfl 0 rfl ?_
  refine zg_getI ok lf_X4_57 dX4_laysFar_9 hE (fun v1 hE => ?_)
  refine zg_icmp_gt (tgt := 27) ok dX4_laysFar_12 (by decide) hE (fun hE => ?_) (fun hE => ?_)
  · refine zg_sub (L' := [(0, va_rf l0)]) [0] rfl ?_
    exact hk27 _ hE
  · refine zg_aload_n ok dX4_laysFar_15 rfl 0 rfl ?_
    refine zg_iload_n ok dX4_laysFar_16 rfl 2 rfl ?_
    refine zg_iload_n ok dX4_laysFar_17 rfl 1 rfl ?_
    refine zg_callV (vs := [zI l2, zI l1]) (rest := []) (rm := rm_X4_laysFar_2) ok hRm lk_X4_192 dX4_laysFar_18 hE (fun hE => mt_X4_laysFar_2 hl hE) rfl (Nat.le_of_ble_eq_true rfl) ⟨⟨Nat.le_of_ble_eq_true rfl, Nat.le_of_ble_eq_true rfl⟩, (by show kc + 0 ≤ 0; omega), (by show ks + 0 ≤ 0; omega)⟩ (zg_retV (fun h2 hE => ?_)) (zg_xok ok tab fin ⟨(by show kc + 0 ≤ 0; omega), (by show ks + 0 ≤ 0; omega)⟩)
    refine zg_cost (kc2 := kc) (ks2 := ks) ⟨(by show kc + 0 = kc; omega), (by show ks + 0 = ks; omega)⟩ ?_
    refine zg_iincL (k := 2) (L' := fun v2 => [(2, .int v2), (0, va_rf l0), (1, .int l1)]) ok dX4_laysFar_21 (by decide +kernel) hE rfl (by decide) (fun _ => rfl) (fun v2 hE => ?_)
    refine zg_goto (tgt := 7) ok dX4_laysFar_24 (by decide) ?_
    refine zg_sub (L' := [(0, va_rf l0), (1, .int l1), (2, .int v2)]) [1, 2, 0] rfl ?_
    exact hR _ _ hE
theorem gt_f_X4_laysFar_L7 {Xc : zw_X} {Q : Int32 → zw_H → Prop} {X : String → Nat → zw_H → Prop} (hl : (zw_l Xc).stackTraces = false) (ok : zw_ok Xc cX4_laysFar "MultipoleLine$Line" yX4_laysFar.name 3) (tab : zw_tab Xc []) (fin : zw_fin Xc (Option.some Jvm.ClassFile.FieldType.int) (zq_I Q) X 0 0) (hRm : zw_rm Xc = rm_X4_laysFar) {kc ks : Nat} (hb : kc ≤ 0 ∧ ks ≤ 0) {l0 : Option Nat} {l1 : Int32} {k27 : zw_H → Prop} (hk27 : ∀  (h : zw_H), k27  h → zw_G Xc kc ks 3 h 27 [(0, va_rf l0)] [])  : ∀ (n9 : Nat) (l2 : Int32) (h : zw_H), zl2 (f_X4_laysFar_B7 (zw_Zf Xc).2.2.2 Q X k27 l0 l1) n9 l2 h → zw_G Xc kc ks 3 h 7 [(0, va_rf l0), (1, .int l1), (2, .int l2)] [] := by
  intro n9
  induction n9 with
  | zero => intro l2 h hE; exact hE.elim
  | succ n9 ih => intro l2 h hE; exact gt_f_X4_laysFar_B7 hl ok tab fin hRm hb ih hk27 hE
set_option maxHeartbeats 8000000 in
theorem mt_X4_laysFar {l : Launch} (hl : l.stackTraces = false) {Z : zw_Z} {a0 : Option Nat} {a1 : Int32} {h : zw_H} {Q : Int32 → zw_H → Prop} {X : String → Nat → zw_H → Prop} (hE : f_X4_laysFar Z.2.2.2 a0 a1 h Q X) : zw_Met l Z yX4_laysFar (ws_ yX4_laysFar cX4_laysFar 3 (Option.some Jvm.ClassFile.FieldType.int)) rm_X4_laysFar [zA a0, zI a1] h (zq_I Q) X := by
  refine zg_start (own := "MultipoleLine$Line") (by decide +kernel) rfl (Nat.le_of_ble_eq_true rfl) hl (fun Xc ok tab fin hRm hXl hXZ => ?_)
  subst hXl
  subst hXZ
  unfold f_X4_laysFar at hE
  refine zg_aload_n ok dX4_laysFar_0 rfl 0 rfl ?_
  refine zg_iconst (v := 0) ok dX4_laysFar_1 (by decide) ?_
  refine zg_put (ty := .int) ok lf_X4_189 (Or.inl rfl) (by decide) (by decide +kernel) rfl rfl dX4_laysFar_2 hE (fun h1 hE => ?_)
  refine zg_iconst (v := 2) ok dX4_laysFar_5 (by decide) ?_
  refine zg_istore_n (L' := [(2, .int 2), (0, va_rf a0), (1, .int a1)]) ok dX4_laysFar_6 rfl (by decide) rfl ?_
  refine zg_sub (L' := [(0, va_rf a0), (1, .int a1), (2, .int 2)]) [1, 2, 0] rfl ?_
  refine gt_f_X4_laysFar_L7 hl ok tab fin hRm ⟨Nat.le_of_ble_eq_true rfl, Nat.le_of_ble_eq_true rfl⟩ ?_ _ _ _ hE
  · intro h3 hE
    refine zg_aload_n ok dX4_laysFar_27 rfl 0 rfl ?_
    refine zg_getI ok lf_X4_189 dX4_laysFar_28 hE (fun v3 hE => ?_)
    exact zg_iret ok fin dX4_laysFar_31 ⟨Nat.le_of_ble_eq_true rfl, Nat.le_of_ble_eq_true rfl⟩ hE
set_option maxHeartbeats 8000000 in
theorem mt_X1_farMany {l : Launch} (hl : l.stackTraces = false) {Z : zw_Z} {a0 : Option Nat} {a1 : Int32} {h : zw_H} {Q : Int32 → zw_H → Prop} {X : String → Nat → zw_H → Prop} (hE : f_X1_farMany Z.2.2.2 a0 a1 h Q X) : zw_Met l Z yX1_farMany (ws_ yX1_farMany cX1_farMany 2 (Option.some Jvm.ClassFile.FieldType.int)) rm_X1_farMany [zA a0, zI a1] h (zq_I Q) X := by
  refine zg_start (own := "MultipoleLine") (by decide +kernel) rfl (Nat.le_of_ble_eq_true rfl) hl (fun Xc ok tab fin hRm hXl hXZ => ?_)
  subst hXl
  subst hXZ
  unfold f_X1_farMany at hE
  refine zg_aload_n ok dX1_farMany_0 rfl 0 rfl ?_
  refine zg_iload_n ok dX1_farMany_1 rfl 1 rfl ?_
  refine zg_callV (vs := [zI a1]) (rest := []) (rm := rm_X1_at) ok hRm lk_X1_193 dX1_farMany_2 hE (fun hE => mt_X1_at hl hE) rfl (Nat.le_of_ble_eq_true rfl) ⟨⟨Nat.le_of_ble_eq_true rfl, Nat.le_of_ble_eq_true rfl⟩, Nat.le_of_ble_eq_true rfl, Nat.le_of_ble_eq_true rfl⟩ (zg_retA (fun v1 h1 hE => ?_)) (zg_xok ok tab fin ⟨Nat.le_of_ble_eq_true rfl, Nat.le_of_ble_eq_true rfl⟩)
  refine zg_cost (kc2 := 2) (ks2 := 12) ⟨rfl, rfl⟩ ?_
  refine zg_iload_n ok dX1_farMany_5 rfl 1 rfl ?_
  refine zg_callV (vs := [zI a1]) (rest := []) (rm := rm_X4_laysFar) ok hRm lk_X1_270 dX1_farMany_6 hE (fun hE => mt_X4_laysFar hl hE) rfl (Nat.le_of_ble_eq_true rfl) ⟨⟨Nat.le_of_ble_eq_true rfl, Nat.le_of_ble_eq_true rfl⟩, Nat.le_of_ble_eq_true rfl, Nat.le_of_ble_eq_true rfl⟩ (zg_retI (fun v2 h2 hE => ?_)) (zg_xok ok tab fin ⟨Nat.le_of_ble_eq_true rfl, Nat.le_of_ble_eq_true rfl⟩)
  refine zg_cost (kc2 := 2) (ks2 := 12) ⟨rfl, rfl⟩ ?_
  exact zg_iret ok fin dX1_farMany_9 ⟨Nat.le_of_ble_eq_true rfl, Nat.le_of_ble_eq_true rfl⟩ hE
set_option maxHeartbeats 8000000 in
theorem mt_X1_farBox {l : Launch} (hl : l.stackTraces = false) {Z : zw_Z} {a0 : Option Nat} {a1 : Int32} {a2 : Int32} {h : zw_H} {Q : Int32 → zw_H → Prop} {X : String → Nat → zw_H → Prop} (hE : f_X1_farBox Z.2.2.2 a0 a1 a2 h Q X) : zw_Met l Z yX1_farBox (ws_ yX1_farBox cX1_farBox 4 (Option.some Jvm.ClassFile.FieldType.int)) rm_X1_farBox [zA a0, zI a1, zI a2] h (zq_I Q) X := by
  refine zg_start (own := "MultipoleLine") (by decide +kernel) rfl (Nat.le_of_ble_eq_true rfl) hl (fun Xc ok tab fin hRm hXl hXZ => ?_)
  subst hXl
  subst hXZ
  unfold f_X1_farBox at hE
  refine zg_aload_n ok dX1_farBox_0 rfl 0 rfl ?_
  refine zg_iload_n ok dX1_farBox_1 rfl 1 rfl ?_
  refine zg_callV (vs := [zI a1]) (rest := []) (rm := rm_X1_at) ok hRm lk_X1_193 dX1_farBox_2 hE (fun hE => mt_X1_at hl hE) rfl (Nat.le_of_ble_eq_true rfl) ⟨⟨Nat.le_of_ble_eq_true rfl, Nat.le_of_ble_eq_true rfl⟩, Nat.le_of_ble_eq_true rfl, Nat.le_of_ble_eq_true rfl⟩ (zg_retA (fun v1 h1 hE => ?_)) (zg_xok ok tab fin ⟨Nat.le_of_ble_eq_true rfl, Nat.le_of_ble_eq_true rfl⟩)
  refine zg_cost (kc2 := 2) (ks2 := 12) ⟨rfl, rfl⟩ ?_
  refine zg_astore_n (L' := [(3, va_rf v1), (0, va_rf a0), (1, .int a1), (2, .int a2)]) ok dX1_farBox_5 rfl (by decide) rfl ?_
  refine zg_iload_n ok dX1_farBox_6 rfl 3 rfl ?_
  refine zg_i2l ok dX1_farBox_7 ?_
  refine zg_lconst (v := 0) ok dX1_farBox_8 (by decide) ?_
  refine zg_aload_n ok dX1_farBox_9 rfl 0 rfl ?_
  refine zg_iload_n ok dX1_farBox_10 rfl 2 rfl ?_
  refine zg_callV (vs := [zI a1]) (rest := [.long 0, .long a2.toInt64]) (rm := rm_X4_laysFar) ok hRm lk_X1_270 dX1_farBox_11 hE (fun hE => mt_X4_laysFar hl hE) rfl (Nat.le_of_ble_eq_true rfl) ⟨⟨Nat.le_of_ble_eq_true rfl, Nat.le_of_ble_eq_true rfl⟩, Nat.le_of_ble_eq_true rfl, Nat.le_of_ble_eq_true rfl⟩ (zg_retI (fun v2 h2 hE => ?_)) (zg_xok ok tab fin ⟨Nat.le_of_ble_eq_true rfl, Nat.le_of_ble_eq_true rfl⟩)
  refine zg_cost (kc2 := 2) (ks2 := 12) ⟨rfl, rfl⟩ ?_
  refine zg_iconst (v := 1) ok dX1_farBox_14 (by decide) ?_
  refine zg_isub ok dX1_farBox_15 ?_
  refine zg_i2l ok dX1_farBox_16 ?_
  refine zg_callS (vs := [zJ a2.toInt64, zJ 0, zJ ((v2 - 1).toInt64)]) (rest := []) (rm := rm_X1_in) ok hRm lk_X1_58 dX1_farBox_17 hE (fun hE => mt_X1_in hl hE) rfl (Nat.le_of_ble_eq_true rfl) ⟨⟨Nat.le_of_ble_eq_true rfl, Nat.le_of_ble_eq_true rfl⟩, Nat.le_of_ble_eq_true rfl, Nat.le_of_ble_eq_true rfl⟩ (zg_retI (fun v3 h3 hE => ?_)) (zg_xok ok tab fin ⟨Nat.le_of_ble_eq_true rfl, Nat.le_of_ble_eq_true rfl⟩)
  refine zg_cost (kc2 := 2) (ks2 := 12) ⟨rfl, rfl⟩ ?_
  refine zg_if_eq (tgt := 48) ok dX1_farBox_20 (by decide) hE (fun hE => ?_) (fun hE => ?_)
  · refine zg_iconst (v := (-1)) ok dX1_farBox_48 (by decide) ?_
    exact zg_iret ok fin dX1_farBox_49 ⟨Nat.le_of_ble_eq_true rfl, Nat.le_of_ble_eq_true rfl⟩ hE
  · refine zg_bipush (v := 100) ok dX1_farBox_23 (by decide) ?_
    refine zg_aload_n ok dX1_farBox_25 rfl 0 rfl ?_
    refine zg_getA ok lf_X1_273 dX1_farBox_26 hE (fun v4 hE => ?_)
    refine zg_iload_n ok dX1_farBox_29 rfl 3 rfl ?_
    refine zg_aaldB ok dX1_farBox_30 hE (fun v5 hE => ?_)
    refine zg_getI ok lf_X1_277 dX1_farBox_31 hE (fun v6 hE => ?_)
    refine zg_imul ok dX1_farBox_34 ?_
    refine zg_aload_n ok dX1_farBox_35 rfl 0 rfl ?_
    refine zg_getA ok lf_X1_273 dX1_farBox_36 hE (fun v7 hE => ?_)
    refine zg_iload_n ok dX1_farBox_39 rfl 3 rfl ?_
    refine zg_aaldB ok dX1_farBox_40 hE (fun v8 hE => ?_)
    refine zg_getI ok lf_X1_188 dX1_farBox_41 hE (fun v9 hE => ?_)
    refine zg_iadd ok dX1_farBox_44 ?_
    refine zg_goto (tgt := 49) ok dX1_farBox_45 (by decide) ?_
    exact zg_iret ok fin dX1_farBox_49 ⟨Nat.le_of_ble_eq_true rfl, Nat.le_of_ble_eq_true rfl⟩ hE
set_option maxHeartbeats 8000000 in
theorem gt_f_X4_farBodies_B4 {Xc : zw_X} {Q : Int32 → zw_H → Prop} {X : String → Nat → zw_H → Prop} (hl : (zw_l Xc).stackTraces = false) (ok : zw_ok Xc cX4_farBodies "MultipoleLine$Line" yX4_farBodies.name 4) (tab : zw_tab Xc []) (fin : zw_fin Xc (Option.some Jvm.ClassFile.FieldType.int) (zq_I Q) X 0 0) (hRm : zw_rm Xc = rm_X4_farBodies) {kc ks : Nat} (hb : kc ≤ 0 ∧ ks ≤ 0) {R : Int32 → Int32 → zw_H → Prop} {l0 : Option Nat} {l1 : Int32} (hR : ∀ (l2 : Int32) (l3 : Int32) (h : zw_H), R l2 l3 h → zw_G Xc kc ks 4 h 4 [(0, va_rf l0), (1, .int l1), (2, .int l2), (3, .int l3)] []) {k32 : Int32 → zw_H → Prop} (hk32 : ∀ (l2 : Int32) (h : zw_H), k32 l2 h → zw_G Xc kc ks 4 h 32 [(2, .int l2)] [])  {l2 : Int32} {l3 : Int32} {h : zw_H} (hE : f_X4_farBodies_B4 (zw_Zf Xc).2.2.2 Q X k32 l0 l1 R l2 l3 h) : zw_G Xc kc ks 4 h 4 [(0, va_rf l0), (1, .int l1), (2, .int l2), (3, .int l3)] [] := by
  unfold f_X4_farBodies_B4 at hE
  refine zg_iload_n ok dX4_farBodies_4 rfl 3 rfl ?_
  refine zg_aload_n ok dX4_farBodies_5 rfl 0 rfl ?_
  refine zg_iload_n ok dX4_farBodies_6 rfl 1 rfl ?_
  refine zg_callV (vs := [zI l1]) (rest := [.int l3]) (rm := rm_X4_laysFar) ok hRm lk_X4_195 dX4_farBodies_7 hE (fun hE => mt_X4_laysFar hl hE) rfl (Nat.le_of_ble_eq_true rfl) ⟨⟨Nat.le_of_ble_eq_true rfl, Nat.le_of_ble_eq_true rfl⟩, (by show kc + 0 ≤ 0; omega), (by show ks + 0 ≤ 0; omega)⟩ (zg_retI (fun v1 h1 hE => ?_)) (zg_xok ok tab fin ⟨(by show kc + 0 ≤ 0; omega), (by show ks + 0 ≤ 0; omega)⟩)
  refine zg_cost (kc2 := kc) (ks2 := ks) ⟨(by show kc + 0 = kc; omega), (by show ks + 0 = ks; omega)⟩ ?_
  refine zg_icmp_ge (tgt := 32) ok dX4_farBodies_10 (by decide) hE (fun hE => ?_) (fun hE => ?_)
  · refine zg_sub (L' := [(2, .int l2)]) [2] rfl ?_
    exact hk32 _ _ hE
  · refine zg_iload_n ok dX4_farBodies_13 rfl 2 rfl ?_
    refine zg_aload_n ok dX4_farBodies_14 rfl 0 rfl ?_
    refine zg_aload_n ok dX4_farBodies_15 rfl 0 rfl ?_
    refine zg_getA ok lf_X4_26 dX4_farBodies_16 hE (fun v2 hE => ?_)
    refine zg_iload_n ok dX4_farBodies_19 rfl 3 rfl ?_
    refine zg_aaldB ok dX4_farBodies_20 hE (fun v3 hE => ?_)
    refine zg_callV (vs := [zA v3]) (rest := [.int l2]) (rm := rm_X4_bodiesIn) ok hRm lk_X4_185 dX4_farBodies_21 hE (fun hE => mt_X4_bodiesIn hl hE) rfl (Nat.le_of_ble_eq_true rfl) ⟨⟨Nat.le_of_ble_eq_true rfl, Nat.le_of_ble_eq_true rfl⟩, (by show kc + 0 ≤ 0; omega), (by show ks + 0 ≤ 0; omega)⟩ (zg_retI (fun v4 h2 hE => ?_)) (zg_xok ok tab fin ⟨(by show kc + 0 ≤ 0; omega), (by show ks + 0 ≤ 0; omega)⟩)
    refine zg_cost (kc2 := kc) (ks2 := ks) ⟨(by show kc + 0 = kc; omega), (by show ks + 0 = ks; omega)⟩ ?_
    refine zg_iadd ok dX4_farBodies_24 ?_
    refine zg_letI hE (fun v5 hE => ?_)
    refine zg_istore_n (L' := [(2, .int v5), (0, va_rf l0), (1, .int l1), (3, .int l3)]) ok dX4_farBodies_25 rfl (by decide) rfl ?_
    refine zg_iincL (k := 3) (L' := fun v6 => [(3, .int v6), (2, .int v5), (0, va_rf l0), (1, .int l1)]) ok dX4_farBodies_26 (by decide +kernel) hE rfl (by decide) (fun _ => rfl) (fun v6 hE => ?_)
    refine zg_goto (tgt := 4) ok dX4_farBodies_29 (by decide) ?_
    refine zg_sub (L' := [(0, va_rf l0), (1, .int l1), (2, .int v5), (3, .int v6)]) [2, 3, 1, 0] rfl ?_
    exact hR _ _ _ hE
theorem gt_f_X4_farBodies_L4 {Xc : zw_X} {Q : Int32 → zw_H → Prop} {X : String → Nat → zw_H → Prop} (hl : (zw_l Xc).stackTraces = false) (ok : zw_ok Xc cX4_farBodies "MultipoleLine$Line" yX4_farBodies.name 4) (tab : zw_tab Xc []) (fin : zw_fin Xc (Option.some Jvm.ClassFile.FieldType.int) (zq_I Q) X 0 0) (hRm : zw_rm Xc = rm_X4_farBodies) {kc ks : Nat} (hb : kc ≤ 0 ∧ ks ≤ 0) {l0 : Option Nat} {l1 : Int32} {k32 : Int32 → zw_H → Prop} (hk32 : ∀ (l2 : Int32) (h : zw_H), k32 l2 h → zw_G Xc kc ks 4 h 32 [(2, .int l2)] [])  : ∀ (n9 : Nat) (l2 : Int32) (l3 : Int32) (h : zw_H), zl3 (f_X4_farBodies_B4 (zw_Zf Xc).2.2.2 Q X k32 l0 l1) n9 l2 l3 h → zw_G Xc kc ks 4 h 4 [(0, va_rf l0), (1, .int l1), (2, .int l2), (3, .int l3)] [] := by
  intro n9
  induction n9 with
  | zero => intro l2 l3 h hE; exact hE.elim
  | succ n9 ih => intro l2 l3 h hE; exact gt_f_X4_farBodies_B4 hl ok tab fin hRm hb ih hk32 hE
set_option maxHeartbeats 8000000 in
theorem mt_X4_farBodies {l : Launch} (hl : l.stackTraces = false) {Z : zw_Z} {a0 : Option Nat} {a1 : Int32} {h : zw_H} {Q : Int32 → zw_H → Prop} {X : String → Nat → zw_H → Prop} (hE : f_X4_farBodies Z.2.2.2 a0 a1 h Q X) : zw_Met l Z yX4_farBodies (ws_ yX4_farBodies cX4_farBodies 4 (Option.some Jvm.ClassFile.FieldType.int)) rm_X4_farBodies [zA a0, zI a1] h (zq_I Q) X := by
  refine zg_start (own := "MultipoleLine$Line") (by decide +kernel) rfl (Nat.le_of_ble_eq_true rfl) hl (fun Xc ok tab fin hRm hXl hXZ => ?_)
  subst hXl
  subst hXZ
  unfold f_X4_farBodies at hE
  refine zg_iconst (v := 0) ok dX4_farBodies_0 (by decide) ?_
  refine zg_istore_n (L' := [(2, .int 0), (0, va_rf a0), (1, .int a1)]) ok dX4_farBodies_1 rfl (by decide) rfl ?_
  refine zg_iconst (v := 0) ok dX4_farBodies_2 (by decide) ?_
  refine zg_istore_n (L' := [(3, .int 0), (2, .int 0), (0, va_rf a0), (1, .int a1)]) ok dX4_farBodies_3 rfl (by decide) rfl ?_
  refine zg_sub (L' := [(0, va_rf a0), (1, .int a1), (2, .int 0), (3, .int 0)]) [2, 3, 1, 0] rfl ?_
  refine gt_f_X4_farBodies_L4 hl ok tab fin hRm ⟨Nat.le_of_ble_eq_true rfl, Nat.le_of_ble_eq_true rfl⟩ ?_ _ _ _ _ hE
  · intro v7 h3 hE
    refine zg_iload_n ok dX4_farBodies_32 rfl 0 rfl ?_
    exact zg_iret ok fin dX4_farBodies_33 ⟨Nat.le_of_ble_eq_true rfl, Nat.le_of_ble_eq_true rfl⟩ hE
set_option maxHeartbeats 8000000 in
theorem mt_X1_farBodies {l : Launch} (hl : l.stackTraces = false) {Z : zw_Z} {a0 : Option Nat} {a1 : Int32} {h : zw_H} {Q : Int32 → zw_H → Prop} {X : String → Nat → zw_H → Prop} (hE : f_X1_farBodies Z.2.2.2 a0 a1 h Q X) : zw_Met l Z yX1_farBodies (ws_ yX1_farBodies cX1_farBodies 2 (Option.some Jvm.ClassFile.FieldType.int)) rm_X1_farBodies [zA a0, zI a1] h (zq_I Q) X := by
  refine zg_start (own := "MultipoleLine") (by decide +kernel) rfl (Nat.le_of_ble_eq_true rfl) hl (fun Xc ok tab fin hRm hXl hXZ => ?_)
  subst hXl
  subst hXZ
  unfold f_X1_farBodies at hE
  refine zg_aload_n ok dX1_farBodies_0 rfl 0 rfl ?_
  refine zg_iload_n ok dX1_farBodies_1 rfl 1 rfl ?_
  refine zg_callV (vs := [zI a1]) (rest := []) (rm := rm_X1_at) ok hRm lk_X1_193 dX1_farBodies_2 hE (fun hE => mt_X1_at hl hE) rfl (Nat.le_of_ble_eq_true rfl) ⟨⟨Nat.le_of_ble_eq_true rfl, Nat.le_of_ble_eq_true rfl⟩, Nat.le_of_ble_eq_true rfl, Nat.le_of_ble_eq_true rfl⟩ (zg_retA (fun v1 h1 hE => ?_)) (zg_xok ok tab fin ⟨Nat.le_of_ble_eq_true rfl, Nat.le_of_ble_eq_true rfl⟩)
  refine zg_cost (kc2 := 2) (ks2 := 12) ⟨rfl, rfl⟩ ?_
  refine zg_iload_n ok dX1_farBodies_5 rfl 1 rfl ?_
  refine zg_callV (vs := [zI a1]) (rest := []) (rm := rm_X4_farBodies) ok hRm lk_X1_280 dX1_farBodies_6 hE (fun hE => mt_X4_farBodies hl hE) rfl (Nat.le_of_ble_eq_true rfl) ⟨⟨Nat.le_of_ble_eq_true rfl, Nat.le_of_ble_eq_true rfl⟩, Nat.le_of_ble_eq_true rfl, Nat.le_of_ble_eq_true rfl⟩ (zg_retI (fun v2 h2 hE => ?_)) (zg_xok ok tab fin ⟨Nat.le_of_ble_eq_true rfl, Nat.le_of_ble_eq_true rfl⟩)
  refine zg_cost (kc2 := 2) (ks2 := 12) ⟨rfl, rfl⟩ ?_
  exact zg_iret ok fin dX1_farBodies_9 ⟨Nat.le_of_ble_eq_true rfl, Nat.le_of_ble_eq_true rfl⟩ hE
set_option maxHeartbeats 8000000 in
theorem gt_f_X4_cost_J51 {Xc : zw_X} {Q : Int32 → zw_H → Prop} {X : String → Nat → zw_H → Prop} (hl : (zw_l Xc).stackTraces = false) (ok : zw_ok Xc cX4_cost "MultipoleLine$Line" yX4_cost.name 5) (tab : zw_tab Xc []) (fin : zw_fin Xc (Option.some Jvm.ClassFile.FieldType.int) (zq_I Q) X 0 0) (hRm : zw_rm Xc = rm_X4_cost) {kc ks : Nat} (hb : kc ≤ 0 ∧ ks ≤ 0) {R : Int32 → Int32 → zw_H → Prop} {l0 : Option Nat} {l1 : Int32} {l2 : Int32} (hR : ∀ (l3 : Int32) (l4 : Int32) (h : zw_H), R l3 l4 h → zw_G Xc kc ks 5 h 5 [(0, va_rf l0), (1, .int l1), (2, .int l2), (3, .int l3), (4, .int l4)] []) {k62 : Int32 → zw_H → Prop} (hk62 : ∀ (l3 : Int32) (h : zw_H), k62 l3 h → zw_G Xc kc ks 5 h 62 [(0, va_rf l0), (1, .int l1), (2, .int l2), (3, .int l3)] [])  {l4 : Int32} {s0 : Int32} {s1 : Int32} {h : zw_H} (hE : f_X4_cost_J51 (zw_Zf Xc).2.2.2 Q X R k62 l0 l1 l2 l4 s0 s1 h) : zw_G Xc kc ks 5 h 51 [(0, va_rf l0), (1, .int l1), (2, .int l2), (4, .int l4)] [.int s0, .int s1] := by
  unfold f_X4_cost_J51 at hE
  refine zg_callSN (vs := [zI s0]) (rest := [.int s1]) (rm := rm_X1_flag) ok hRm lk_X4_82 dX4_cost_51 hE (fun hE => mt_X1_flag hl hE) rfl (Nat.le_of_ble_eq_true rfl) ⟨⟨Nat.le_of_ble_eq_true rfl, Nat.le_of_ble_eq_true rfl⟩, (by show kc + 0 ≤ 0; omega), (by show ks + 0 ≤ 0; omega)⟩ (zg_retI (fun v4 h3 hE => ?_)) (zg_xok ok tab fin ⟨(by show kc + 0 ≤ 0; omega), (by show ks + 0 ≤ 0; omega)⟩)
  refine zg_cost (kc2 := kc) (ks2 := ks) ⟨(by show kc + 0 = kc; omega), (by show ks + 0 = ks; omega)⟩ ?_
  refine zg_iadd ok dX4_cost_54 ?_
  refine zg_letI hE (fun v5 hE => ?_)
  refine zg_istore_n (L' := [(3, .int v5), (0, va_rf l0), (1, .int l1), (2, .int l2), (4, .int l4)]) ok dX4_cost_55 rfl (by decide) rfl ?_
  refine zg_iincL (k := 4) (L' := fun v6 => [(4, .int v6), (3, .int v5), (0, va_rf l0), (1, .int l1), (2, .int l2)]) ok dX4_cost_56 (by decide +kernel) hE rfl (by decide) (fun _ => rfl) (fun v6 hE => ?_)
  refine zg_goto (tgt := 5) ok dX4_cost_59 (by decide) ?_
  refine zg_sub (L' := [(0, va_rf l0), (1, .int l1), (2, .int l2), (3, .int v5), (4, .int v6)]) [2, 3, 4, 1, 0] rfl ?_
  exact hR _ _ _ hE
set_option maxHeartbeats 8000000 in
theorem gt_f_X4_cost_J50 {Xc : zw_X} {Q : Int32 → zw_H → Prop} {X : String → Nat → zw_H → Prop} (hl : (zw_l Xc).stackTraces = false) (ok : zw_ok Xc cX4_cost "MultipoleLine$Line" yX4_cost.name 5) (tab : zw_tab Xc []) (fin : zw_fin Xc (Option.some Jvm.ClassFile.FieldType.int) (zq_I Q) X 0 0) (hRm : zw_rm Xc = rm_X4_cost) {kc ks : Nat} (hb : kc ≤ 0 ∧ ks ≤ 0) {R : Int32 → Int32 → zw_H → Prop} {l0 : Option Nat} {l1 : Int32} {l2 : Int32} (hR : ∀ (l3 : Int32) (l4 : Int32) (h : zw_H), R l3 l4 h → zw_G Xc kc ks 5 h 5 [(0, va_rf l0), (1, .int l1), (2, .int l2), (3, .int l3), (4, .int l4)] []) {k62 : Int32 → zw_H → Prop} (hk62 : ∀ (l3 : Int32) (h : zw_H), k62 l3 h → zw_G Xc kc ks 5 h 62 [(0, va_rf l0), (1, .int l1), (2, .int l2), (3, .int l3)] [])  {l4 : Int32} {s0 : Int32} {h : zw_H} (hE : f_X4_cost_J50 (zw_Zf Xc).2.2.2 Q X R k62 l0 l1 l2 l4 s0 h) : zw_G Xc kc ks 5 h 50 [(0, va_rf l0), (1, .int l1), (2, .int l2), (4, .int l4)] [.int s0] := by
  unfold f_X4_cost_J50 at hE
  refine zg_iconst (v := 0) ok dX4_cost_50 (by decide) ?_
  exact gt_f_X4_cost_J51 hl ok tab fin hRm hb hR hk62 hE
set_option maxHeartbeats 8000000 in
theorem gt_f_X4_cost_J46 {Xc : zw_X} {Q : Int32 → zw_H → Prop} {X : String → Nat → zw_H → Prop} (hl : (zw_l Xc).stackTraces = false) (ok : zw_ok Xc cX4_cost "MultipoleLine$Line" yX4_cost.name 5) (tab : zw_tab Xc []) (fin : zw_fin Xc (Option.some Jvm.ClassFile.FieldType.int) (zq_I Q) X 0 0) (hRm : zw_rm Xc = rm_X4_cost) {kc ks : Nat} (hb : kc ≤ 0 ∧ ks ≤ 0) {R : Int32 → Int32 → zw_H → Prop} {l0 : Option Nat} {l1 : Int32} {l2 : Int32} (hR : ∀ (l3 : Int32) (l4 : Int32) (h : zw_H), R l3 l4 h → zw_G Xc kc ks 5 h 5 [(0, va_rf l0), (1, .int l1), (2, .int l2), (3, .int l3), (4, .int l4)] []) {k62 : Int32 → zw_H → Prop} (hk62 : ∀ (l3 : Int32) (h : zw_H), k62 l3 h → zw_G Xc kc ks 5 h 62 [(0, va_rf l0), (1, .int l1), (2, .int l2), (3, .int l3)] [])  {l4 : Int32} {s0 : Int32} {h : zw_H} (hE : f_X4_cost_J46 (zw_Zf Xc).2.2.2 Q X R k62 l0 l1 l2 l4 s0 h) : zw_G Xc kc ks 5 h 46 [(0, va_rf l0), (1, .int l1), (2, .int l2), (4, .int l4)] [.int s0] := by
  unfold f_X4_cost_J46 at hE
  refine zg_iconst (v := 1) ok dX4_cost_46 (by decide) ?_
  refine zg_goto (tgt := 51) ok dX4_cost_47 (by decide) ?_
  exact gt_f_X4_cost_J51 hl ok tab fin hRm hb hR hk62 hE
set_option maxHeartbeats 8000000 in
theorem gt_f_X4_cost_B5 {Xc : zw_X} {Q : Int32 → zw_H → Prop} {X : String → Nat → zw_H → Prop} (hl : (zw_l Xc).stackTraces = false) (ok : zw_ok Xc cX4_cost "MultipoleLine$Line" yX4_cost.name 5) (tab : zw_tab Xc []) (fin : zw_fin Xc (Option.some Jvm.ClassFile.FieldType.int) (zq_I Q) X 0 0) (hRm : zw_rm Xc = rm_X4_cost) {kc ks : Nat} (hb : kc ≤ 0 ∧ ks ≤ 0) {R : Int32 → Int32 → zw_H → Prop} {l0 : Option Nat} {l1 : Int32} {l2 : Int32} (hR : ∀ (l3 : Int32) (l4 : Int32) (h : zw_H), R l3 l4 h → zw_G Xc kc ks 5 h 5 [(0, va_rf l0), (1, .int l1), (2, .int l2), (3, .int l3), (4, .int l4)] []) {k62 : Int32 → zw_H → Prop} (hk62 : ∀ (l3 : Int32) (h : zw_H), k62 l3 h → zw_G Xc kc ks 5 h 62 [(0, va_rf l0), (1, .int l1), (2, .int l2), (3, .int l3)] [])  {l3 : Int32} {l4 : Int32} {h : zw_H} (hE : f_X4_cost_B5 (zw_Zf Xc).2.2.2 Q X k62 l0 l1 l2 R l3 l4 h) : zw_G Xc kc ks 5 h 5 [(0, va_rf l0), (1, .int l1), (2, .int l2), (3, .int l3), (4, .int l4)] [] := by
  unfold f_X4_cost_B5 at hE
  refine zg_iload ok dX4_cost_5 4 rfl ?_
  refine zg_aload_n ok dX4_cost_7 rfl 0 rfl ?_
  refine zg_callV (vs := []) (rest := [.int l4]) (rm := rm_X4_size) ok hRm lk_X4_37 dX4_cost_8 hE (fun hE => mt_X4_size hl hE) rfl (Nat.le_of_ble_eq_true rfl) ⟨⟨Nat.le_of_ble_eq_true rfl, Nat.le_of_ble_eq_true rfl⟩, (by show kc + 0 ≤ 0; omega), (by show ks + 0 ≤ 0; omega)⟩ (zg_retI (fun v1 h1 hE => ?_)) (zg_xok ok tab fin ⟨(by show kc + 0 ≤ 0; omega), (by show ks + 0 ≤ 0; omega)⟩)
  refine zg_cost (kc2 := kc) (ks2 := ks) ⟨(by show kc + 0 = kc; omega), (by show ks + 0 = ks; omega)⟩ ?_
  refine zg_icmp_ge (tgt := 62) ok dX4_cost_11 (by decide) hE (fun hE => ?_) (fun hE => ?_)
  · refine zg_sub (L' := [(0, va_rf l0), (1, .int l1), (2, .int l2), (3, .int l3)]) [0, 1, 2, 3] rfl ?_
    exact hk62 _ _ hE
  · refine zg_iload_n ok dX4_cost_14 rfl 3 rfl ?_
    refine zg_aload_n ok dX4_cost_15 rfl 0 rfl ?_
    refine zg_iload ok dX4_cost_16 4 rfl ?_
    refine zg_callV (vs := [zI l4]) (rest := [.int l3]) (rm := rm_X4_at) ok hRm lk_X4_41 dX4_cost_18 hE (fun hE => mt_X4_at hl hE) rfl (Nat.le_of_ble_eq_true rfl) ⟨⟨Nat.le_of_ble_eq_true rfl, Nat.le_of_ble_eq_true rfl⟩, (by show kc + 0 ≤ 0; omega), (by show ks + 0 ≤ 0; omega)⟩ (zg_retA (fun v2 h2 hE => ?_)) (zg_xok ok tab fin ⟨(by show kc + 0 ≤ 0; omega), (by show ks + 0 ≤ 0; omega)⟩)
    refine zg_cost (kc2 := kc) (ks2 := ks) ⟨(by show kc + 0 = kc; omega), (by show ks + 0 = ks; omega)⟩ ?_
    refine zg_getI ok lf_X4_86 dX4_cost_21 hE (fun v3 hE => ?_)
    refine zg_iload_n ok dX4_cost_24 rfl 1 rfl ?_
    refine zg_icmp_eq (tgt := 50) ok dX4_cost_25 (by decide) hE (fun hE => ?_) (fun hE => ?_)
    · refine zg_sub (L' := [(0, va_rf l0), (1, .int l1), (2, .int l2), (4, .int l4)]) [0, 1, 2, 4] rfl ?_
      exact gt_f_X4_cost_J50 hl ok tab fin hRm hb hR hk62 hE
    · refine zg_iload_n ok dX4_cost_28 rfl 2 rfl ?_
      refine zg_if_ne (tgt := 46) ok dX4_cost_29 (by decide) hE (fun hE => ?_) (fun hE => ?_)
      · refine zg_sub (L' := [(0, va_rf l0), (1, .int l1), (2, .int l2), (4, .int l4)]) [0, 1, 2, 4] rfl ?_
        exact gt_f_X4_cost_J46 hl ok tab fin hRm hb hR hk62 hE
      · refine zg_aload_n ok dX4_cost_32 rfl 0 rfl ?_
        refine zg_aload_n ok dX4_cost_33 rfl 0 rfl ?_
        refine zg_iload ok dX4_cost_34 4 rfl ?_
        refine zg_callV (vs := [zI l4]) (rest := [va_rf l0, .int l3]) (rm := rm_X4_at) ok hRm lk_X4_41 dX4_cost_36 hE (fun hE => mt_X4_at hl hE) rfl (Nat.le_of_ble_eq_true rfl) ⟨⟨Nat.le_of_ble_eq_true rfl, Nat.le_of_ble_eq_true rfl⟩, (by show kc + 0 ≤ 0; omega), (by show ks + 0 ≤ 0; omega)⟩ (zg_retA (fun v7 h4 hE => ?_)) (zg_xok ok tab fin ⟨(by show kc + 0 ≤ 0; omega), (by show ks + 0 ≤ 0; omega)⟩)
        refine zg_cost (kc2 := kc) (ks2 := ks) ⟨(by show kc + 0 = kc; omega), (by show ks + 0 = ks; omega)⟩ ?_
        refine zg_iload_n ok dX4_cost_39 rfl 1 rfl ?_
        refine zg_callV (vs := [zA v7, zI l1]) (rest := [.int l3]) (rm := rm_X4_isNear) ok hRm lk_X4_161 dX4_cost_40 hE (fun hE => mt_X4_isNear hl hE) rfl (Nat.le_of_ble_eq_true rfl) ⟨⟨Nat.le_of_ble_eq_true rfl, Nat.le_of_ble_eq_true rfl⟩, (by show kc + 0 ≤ 0; omega), (by show ks + 0 ≤ 0; omega)⟩ (zg_retI (fun v8 h5 hE => ?_)) (zg_xok ok tab fin ⟨(by show kc + 0 ≤ 0; omega), (by show ks + 0 ≤ 0; omega)⟩)
        refine zg_cost (kc2 := kc) (ks2 := ks) ⟨(by show kc + 0 = kc; omega), (by show ks + 0 = ks; omega)⟩ ?_
        refine zg_if_eq (tgt := 50) ok dX4_cost_43 (by decide) hE (fun hE => ?_) (fun hE => ?_)
        · refine zg_sub (L' := [(0, va_rf l0), (1, .int l1), (2, .int l2), (4, .int l4)]) [0, 1, 2, 4] rfl ?_
          exact gt_f_X4_cost_J50 hl ok tab fin hRm hb hR hk62 hE
        · refine zg_sub (L' := [(0, va_rf l0), (1, .int l1), (2, .int l2), (4, .int l4)]) [0, 1, 2, 4] rfl ?_
          exact gt_f_X4_cost_J46 hl ok tab fin hRm hb hR hk62 hE
theorem gt_f_X4_cost_L5 {Xc : zw_X} {Q : Int32 → zw_H → Prop} {X : String → Nat → zw_H → Prop} (hl : (zw_l Xc).stackTraces = false) (ok : zw_ok Xc cX4_cost "MultipoleLine$Line" yX4_cost.name 5) (tab : zw_tab Xc []) (fin : zw_fin Xc (Option.some Jvm.ClassFile.FieldType.int) (zq_I Q) X 0 0) (hRm : zw_rm Xc = rm_X4_cost) {kc ks : Nat} (hb : kc ≤ 0 ∧ ks ≤ 0) {l0 : Option Nat} {l1 : Int32} {l2 : Int32} {k62 : Int32 → zw_H → Prop} (hk62 : ∀ (l3 : Int32) (h : zw_H), k62 l3 h → zw_G Xc kc ks 5 h 62 [(0, va_rf l0), (1, .int l1), (2, .int l2), (3, .int l3)] [])  : ∀ (n9 : Nat) (l3 : Int32) (l4 : Int32) (h : zw_H), zl3 (f_X4_cost_B5 (zw_Zf Xc).2.2.2 Q X k62 l0 l1 l2) n9 l3 l4 h → zw_G Xc kc ks 5 h 5 [(0, va_rf l0), (1, .int l1), (2, .int l2), (3, .int l3), (4, .int l4)] [] := by
  intro n9
  induction n9 with
  | zero => intro l3 l4 h hE; exact hE.elim
  | succ n9 ih => intro l3 l4 h hE; exact gt_f_X4_cost_B5 hl ok tab fin hRm hb ih hk62 hE
set_option maxHeartbeats 8000000 in
theorem mt_X4_cost {l : Launch} (hl : l.stackTraces = false) {Z : zw_Z} {a0 : Option Nat} {a1 : Int32} {a2 : Int32} {h : zw_H} {Q : Int32 → zw_H → Prop} {X : String → Nat → zw_H → Prop} (hE : f_X4_cost Z.2.2.2 a0 a1 a2 h Q X) : zw_Met l Z yX4_cost (ws_ yX4_cost cX4_cost 5 (Option.some Jvm.ClassFile.FieldType.int)) rm_X4_cost [zA a0, zI a1, zI a2] h (zq_I Q) X := by
  refine zg_start (own := "MultipoleLine$Line") (by decide +kernel) rfl (Nat.le_of_ble_eq_true rfl) hl (fun Xc ok tab fin hRm hXl hXZ => ?_)
  subst hXl
  subst hXZ
  unfold f_X4_cost at hE
  refine zg_iconst (v := 0) ok dX4_cost_0 (by decide) ?_
  refine zg_istore_n (L' := [(3, .int 0), (0, va_rf a0), (1, .int a1), (2, .int a2)]) ok dX4_cost_1 rfl (by decide) rfl ?_
  refine zg_iconst (v := 0) ok dX4_cost_2 (by decide) ?_
  refine zg_istore (L' := [(4, .int 0), (3, .int 0), (0, va_rf a0), (1, .int a1), (2, .int a2)]) ok dX4_cost_3 (by decide) rfl ?_
  refine zg_sub (L' := [(0, va_rf a0), (1, .int a1), (2, .int a2), (3, .int 0), (4, .int 0)]) [2, 3, 4, 1, 0] rfl ?_
  refine gt_f_X4_cost_L5 hl ok tab fin hRm ⟨Nat.le_of_ble_eq_true rfl, Nat.le_of_ble_eq_true rfl⟩ ?_ _ _ _ _ hE
  · intro v9 h6 hE
    refine zg_iload_n ok dX4_cost_62 rfl 2 rfl ?_
    refine zg_if_eq (tgt := 70) ok dX4_cost_63 (by decide) hE (fun hE => ?_) (fun hE => ?_)
    · refine zg_iload_n ok dX4_cost_70 rfl 3 rfl ?_
      refine zg_aload_n ok dX4_cost_71 rfl 0 rfl ?_
      refine zg_getI ok lf_X4_61 dX4_cost_72 hE (fun v10 hE => ?_)
      refine zg_iconst (v := 1) ok dX4_cost_75 (by decide) ?_
      refine zg_iadd ok dX4_cost_76 ?_
      refine zg_aload_n ok dX4_cost_77 rfl 0 rfl ?_
      refine zg_iload_n ok dX4_cost_78 rfl 1 rfl ?_
      refine zg_callV (vs := [zI a1]) (rest := [.int (v10 + 1), .int v9]) (rm := rm_X4_laysFar) ok hRm lk_X4_195 dX4_cost_79 hE (fun hE => mt_X4_laysFar hl hE) rfl (Nat.le_of_ble_eq_true rfl) ⟨⟨Nat.le_of_ble_eq_true rfl, Nat.le_of_ble_eq_true rfl⟩, Nat.le_of_ble_eq_true rfl, Nat.le_of_ble_eq_true rfl⟩ (zg_retI (fun v11 h7 hE => ?_)) (zg_xok ok tab fin ⟨Nat.le_of_ble_eq_true rfl, Nat.le_of_ble_eq_true rfl⟩)
      refine zg_cost (kc2 := 0) (ks2 := 0) ⟨rfl, rfl⟩ ?_
      refine zg_imul ok dX4_cost_82 ?_
      refine zg_iadd ok dX4_cost_83 ?_
      exact zg_iret ok fin dX4_cost_84 ⟨Nat.le_of_ble_eq_true rfl, Nat.le_of_ble_eq_true rfl⟩ hE
    · refine zg_iload_n ok dX4_cost_66 rfl 3 rfl ?_
      refine zg_goto (tgt := 84) ok dX4_cost_67 (by decide) ?_
      exact zg_iret ok fin dX4_cost_84 ⟨Nat.le_of_ble_eq_true rfl, Nat.le_of_ble_eq_true rfl⟩ hE
set_option maxHeartbeats 8000000 in
theorem mt_X1_cost {l : Launch} (hl : l.stackTraces = false) {Z : zw_Z} {a0 : Option Nat} {a1 : Int32} {a2 : Int32} {h : zw_H} {Q : Int32 → zw_H → Prop} {X : String → Nat → zw_H → Prop} (hE : f_X1_cost Z.2.2.2 a0 a1 a2 h Q X) : zw_Met l Z yX1_cost (ws_ yX1_cost cX1_cost 3 (Option.some Jvm.ClassFile.FieldType.int)) rm_X1_cost [zA a0, zI a1, zI a2] h (zq_I Q) X := by
  refine zg_start (own := "MultipoleLine") (by decide +kernel) rfl (Nat.le_of_ble_eq_true rfl) hl (fun Xc ok tab fin hRm hXl hXZ => ?_)
  subst hXl
  subst hXZ
  unfold f_X1_cost at hE
  refine zg_aload_n ok dX1_cost_0 rfl 0 rfl ?_
  refine zg_iload_n ok dX1_cost_1 rfl 1 rfl ?_
  refine zg_callV (vs := [zI a1]) (rest := []) (rm := rm_X1_at) ok hRm lk_X1_193 dX1_cost_2 hE (fun hE => mt_X1_at hl hE) rfl (Nat.le_of_ble_eq_true rfl) ⟨⟨Nat.le_of_ble_eq_true rfl, Nat.le_of_ble_eq_true rfl⟩, Nat.le_of_ble_eq_true rfl, Nat.le_of_ble_eq_true rfl⟩ (zg_retA (fun v1 h1 hE => ?_)) (zg_xok ok tab fin ⟨Nat.le_of_ble_eq_true rfl, Nat.le_of_ble_eq_true rfl⟩)
  refine zg_cost (kc2 := 2) (ks2 := 12) ⟨rfl, rfl⟩ ?_
  refine zg_iload_n ok dX1_cost_5 rfl 1 rfl ?_
  refine zg_iload_n ok dX1_cost_6 rfl 2 rfl ?_
  refine zg_callV (vs := [zI a1, zI a2]) (rest := []) (rm := rm_X4_cost) ok hRm lk_X1_283 dX1_cost_7 hE (fun hE => mt_X4_cost hl hE) rfl (Nat.le_of_ble_eq_true rfl) ⟨⟨Nat.le_of_ble_eq_true rfl, Nat.le_of_ble_eq_true rfl⟩, Nat.le_of_ble_eq_true rfl, Nat.le_of_ble_eq_true rfl⟩ (zg_retI (fun v2 h2 hE => ?_)) (zg_xok ok tab fin ⟨Nat.le_of_ble_eq_true rfl, Nat.le_of_ble_eq_true rfl⟩)
  refine zg_cost (kc2 := 2) (ks2 := 12) ⟨rfl, rfl⟩ ?_
  exact zg_iret ok fin dX1_cost_10 ⟨Nat.le_of_ble_eq_true rfl, Nat.le_of_ble_eq_true rfl⟩ hE
set_option maxHeartbeats 8000000 in
theorem mt_X7_distance {l : Launch} (hl : l.stackTraces = false) {Z : zw_Z} {a0 : Option Nat} {a1 : Int32} {h : zw_H} {Q : Int32 → zw_H → Prop} {X : String → Nat → zw_H → Prop} (hE : f_X7_distance Z.2.2.2 a0 a1 h Q X) : zw_Met l Z yX7_distance (ws_ yX7_distance cX7_distance 2 (Option.some Jvm.ClassFile.FieldType.int)) rm_X7_distance [zA a0, zI a1] h (zq_I Q) X := by
  refine zg_start (own := "MultipoleLine$Body") (by decide +kernel) rfl (Nat.le_of_ble_eq_true rfl) hl (fun Xc ok tab fin hRm hXl hXZ => ?_)
  subst hXl
  subst hXZ
  unfold f_X7_distance at hE
  refine zg_aload_n ok dX7_distance_0 rfl 0 rfl ?_
  refine zg_getI ok lf_X7_7 dX7_distance_1 hE (fun v1 hE => ?_)
  refine zg_iload_n ok dX7_distance_4 rfl 1 rfl ?_
  refine zg_icmp_ge (tgt := 17) ok dX7_distance_5 (by decide) hE (fun hE => ?_) (fun hE => ?_)
  · refine zg_aload_n ok dX7_distance_17 rfl 0 rfl ?_
    refine zg_getI ok lf_X7_7 dX7_distance_18 hE (fun v2 hE => ?_)
    refine zg_iload_n ok dX7_distance_21 rfl 1 rfl ?_
    refine zg_isub ok dX7_distance_22 ?_
    exact zg_iret ok fin dX7_distance_23 ⟨Nat.le_of_ble_eq_true rfl, Nat.le_of_ble_eq_true rfl⟩ hE
  · refine zg_iload_n ok dX7_distance_8 rfl 1 rfl ?_
    refine zg_aload_n ok dX7_distance_9 rfl 0 rfl ?_
    refine zg_getI ok lf_X7_7 dX7_distance_10 hE (fun v3 hE => ?_)
    refine zg_isub ok dX7_distance_13 ?_
    refine zg_goto (tgt := 23) ok dX7_distance_14 (by decide) ?_
    exact zg_iret ok fin dX7_distance_23 ⟨Nat.le_of_ble_eq_true rfl, Nat.le_of_ble_eq_true rfl⟩ hE
set_option maxHeartbeats 8000000 in
theorem gt_f_X4_sum_J74 {Xc : zw_X} {Q : UInt64 → zw_H → Prop} {X : String → Nat → zw_H → Prop} (hl : (zw_l Xc).stackTraces = false) (ok : zw_ok Xc cX4_sum "MultipoleLine$Line" yX4_sum.name 8) (tab : zw_tab Xc []) (fin : zw_fin Xc (Option.some Jvm.ClassFile.FieldType.double) (zq_D Q) X 0 0) (hRm : zw_rm Xc = rm_X4_sum) {kc ks : Nat} (hb : kc ≤ 0 ∧ ks ≤ 0) {R : UInt64 → Int32 → zw_H → Prop} {l0 : Option Nat} {l1 : Int32} {l2 : Int32} {l3 : Int32} (hR : ∀ (l4 : UInt64) (l6 : Int32) (h : zw_H), R l4 l6 h → zw_G Xc kc ks 8 h 6 [(0, va_rf l0), (1, .int l1), (2, .int l2), (3, .int l3), (4, .double l4), (6, .int l6)] []) {k80 : UInt64 → zw_H → Prop} (hk80 : ∀ (l4 : UInt64) (h : zw_H), k80 l4 h → zw_G Xc kc ks 8 h 80 [(4, .double l4)] [])  {l4 : UInt64} {l6 : Int32}  {h : zw_H} (hE : f_X4_sum_J74 (zw_Zf Xc).2.2.2 Q X R k80 l0 l1 l2 l3 l4 l6 h) : zw_G Xc kc ks 8 h 74 [(0, va_rf l0), (1, .int l1), (2, .int l2), (3, .int l3), (4, .double l4), (6, .int l6)] [] := by
  unfold f_X4_sum_J74 at hE
  refine zg_iincL (k := 5) (L' := fun v3 => [(6, .int v3), (0, va_rf l0), (1, .int l1), (2, .int l2), (3, .int l3), (4, .double l4)]) ok dX4_sum_74 (by decide +kernel) hE rfl (by decide) (fun _ => rfl) (fun v3 hE => ?_)
  refine zg_goto (tgt := 6) ok dX4_sum_77 (by decide) ?_
  refine zg_sub (L' := [(0, va_rf l0), (1, .int l1), (2, .int l2), (3, .int l3), (4, .double l4), (6, .int v3)]) [1, 2, 3, 4, 5, 0] rfl ?_
  exact hR _ _ _ hE
set_option maxHeartbeats 8000000 in
theorem gt_f_X4_sum_J55 {Xc : zw_X} {Q : UInt64 → zw_H → Prop} {X : String → Nat → zw_H → Prop} (hl : (zw_l Xc).stackTraces = false) (ok : zw_ok Xc cX4_sum "MultipoleLine$Line" yX4_sum.name 8) (tab : zw_tab Xc []) (fin : zw_fin Xc (Option.some Jvm.ClassFile.FieldType.double) (zq_D Q) X 0 0) (hRm : zw_rm Xc = rm_X4_sum) {kc ks : Nat} (hb : kc ≤ 0 ∧ ks ≤ 0) {R : UInt64 → Int32 → zw_H → Prop} {l0 : Option Nat} {l1 : Int32} {l2 : Int32} {l3 : Int32} (hR : ∀ (l4 : UInt64) (l6 : Int32) (h : zw_H), R l4 l6 h → zw_G Xc kc ks 8 h 6 [(0, va_rf l0), (1, .int l1), (2, .int l2), (3, .int l3), (4, .double l4), (6, .int l6)] []) {k80 : UInt64 → zw_H → Prop} (hk80 : ∀ (l4 : UInt64) (h : zw_H), k80 l4 h → zw_G Xc kc ks 8 h 80 [(4, .double l4)] [])  {l4 : UInt64} {l6 : Int32} {l7 : Option Nat}  {h : zw_H} (hE : f_X4_sum_J55 (zw_Zf Xc).2.2.2 Q X R k80 l0 l1 l2 l3 l4 l6 l7 h) : zw_G Xc kc ks 8 h 55 [(0, va_rf l0), (1, .int l1), (2, .int l2), (3, .int l3), (4, .double l4), (6, .int l6), (7, va_rf l7)] [] := by
  unfold f_X4_sum_J55 at hE
  refine zg_dload ok dX4_sum_55 4 rfl ?_
  refine zg_aload ok dX4_sum_57 6 rfl ?_
  refine zg_getI ok lf_X4_89 dX4_sum_59 hE (fun v5 hE => ?_)
  refine zg_i2d ok dX4_sum_62 ?_
  refine zg_aload ok dX4_sum_63 6 rfl ?_
  refine zg_iload_n ok dX4_sum_65 rfl 1 rfl ?_
  rcases od_some hE with ⟨a9, hr9, hE⟩ | ⟨a9, hr9, hE⟩
  · refine zg_callU (vs := [zI l1]) (rest := [.double (FP.i2d v5), .double l4]) (rm := rm_X7_distance) ok hRm lk_X4_197_6 dX4_sum_66 hE (fun hE => mt_X7_distance hl hE) rfl (Nat.le_of_ble_eq_true rfl) ⟨⟨Nat.le_of_ble_eq_true rfl, Nat.le_of_ble_eq_true rfl⟩, (by show kc + 0 ≤ 0; omega), (by show ks + 0 ≤ 0; omega)⟩ (zg_retI (fun v6 h3 hE => ?_)) (zg_xok ok tab fin ⟨(by show kc + 0 ≤ 0; omega), (by show ks + 0 ≤ 0; omega)⟩)
    refine zg_wide (kc2 := kc) (ks2 := ks) (by show kc ≤ kc; omega) (by show ks ≤ ks; omega) ?_
    refine zg_i2d ok dX4_sum_69 ?_
    refine zg_ddivE ok dX4_sum_70 hE (fun hE => ?_)
    refine zg_letD hE (fun v7 hE => ?_)
    refine zg_daddE ok dX4_sum_71 hE (fun hE => ?_)
    refine zg_letD hE (fun v8 hE => ?_)
    refine zg_dstore (L' := [(4, .double v8), (0, va_rf l0), (1, .int l1), (2, .int l2), (3, .int l3), (6, .int l6), (7, va_rf l7)]) ok dX4_sum_72 (by decide) rfl ?_
    refine zg_sub (L' := [(0, va_rf l0), (1, .int l1), (2, .int l2), (3, .int l3), (4, .double v8), (6, .int l6)]) [1, 2, 3, 4, 0, 5] rfl ?_
    exact gt_f_X4_sum_J74 hl ok tab fin hRm hb hR hk80 hE
  · refine zg_callU (vs := [zI l1]) (rest := [.double (FP.i2d v5), .double l4]) (rm := rm_X7_distance) ok hRm lk_X4_197_7 dX4_sum_66 hE (fun hE => mt_X7_distance hl hE) rfl (Nat.le_of_ble_eq_true rfl) ⟨⟨Nat.le_of_ble_eq_true rfl, Nat.le_of_ble_eq_true rfl⟩, (by show kc + 0 ≤ 0; omega), (by show ks + 0 ≤ 0; omega)⟩ (zg_retI (fun v6 h3 hE => ?_)) (zg_xok ok tab fin ⟨(by show kc + 0 ≤ 0; omega), (by show ks + 0 ≤ 0; omega)⟩)
    refine zg_wide (kc2 := kc) (ks2 := ks) (by show kc ≤ kc; omega) (by show ks ≤ ks; omega) ?_
    refine zg_i2d ok dX4_sum_69 ?_
    refine zg_ddivE ok dX4_sum_70 hE (fun hE => ?_)
    refine zg_letD hE (fun v7 hE => ?_)
    refine zg_daddE ok dX4_sum_71 hE (fun hE => ?_)
    refine zg_letD hE (fun v8 hE => ?_)
    refine zg_dstore (L' := [(4, .double v8), (0, va_rf l0), (1, .int l1), (2, .int l2), (3, .int l3), (6, .int l6), (7, va_rf l7)]) ok dX4_sum_72 (by decide) rfl ?_
    refine zg_sub (L' := [(0, va_rf l0), (1, .int l1), (2, .int l2), (3, .int l3), (4, .double v8), (6, .int l6)]) [1, 2, 3, 4, 0, 5] rfl ?_
    exact gt_f_X4_sum_J74 hl ok tab fin hRm hb hR hk80 hE
set_option maxHeartbeats 8000000 in
theorem gt_f_X4_sum_B6 {Xc : zw_X} {Q : UInt64 → zw_H → Prop} {X : String → Nat → zw_H → Prop} (hl : (zw_l Xc).stackTraces = false) (ok : zw_ok Xc cX4_sum "MultipoleLine$Line" yX4_sum.name 8) (tab : zw_tab Xc []) (fin : zw_fin Xc (Option.some Jvm.ClassFile.FieldType.double) (zq_D Q) X 0 0) (hRm : zw_rm Xc = rm_X4_sum) {kc ks : Nat} (hb : kc ≤ 0 ∧ ks ≤ 0) {R : UInt64 → Int32 → zw_H → Prop} {l0 : Option Nat} {l1 : Int32} {l2 : Int32} {l3 : Int32} (hR : ∀ (l4 : UInt64) (l6 : Int32) (h : zw_H), R l4 l6 h → zw_G Xc kc ks 8 h 6 [(0, va_rf l0), (1, .int l1), (2, .int l2), (3, .int l3), (4, .double l4), (6, .int l6)] []) {k80 : UInt64 → zw_H → Prop} (hk80 : ∀ (l4 : UInt64) (h : zw_H), k80 l4 h → zw_G Xc kc ks 8 h 80 [(4, .double l4)] [])  {l4 : UInt64} {l6 : Int32} {h : zw_H} (hE : f_X4_sum_B6 (zw_Zf Xc).2.2.2 Q X k80 l0 l1 l2 l3 R l4 l6 h) : zw_G Xc kc ks 8 h 6 [(0, va_rf l0), (1, .int l1), (2, .int l2), (3, .int l3), (4, .double l4), (6, .int l6)] [] := by
  unfold f_X4_sum_B6 at hE
  refine zg_iload ok dX4_sum_6 5 rfl ?_
  refine zg_aload_n ok dX4_sum_8 rfl 0 rfl ?_
  refine zg_callV (vs := []) (rest := [.int l6]) (rm := rm_X4_size) ok hRm lk_X4_37 dX4_sum_9 hE (fun hE => mt_X4_size hl hE) rfl (Nat.le_of_ble_eq_true rfl) ⟨⟨Nat.le_of_ble_eq_true rfl, Nat.le_of_ble_eq_true rfl⟩, (by show kc + 0 ≤ 0; omega), (by show ks + 0 ≤ 0; omega)⟩ (zg_retI (fun v1 h1 hE => ?_)) (zg_xok ok tab fin ⟨(by show kc + 0 ≤ 0; omega), (by show ks + 0 ≤ 0; omega)⟩)
  refine zg_cost (kc2 := kc) (ks2 := ks) ⟨(by show kc + 0 = kc; omega), (by show ks + 0 = ks; omega)⟩ ?_
  refine zg_icmp_ge (tgt := 80) ok dX4_sum_12 (by decide) hE (fun hE => ?_) (fun hE => ?_)
  · refine zg_sub (L' := [(4, .double l4)]) [4] rfl ?_
    exact hk80 _ _ hE
  · refine zg_aload_n ok dX4_sum_15 rfl 0 rfl ?_
    refine zg_iload ok dX4_sum_16 5 rfl ?_
    refine zg_callV (vs := [zI l6]) (rest := []) (rm := rm_X4_at) ok hRm lk_X4_41 dX4_sum_18 hE (fun hE => mt_X4_at hl hE) rfl (Nat.le_of_ble_eq_true rfl) ⟨⟨Nat.le_of_ble_eq_true rfl, Nat.le_of_ble_eq_true rfl⟩, (by show kc + 0 ≤ 0; omega), (by show ks + 0 ≤ 0; omega)⟩ (zg_retA (fun v2 h2 hE => ?_)) (zg_xok ok tab fin ⟨(by show kc + 0 ≤ 0; omega), (by show ks + 0 ≤ 0; omega)⟩)
    refine zg_cost (kc2 := kc) (ks2 := ks) ⟨(by show kc + 0 = kc; omega), (by show ks + 0 = ks; omega)⟩ ?_
    refine zg_astore (L' := [(7, va_rf v2), (0, va_rf l0), (1, .int l1), (2, .int l2), (3, .int l3), (4, .double l4), (6, .int l6)]) ok dX4_sum_21 (by decide) rfl ?_
    refine zg_iload ok dX4_sum_23 6 rfl ?_
    refine zg_iload_n ok dX4_sum_25 rfl 4 rfl ?_
    refine zg_icmp_eq (tgt := 74) ok dX4_sum_26 (by decide) hE (fun hE => ?_) (fun hE => ?_)
    · refine zg_sub (L' := [(0, va_rf l0), (1, .int l1), (2, .int l2), (3, .int l3), (4, .double l4), (6, .int l6)]) [1, 2, 3, 4, 5, 6] rfl ?_
      exact gt_f_X4_sum_J74 hl ok tab fin hRm hb hR hk80 hE
    · refine zg_aload ok dX4_sum_29 0 rfl ?_
      refine zg_getI ok lf_X4_86 dX4_sum_31 hE (fun v4 hE => ?_)
      refine zg_iload_n ok dX4_sum_34 rfl 2 rfl ?_
      refine zg_icmp_eq (tgt := 74) ok dX4_sum_35 (by decide) hE (fun hE => ?_) (fun hE => ?_)
      · refine zg_sub (L' := [(0, va_rf l0), (1, .int l1), (2, .int l2), (3, .int l3), (4, .double l4), (6, .int l6)]) [1, 2, 3, 4, 5, 6] rfl ?_
        exact gt_f_X4_sum_J74 hl ok tab fin hRm hb hR hk80 hE
      · refine zg_iload_n ok dX4_sum_38 rfl 3 rfl ?_
        refine zg_if_eq (tgt := 55) ok dX4_sum_39 (by decide) hE (fun hE => ?_) (fun hE => ?_)
        · refine zg_sub (L' := [(0, va_rf l0), (1, .int l1), (2, .int l2), (3, .int l3), (4, .double l4), (6, .int l6), (7, va_rf v2)]) [1, 2, 3, 4, 5, 6, 0] rfl ?_
          exact gt_f_X4_sum_J55 hl ok tab fin hRm hb hR hk80 hE
        · refine zg_aload_n ok dX4_sum_42 rfl 1 rfl ?_
          refine zg_aload ok dX4_sum_43 0 rfl ?_
          refine zg_iload_n ok dX4_sum_45 rfl 2 rfl ?_
          refine zg_callV (vs := [zA v2, zI l1]) (rest := []) (rm := rm_X4_isNear) ok hRm lk_X4_161 dX4_sum_46 hE (fun hE => mt_X4_isNear hl hE) rfl (Nat.le_of_ble_eq_true rfl) ⟨⟨Nat.le_of_ble_eq_true rfl, Nat.le_of_ble_eq_true rfl⟩, (by show kc + 0 ≤ 0; omega), (by show ks + 0 ≤ 0; omega)⟩ (zg_retI (fun v9 h4 hE => ?_)) (zg_xok ok tab fin ⟨(by show kc + 0 ≤ 0; omega), (by show ks + 0 ≤ 0; omega)⟩)
          refine zg_cost (kc2 := kc) (ks2 := ks) ⟨(by show kc + 0 = kc; omega), (by show ks + 0 = ks; omega)⟩ ?_
          refine zg_if_ne (tgt := 55) ok dX4_sum_49 (by decide) hE (fun hE => ?_) (fun hE => ?_)
          · refine zg_sub (L' := [(0, va_rf l0), (1, .int l1), (2, .int l2), (3, .int l3), (4, .double l4), (6, .int l6), (7, va_rf v2)]) [1, 2, 3, 4, 5, 6, 0] rfl ?_
            exact gt_f_X4_sum_J55 hl ok tab fin hRm hb hR hk80 hE
          · refine zg_goto (tgt := 74) ok dX4_sum_52 (by decide) ?_
            refine zg_sub (L' := [(0, va_rf l0), (1, .int l1), (2, .int l2), (3, .int l3), (4, .double l4), (6, .int l6)]) [1, 2, 3, 4, 5, 6] rfl ?_
            exact gt_f_X4_sum_J74 hl ok tab fin hRm hb hR hk80 hE
theorem gt_f_X4_sum_L6 {Xc : zw_X} {Q : UInt64 → zw_H → Prop} {X : String → Nat → zw_H → Prop} (hl : (zw_l Xc).stackTraces = false) (ok : zw_ok Xc cX4_sum "MultipoleLine$Line" yX4_sum.name 8) (tab : zw_tab Xc []) (fin : zw_fin Xc (Option.some Jvm.ClassFile.FieldType.double) (zq_D Q) X 0 0) (hRm : zw_rm Xc = rm_X4_sum) {kc ks : Nat} (hb : kc ≤ 0 ∧ ks ≤ 0) {l0 : Option Nat} {l1 : Int32} {l2 : Int32} {l3 : Int32} {k80 : UInt64 → zw_H → Prop} (hk80 : ∀ (l4 : UInt64) (h : zw_H), k80 l4 h → zw_G Xc kc ks 8 h 80 [(4, .double l4)] [])  : ∀ (n9 : Nat) (l4 : UInt64) (l6 : Int32) (h : zw_H), zl3 (f_X4_sum_B6 (zw_Zf Xc).2.2.2 Q X k80 l0 l1 l2 l3) n9 l4 l6 h → zw_G Xc kc ks 8 h 6 [(0, va_rf l0), (1, .int l1), (2, .int l2), (3, .int l3), (4, .double l4), (6, .int l6)] [] := by
  intro n9
  induction n9 with
  | zero => intro l4 l6 h hE; exact hE.elim
  | succ n9 ih => intro l4 l6 h hE; exact gt_f_X4_sum_B6 hl ok tab fin hRm hb ih hk80 hE
set_option maxHeartbeats 8000000 in
theorem mt_X4_sum {l : Launch} (hl : l.stackTraces = false) {Z : zw_Z} {a0 : Option Nat} {a1 : Int32} {a2 : Int32} {a3 : Int32} {h : zw_H} {Q : UInt64 → zw_H → Prop} {X : String → Nat → zw_H → Prop} (hE : f_X4_sum Z.2.2.2 a0 a1 a2 a3 h Q X) : zw_Met l Z yX4_sum (ws_ yX4_sum cX4_sum 8 (Option.some Jvm.ClassFile.FieldType.double)) rm_X4_sum [zA a0, zI a1, zI a2, zI a3] h (zq_D Q) X := by
  refine zg_start (own := "MultipoleLine$Line") (by decide +kernel) rfl (Nat.le_of_ble_eq_true rfl) hl (fun Xc ok tab fin hRm hXl hXZ => ?_)
  subst hXl
  subst hXZ
  unfold f_X4_sum at hE
  refine zg_dconst0 ok dX4_sum_0 ?_
  refine zg_dstore (L' := [(4, .double FP.dconst0), (0, va_rf a0), (1, .int a1), (2, .int a2), (3, .int a3)]) ok dX4_sum_1 (by decide) rfl ?_
  refine zg_iconst (v := 0) ok dX4_sum_3 (by decide) ?_
  refine zg_istore (L' := [(6, .int 0), (4, .double FP.dconst0), (0, va_rf a0), (1, .int a1), (2, .int a2), (3, .int a3)]) ok dX4_sum_4 (by decide) rfl ?_
  refine zg_sub (L' := [(0, va_rf a0), (1, .int a1), (2, .int a2), (3, .int a3), (4, .double FP.dconst0), (6, .int 0)]) [2, 3, 4, 5, 1, 0] rfl ?_
  refine gt_f_X4_sum_L6 hl ok tab fin hRm ⟨Nat.le_of_ble_eq_true rfl, Nat.le_of_ble_eq_true rfl⟩ ?_ _ _ _ _ hE
  · intro v10 h5 hE
    refine zg_dload ok dX4_sum_80 0 rfl ?_
    exact zg_dret ok fin dX4_sum_82 ⟨Nat.le_of_ble_eq_true rfl, Nat.le_of_ble_eq_true rfl⟩ hE
set_option maxHeartbeats 8000000 in
theorem gt_f_X4_value_B17 {Xc : zw_X} {Q : UInt64 → zw_H → Prop} {X : String → Nat → zw_H → Prop} (hl : (zw_l Xc).stackTraces = false) (ok : zw_ok Xc cX4_value "MultipoleLine$Line" yX4_value.name 10) (tab : zw_tab Xc []) (fin : zw_fin Xc (Option.some Jvm.ClassFile.FieldType.double) (zq_D Q) X 0 0) (hRm : zw_rm Xc = rm_X4_value) {kc ks : Nat} (hb : kc ≤ 0 ∧ ks ≤ 0) {R : UInt64 → UInt64 → Int32 → zw_H → Prop} {l0 : Option Nat} {l1 : Option Nat} {l3 : UInt64} (hR : ∀ (l5 : UInt64) (l7 : UInt64) (l9 : Int32) (h : zw_H), R l5 l7 l9 h → zw_G Xc kc ks 10 h 17 [(0, va_rf l0), (1, va_rf l1), (3, .double l3), (5, .double l5), (7, .double l7), (9, .int l9)] []) {k54 : UInt64 → zw_H → Prop} (hk54 : ∀ (l5 : UInt64) (h : zw_H), k54 l5 h → zw_G Xc kc ks 10 h 54 [(3, .double l3), (5, .double l5)] [])  {l5 : UInt64} {l7 : UInt64} {l9 : Int32} {h : zw_H} (hE : f_X4_value_B17 (zw_Zf Xc).2.2.2 Q X k54 l0 l1 l3 R l5 l7 l9 h) : zw_G Xc kc ks 10 h 17 [(0, va_rf l0), (1, va_rf l1), (3, .double l3), (5, .double l5), (7, .double l7), (9, .int l9)] [] := by
  unfold f_X4_value_B17 at hE
  refine zg_iload ok dX4_value_17 5 rfl ?_
  refine zg_aload_n ok dX4_value_19 rfl 0 rfl ?_
  refine zg_getI ok lf_X4_61 dX4_value_20 hE (fun v3 hE => ?_)
  refine zg_icmp_gt (tgt := 54) ok dX4_value_23 (by decide) hE (fun hE => ?_) (fun hE => ?_)
  · refine zg_sub (L' := [(3, .double l3), (5, .double l5)]) [2, 3] rfl ?_
    exact hk54 _ _ hE
  · refine zg_dload ok dX4_value_26 3 rfl ?_
    refine zg_aload_n ok dX4_value_28 rfl 0 rfl ?_
    refine zg_aload_n ok dX4_value_29 rfl 1 rfl ?_
    refine zg_iload ok dX4_value_30 5 rfl ?_
    refine zg_callV (vs := [zA l1, zI l9]) (rest := [.double l5]) (rm := rm_X4_moment) ok hRm lk_X4_106 dX4_value_32 hE (fun hE => mt_X4_moment hl hE) rfl (Nat.le_of_ble_eq_true rfl) ⟨⟨Nat.le_of_ble_eq_true rfl, Nat.le_of_ble_eq_true rfl⟩, (by show kc + 0 ≤ 0; omega), (by show ks + 0 ≤ 0; omega)⟩ (zg_retJ (fun v4 h1 hE => ?_)) (zg_xok ok tab fin ⟨(by show kc + 0 ≤ 0; omega), (by show ks + 0 ≤ 0; omega)⟩)
    refine zg_cost (kc2 := kc) (ks2 := ks) ⟨(by show kc + 0 = kc; omega), (by show ks + 0 = ks; omega)⟩ ?_
    refine zg_l2d ok dX4_value_35 ?_
    refine zg_dload ok dX4_value_36 4 rfl ?_
    refine zg_ddivE ok dX4_value_38 hE (fun hE => ?_)
    refine zg_letD hE (fun v5 hE => ?_)
    refine zg_daddE ok dX4_value_39 hE (fun hE => ?_)
    refine zg_letD hE (fun v6 hE => ?_)
    refine zg_dstore (L' := [(5, .double v6), (0, va_rf l0), (1, va_rf l1), (3, .double l3), (7, .double l7), (9, .int l9)]) ok dX4_value_40 (by decide) rfl ?_
    refine zg_dload ok dX4_value_42 4 rfl ?_
    refine zg_dload_n ok dX4_value_44 rfl 3 rfl ?_
    refine zg_dmulE ok dX4_value_45 hE (fun hE => ?_)
    refine zg_letD hE (fun v7 hE => ?_)
    refine zg_dstore (L' := [(7, .double v7), (5, .double v6), (0, va_rf l0), (1, va_rf l1), (3, .double l3), (9, .int l9)]) ok dX4_value_46 (by decide) rfl ?_
    refine zg_iincL (k := 5) (L' := fun v8 => [(9, .int v8), (7, .double v7), (5, .double v6), (0, va_rf l0), (1, va_rf l1), (3, .double l3)]) ok dX4_value_48 (by decide +kernel) hE rfl (by decide) (fun _ => rfl) (fun v8 hE => ?_)
    refine zg_goto (tgt := 17) ok dX4_value_51 (by decide) ?_
    refine zg_sub (L' := [(0, va_rf l0), (1, va_rf l1), (3, .double l3), (5, .double v6), (7, .double v7), (9, .int v8)]) [3, 4, 5, 2, 1, 0] rfl ?_
    exact hR _ _ _ _ hE
theorem gt_f_X4_value_L17 {Xc : zw_X} {Q : UInt64 → zw_H → Prop} {X : String → Nat → zw_H → Prop} (hl : (zw_l Xc).stackTraces = false) (ok : zw_ok Xc cX4_value "MultipoleLine$Line" yX4_value.name 10) (tab : zw_tab Xc []) (fin : zw_fin Xc (Option.some Jvm.ClassFile.FieldType.double) (zq_D Q) X 0 0) (hRm : zw_rm Xc = rm_X4_value) {kc ks : Nat} (hb : kc ≤ 0 ∧ ks ≤ 0) {l0 : Option Nat} {l1 : Option Nat} {l3 : UInt64} {k54 : UInt64 → zw_H → Prop} (hk54 : ∀ (l5 : UInt64) (h : zw_H), k54 l5 h → zw_G Xc kc ks 10 h 54 [(3, .double l3), (5, .double l5)] [])  : ∀ (n9 : Nat) (l5 : UInt64) (l7 : UInt64) (l9 : Int32) (h : zw_H), zl4 (f_X4_value_B17 (zw_Zf Xc).2.2.2 Q X k54 l0 l1 l3) n9 l5 l7 l9 h → zw_G Xc kc ks 10 h 17 [(0, va_rf l0), (1, va_rf l1), (3, .double l3), (5, .double l5), (7, .double l7), (9, .int l9)] [] := by
  intro n9
  induction n9 with
  | zero => intro l5 l7 l9 h hE; exact hE.elim
  | succ n9 ih => intro l5 l7 l9 h hE; exact gt_f_X4_value_B17 hl ok tab fin hRm hb ih hk54 hE
set_option maxHeartbeats 8000000 in
theorem mt_X4_value {l : Launch} (hl : l.stackTraces = false) {Z : zw_Z} {a0 : Option Nat} {a1 : Option Nat} {a2 : Int32} {h : zw_H} {Q : UInt64 → zw_H → Prop} {X : String → Nat → zw_H → Prop} (hE : f_X4_value Z.2.2.2 a0 a1 a2 h Q X) : zw_Met l Z yX4_value (ws_ yX4_value cX4_value 10 (Option.some Jvm.ClassFile.FieldType.double)) rm_X4_value [zA a0, zA a1, zI a2] h (zq_D Q) X := by
  refine zg_start (own := "MultipoleLine$Line") (by decide +kernel) rfl (Nat.le_of_ble_eq_true rfl) hl (fun Xc ok tab fin hRm hXl hXZ => ?_)
  subst hXl
  subst hXZ
  unfold f_X4_value at hE
  refine zg_iload_n ok dX4_value_0 rfl 2 rfl ?_
  refine zg_aload_n ok dX4_value_1 rfl 1 rfl ?_
  refine zg_getI ok lf_X4_125 dX4_value_2 hE (fun v1 hE => ?_)
  refine zg_isub ok dX4_value_5 ?_
  refine zg_i2d ok dX4_value_6 ?_
  refine zg_letD hE (fun v2 hE => ?_)
  refine zg_dstore_n (L' := [(3, .double v2), (0, va_rf a0), (1, va_rf a1), (2, .int a2)]) ok dX4_value_7 rfl (by decide) rfl ?_
  refine zg_dconst0 ok dX4_value_8 ?_
  refine zg_dstore (L' := [(5, .double FP.dconst0), (3, .double v2), (0, va_rf a0), (1, va_rf a1), (2, .int a2)]) ok dX4_value_9 (by decide) rfl ?_
  refine zg_dload_n ok dX4_value_11 rfl 1 rfl ?_
  refine zg_dstore (L' := [(7, .double v2), (5, .double FP.dconst0), (3, .double v2), (0, va_rf a0), (1, va_rf a1), (2, .int a2)]) ok dX4_value_12 (by decide) rfl ?_
  refine zg_iconst (v := 0) ok dX4_value_14 (by decide) ?_
  refine zg_istore (L' := [(9, .int 0), (7, .double v2), (5, .double FP.dconst0), (3, .double v2), (0, va_rf a0), (1, va_rf a1), (2, .int a2)]) ok dX4_value_15 (by decide) rfl ?_
  refine zg_sub (L' := [(0, va_rf a0), (1, va_rf a1), (3, .double v2), (5, .double FP.dconst0), (7, .double v2), (9, .int 0)]) [4, 5, 3, 2, 1, 0] rfl ?_
  refine gt_f_X4_value_L17 hl ok tab fin hRm ⟨Nat.le_of_ble_eq_true rfl, Nat.le_of_ble_eq_true rfl⟩ ?_ _ _ _ _ _ hE
  · intro v9 h2 hE
    refine zg_dload_n ok dX4_value_54 rfl 0 rfl ?_
    refine zg_dconst0 ok dX4_value_55 ?_
    refine zg_dcmp ok dX4_value_56 ?_
    refine zg_if_ge (tgt := 67) ok dX4_value_57 (by decide) hE (fun hE => ?_) (fun hE => ?_)
    · refine zg_dload ok dX4_value_67 1 rfl ?_
      exact zg_dret ok fin dX4_value_69 ⟨Nat.le_of_ble_eq_true rfl, Nat.le_of_ble_eq_true rfl⟩ hE
    · refine zg_dconst0 ok dX4_value_60 ?_
      refine zg_dload ok dX4_value_61 1 rfl ?_
      refine zg_dsubE ok dX4_value_63 hE (fun hE => ?_)
      refine zg_letD hE (fun v10 hE => ?_)
      refine zg_goto (tgt := 69) ok dX4_value_64 (by decide) ?_
      exact zg_dret ok fin dX4_value_69 ⟨Nat.le_of_ble_eq_true rfl, Nat.le_of_ble_eq_true rfl⟩ hE
set_option maxHeartbeats 8000000 in
theorem gt_f_X4_farSum_B11 {Xc : zw_X} {Q : UInt64 → zw_H → Prop} {X : String → Nat → zw_H → Prop} (hl : (zw_l Xc).stackTraces = false) (ok : zw_ok Xc cX4_farSum "MultipoleLine$Line" yX4_farSum.name 6) (tab : zw_tab Xc []) (fin : zw_fin Xc (Option.some Jvm.ClassFile.FieldType.double) (zq_D Q) X 0 0) (hRm : zw_rm Xc = rm_X4_farSum) {kc ks : Nat} (hb : kc ≤ 0 ∧ ks ≤ 0) {R : UInt64 → Int32 → zw_H → Prop} {l0 : Option Nat} {l1 : Int32} {l2 : Int32} (hR : ∀ (l3 : UInt64) (l5 : Int32) (h : zw_H), R l3 l5 h → zw_G Xc kc ks 6 h 11 [(0, va_rf l0), (1, .int l1), (2, .int l2), (3, .double l3), (5, .int l5)] []) {k38 : UInt64 → zw_H → Prop} (hk38 : ∀ (l3 : UInt64) (h : zw_H), k38 l3 h → zw_G Xc kc ks 6 h 38 [(3, .double l3)] [])  {l3 : UInt64} {l5 : Int32} {h : zw_H} (hE : f_X4_farSum_B11 (zw_Zf Xc).2.2.2 Q X k38 l0 l1 l2 R l3 l5 h) : zw_G Xc kc ks 6 h 11 [(0, va_rf l0), (1, .int l1), (2, .int l2), (3, .double l3), (5, .int l5)] [] := by
  unfold f_X4_farSum_B11 at hE
  refine zg_iload ok dX4_farSum_11 4 rfl ?_
  refine zg_iload_n ok dX4_farSum_13 rfl 2 rfl ?_
  refine zg_icmp_ge (tgt := 38) ok dX4_farSum_14 (by decide) hE (fun hE => ?_) (fun hE => ?_)
  · refine zg_sub (L' := [(3, .double l3)]) [3] rfl ?_
    exact hk38 _ _ hE
  · refine zg_dload_n ok dX4_farSum_17 rfl 3 rfl ?_
    refine zg_aload_n ok dX4_farSum_18 rfl 0 rfl ?_
    refine zg_aload_n ok dX4_farSum_19 rfl 0 rfl ?_
    refine zg_getA ok lf_X4_26 dX4_farSum_20 hE (fun v2 hE => ?_)
    refine zg_iload ok dX4_farSum_23 4 rfl ?_
    refine zg_aaldB ok dX4_farSum_25 hE (fun v3 hE => ?_)
    refine zg_iload_n ok dX4_farSum_26 rfl 1 rfl ?_
    refine zg_callV (vs := [zA v3, zI l1]) (rest := [.double l3]) (rm := rm_X4_value) ok hRm lk_X4_200 dX4_farSum_27 hE (fun hE => mt_X4_value hl hE) rfl (Nat.le_of_ble_eq_true rfl) ⟨⟨Nat.le_of_ble_eq_true rfl, Nat.le_of_ble_eq_true rfl⟩, (by show kc + 0 ≤ 0; omega), (by show ks + 0 ≤ 0; omega)⟩ (zg_retD (fun v4 h2 hE => ?_)) (zg_xok ok tab fin ⟨(by show kc + 0 ≤ 0; omega), (by show ks + 0 ≤ 0; omega)⟩)
    refine zg_cost (kc2 := kc) (ks2 := ks) ⟨(by show kc + 0 = kc; omega), (by show ks + 0 = ks; omega)⟩ ?_
    refine zg_daddE ok dX4_farSum_30 hE (fun hE => ?_)
    refine zg_letD hE (fun v5 hE => ?_)
    refine zg_dstore_n (L' := [(3, .double v5), (0, va_rf l0), (1, .int l1), (2, .int l2), (5, .int l5)]) ok dX4_farSum_31 rfl (by decide) rfl ?_
    refine zg_iincL (k := 4) (L' := fun v6 => [(5, .int v6), (3, .double v5), (0, va_rf l0), (1, .int l1), (2, .int l2)]) ok dX4_farSum_32 (by decide +kernel) hE rfl (by decide) (fun _ => rfl) (fun v6 hE => ?_)
    refine zg_goto (tgt := 11) ok dX4_farSum_35 (by decide) ?_
    refine zg_sub (L' := [(0, va_rf l0), (1, .int l1), (2, .int l2), (3, .double v5), (5, .int v6)]) [2, 3, 4, 1, 0] rfl ?_
    exact hR _ _ _ hE
theorem gt_f_X4_farSum_L11 {Xc : zw_X} {Q : UInt64 → zw_H → Prop} {X : String → Nat → zw_H → Prop} (hl : (zw_l Xc).stackTraces = false) (ok : zw_ok Xc cX4_farSum "MultipoleLine$Line" yX4_farSum.name 6) (tab : zw_tab Xc []) (fin : zw_fin Xc (Option.some Jvm.ClassFile.FieldType.double) (zq_D Q) X 0 0) (hRm : zw_rm Xc = rm_X4_farSum) {kc ks : Nat} (hb : kc ≤ 0 ∧ ks ≤ 0) {l0 : Option Nat} {l1 : Int32} {l2 : Int32} {k38 : UInt64 → zw_H → Prop} (hk38 : ∀ (l3 : UInt64) (h : zw_H), k38 l3 h → zw_G Xc kc ks 6 h 38 [(3, .double l3)] [])  : ∀ (n9 : Nat) (l3 : UInt64) (l5 : Int32) (h : zw_H), zl3 (f_X4_farSum_B11 (zw_Zf Xc).2.2.2 Q X k38 l0 l1 l2) n9 l3 l5 h → zw_G Xc kc ks 6 h 11 [(0, va_rf l0), (1, .int l1), (2, .int l2), (3, .double l3), (5, .int l5)] [] := by
  intro n9
  induction n9 with
  | zero => intro l3 l5 h hE; exact hE.elim
  | succ n9 ih => intro l3 l5 h hE; exact gt_f_X4_farSum_B11 hl ok tab fin hRm hb ih hk38 hE
set_option maxHeartbeats 8000000 in
theorem mt_X4_farSum {l : Launch} (hl : l.stackTraces = false) {Z : zw_Z} {a0 : Option Nat} {a1 : Int32} {h : zw_H} {Q : UInt64 → zw_H → Prop} {X : String → Nat → zw_H → Prop} (hE : f_X4_farSum Z.2.2.2 a0 a1 h Q X) : zw_Met l Z yX4_farSum (ws_ yX4_farSum cX4_farSum 6 (Option.some Jvm.ClassFile.FieldType.double)) rm_X4_farSum [zA a0, zI a1] h (zq_D Q) X := by
  refine zg_start (own := "MultipoleLine$Line") (by decide +kernel) rfl (Nat.le_of_ble_eq_true rfl) hl (fun Xc ok tab fin hRm hXl hXZ => ?_)
  subst hXl
  subst hXZ
  unfold f_X4_farSum at hE
  refine zg_aload_n ok dX4_farSum_0 rfl 0 rfl ?_
  refine zg_iload_n ok dX4_farSum_1 rfl 1 rfl ?_
  refine zg_callV (vs := [zI a1]) (rest := []) (rm := rm_X4_laysFar) ok hRm lk_X4_195 dX4_farSum_2 hE (fun hE => mt_X4_laysFar hl hE) rfl (Nat.le_of_ble_eq_true rfl) ⟨⟨Nat.le_of_ble_eq_true rfl, Nat.le_of_ble_eq_true rfl⟩, Nat.le_of_ble_eq_true rfl, Nat.le_of_ble_eq_true rfl⟩ (zg_retI (fun v1 h1 hE => ?_)) (zg_xok ok tab fin ⟨Nat.le_of_ble_eq_true rfl, Nat.le_of_ble_eq_true rfl⟩)
  refine zg_cost (kc2 := 0) (ks2 := 0) ⟨rfl, rfl⟩ ?_
  refine zg_istore_n (L' := [(2, .int v1), (0, va_rf a0), (1, .int a1)]) ok dX4_farSum_5 rfl (by decide) rfl ?_
  refine zg_dconst0 ok dX4_farSum_6 ?_
  refine zg_dstore_n (L' := [(3, .double FP.dconst0), (2, .int v1), (0, va_rf a0), (1, .int a1)]) ok dX4_farSum_7 rfl (by decide) rfl ?_
  refine zg_iconst (v := 0) ok dX4_farSum_8 (by decide) ?_
  refine zg_istore (L' := [(5, .int 0), (3, .double FP.dconst0), (2, .int v1), (0, va_rf a0), (1, .int a1)]) ok dX4_farSum_9 (by decide) rfl ?_
  refine zg_sub (L' := [(0, va_rf a0), (1, .int a1), (2, .int v1), (3, .double FP.dconst0), (5, .int 0)]) [3, 4, 2, 1, 0] rfl ?_
  refine gt_f_X4_farSum_L11 hl ok tab fin hRm ⟨Nat.le_of_ble_eq_true rfl, Nat.le_of_ble_eq_true rfl⟩ ?_ _ _ _ _ hE
  · intro v7 h3 hE
    refine zg_dload_n ok dX4_farSum_38 rfl 0 rfl ?_
    exact zg_dret ok fin dX4_farSum_39 ⟨Nat.le_of_ble_eq_true rfl, Nat.le_of_ble_eq_true rfl⟩ hE
set_option maxHeartbeats 8000000 in
theorem mt_X4_sumBy {l : Launch} (hl : l.stackTraces = false) {Z : zw_Z} {a0 : Option Nat} {a1 : Int32} {a2 : Int32} {h : zw_H} {Q : UInt64 → zw_H → Prop} {X : String → Nat → zw_H → Prop} (hE : f_X4_sumBy Z.2.2.2 a0 a1 a2 h Q X) : zw_Met l Z yX4_sumBy (ws_ yX4_sumBy cX4_sumBy 3 (Option.some Jvm.ClassFile.FieldType.double)) rm_X4_sumBy [zA a0, zI a1, zI a2] h (zq_D Q) X := by
  refine zg_start (own := "MultipoleLine$Line") (by decide +kernel) rfl (Nat.le_of_ble_eq_true rfl) hl (fun Xc ok tab fin hRm hXl hXZ => ?_)
  subst hXl
  subst hXZ
  unfold f_X4_sumBy at hE
  refine zg_iload_n ok dX4_sumBy_0 rfl 2 rfl ?_
  refine zg_if_eq (tgt := 20) ok dX4_sumBy_1 (by decide) hE (fun hE => ?_) (fun hE => ?_)
  · refine zg_aload_n ok dX4_sumBy_20 rfl 0 rfl ?_
    refine zg_iload_n ok dX4_sumBy_21 rfl 1 rfl ?_
    refine zg_iconst (v := 0) ok dX4_sumBy_22 (by decide) ?_
    refine zg_iconst (v := (-1)) ok dX4_sumBy_23 (by decide) ?_
    refine zg_callV (vs := [zI a1, zI 0, zI (-1)]) (rest := []) (rm := rm_X4_sum) ok hRm lk_X4_214 dX4_sumBy_24 hE (fun hE => mt_X4_sum hl hE) rfl (Nat.le_of_ble_eq_true rfl) ⟨⟨Nat.le_of_ble_eq_true rfl, Nat.le_of_ble_eq_true rfl⟩, Nat.le_of_ble_eq_true rfl, Nat.le_of_ble_eq_true rfl⟩ (zg_retD (fun v1 h1 hE => ?_)) (zg_xok ok tab fin ⟨Nat.le_of_ble_eq_true rfl, Nat.le_of_ble_eq_true rfl⟩)
    refine zg_cost (kc2 := 0) (ks2 := 0) ⟨rfl, rfl⟩ ?_
    exact zg_dret ok fin dX4_sumBy_27 ⟨Nat.le_of_ble_eq_true rfl, Nat.le_of_ble_eq_true rfl⟩ hE
  · refine zg_aload_n ok dX4_sumBy_4 rfl 0 rfl ?_
    refine zg_iload_n ok dX4_sumBy_5 rfl 1 rfl ?_
    refine zg_iconst (v := 1) ok dX4_sumBy_6 (by decide) ?_
    refine zg_iconst (v := (-1)) ok dX4_sumBy_7 (by decide) ?_
    refine zg_callV (vs := [zI a1, zI 1, zI (-1)]) (rest := []) (rm := rm_X4_sum) ok hRm lk_X4_214 dX4_sumBy_8 hE (fun hE => mt_X4_sum hl hE) rfl (Nat.le_of_ble_eq_true rfl) ⟨⟨Nat.le_of_ble_eq_true rfl, Nat.le_of_ble_eq_true rfl⟩, Nat.le_of_ble_eq_true rfl, Nat.le_of_ble_eq_true rfl⟩ (zg_retD (fun v2 h2 hE => ?_)) (zg_xok ok tab fin ⟨Nat.le_of_ble_eq_true rfl, Nat.le_of_ble_eq_true rfl⟩)
    refine zg_cost (kc2 := 0) (ks2 := 0) ⟨rfl, rfl⟩ ?_
    refine zg_aload_n ok dX4_sumBy_11 rfl 0 rfl ?_
    refine zg_iload_n ok dX4_sumBy_12 rfl 1 rfl ?_
    refine zg_callV (vs := [zI a1]) (rest := [.double v2]) (rm := rm_X4_farSum) ok hRm lk_X4_218 dX4_sumBy_13 hE (fun hE => mt_X4_farSum hl hE) rfl (Nat.le_of_ble_eq_true rfl) ⟨⟨Nat.le_of_ble_eq_true rfl, Nat.le_of_ble_eq_true rfl⟩, Nat.le_of_ble_eq_true rfl, Nat.le_of_ble_eq_true rfl⟩ (zg_retD (fun v3 h3 hE => ?_)) (zg_xok ok tab fin ⟨Nat.le_of_ble_eq_true rfl, Nat.le_of_ble_eq_true rfl⟩)
    refine zg_cost (kc2 := 0) (ks2 := 0) ⟨rfl, rfl⟩ ?_
    refine zg_daddE ok dX4_sumBy_16 hE (fun hE => ?_)
    refine zg_letD hE (fun v4 hE => ?_)
    refine zg_goto (tgt := 27) ok dX4_sumBy_17 (by decide) ?_
    exact zg_dret ok fin dX4_sumBy_27 ⟨Nat.le_of_ble_eq_true rfl, Nat.le_of_ble_eq_true rfl⟩ hE
set_option maxHeartbeats 8000000 in
theorem mt_X1_plain {l : Launch} (hl : l.stackTraces = false) {Z : zw_Z} {a0 : Option Nat} {a1 : Int32} {h : zw_H} {Q : UInt64 → zw_H → Prop} {X : String → Nat → zw_H → Prop} (hE : f_X1_plain Z.2.2.2 a0 a1 h Q X) : zw_Met l Z yX1_plain (ws_ yX1_plain cX1_plain 2 (Option.some Jvm.ClassFile.FieldType.double)) rm_X1_plain [zA a0, zI a1] h (zq_D Q) X := by
  refine zg_start (own := "MultipoleLine") (by decide +kernel) rfl (Nat.le_of_ble_eq_true rfl) hl (fun Xc ok tab fin hRm hXl hXZ => ?_)
  subst hXl
  subst hXZ
  unfold f_X1_plain at hE
  refine zg_aload_n ok dX1_plain_0 rfl 0 rfl ?_
  refine zg_iload_n ok dX1_plain_1 rfl 1 rfl ?_
  refine zg_callV (vs := [zI a1]) (rest := []) (rm := rm_X1_at) ok hRm lk_X1_193 dX1_plain_2 hE (fun hE => mt_X1_at hl hE) rfl (Nat.le_of_ble_eq_true rfl) ⟨⟨Nat.le_of_ble_eq_true rfl, Nat.le_of_ble_eq_true rfl⟩, Nat.le_of_ble_eq_true rfl, Nat.le_of_ble_eq_true rfl⟩ (zg_retA (fun v1 h1 hE => ?_)) (zg_xok ok tab fin ⟨Nat.le_of_ble_eq_true rfl, Nat.le_of_ble_eq_true rfl⟩)
  refine zg_cost (kc2 := 2) (ks2 := 12) ⟨rfl, rfl⟩ ?_
  refine zg_iload_n ok dX1_plain_5 rfl 1 rfl ?_
  refine zg_iconst (v := 0) ok dX1_plain_6 (by decide) ?_
  refine zg_callV (vs := [zI a1, zI 0]) (rest := []) (rm := rm_X4_sumBy) ok hRm lk_X1_287 dX1_plain_7 hE (fun hE => mt_X4_sumBy hl hE) rfl (Nat.le_of_ble_eq_true rfl) ⟨⟨Nat.le_of_ble_eq_true rfl, Nat.le_of_ble_eq_true rfl⟩, Nat.le_of_ble_eq_true rfl, Nat.le_of_ble_eq_true rfl⟩ (zg_retD (fun v2 h2 hE => ?_)) (zg_xok ok tab fin ⟨Nat.le_of_ble_eq_true rfl, Nat.le_of_ble_eq_true rfl⟩)
  refine zg_cost (kc2 := 2) (ks2 := 12) ⟨rfl, rfl⟩ ?_
  exact zg_dret ok fin dX1_plain_10 ⟨Nat.le_of_ble_eq_true rfl, Nat.le_of_ble_eq_true rfl⟩ hE
set_option maxHeartbeats 8000000 in
theorem mt_X1_nearSum {l : Launch} (hl : l.stackTraces = false) {Z : zw_Z} {a0 : Option Nat} {a1 : Int32} {h : zw_H} {Q : UInt64 → zw_H → Prop} {X : String → Nat → zw_H → Prop} (hE : f_X1_nearSum Z.2.2.2 a0 a1 h Q X) : zw_Met l Z yX1_nearSum (ws_ yX1_nearSum cX1_nearSum 2 (Option.some Jvm.ClassFile.FieldType.double)) rm_X1_nearSum [zA a0, zI a1] h (zq_D Q) X := by
  refine zg_start (own := "MultipoleLine") (by decide +kernel) rfl (Nat.le_of_ble_eq_true rfl) hl (fun Xc ok tab fin hRm hXl hXZ => ?_)
  subst hXl
  subst hXZ
  unfold f_X1_nearSum at hE
  refine zg_aload_n ok dX1_nearSum_0 rfl 0 rfl ?_
  refine zg_iload_n ok dX1_nearSum_1 rfl 1 rfl ?_
  refine zg_callV (vs := [zI a1]) (rest := []) (rm := rm_X1_at) ok hRm lk_X1_193 dX1_nearSum_2 hE (fun hE => mt_X1_at hl hE) rfl (Nat.le_of_ble_eq_true rfl) ⟨⟨Nat.le_of_ble_eq_true rfl, Nat.le_of_ble_eq_true rfl⟩, Nat.le_of_ble_eq_true rfl, Nat.le_of_ble_eq_true rfl⟩ (zg_retA (fun v1 h1 hE => ?_)) (zg_xok ok tab fin ⟨Nat.le_of_ble_eq_true rfl, Nat.le_of_ble_eq_true rfl⟩)
  refine zg_cost (kc2 := 2) (ks2 := 12) ⟨rfl, rfl⟩ ?_
  refine zg_iload_n ok dX1_nearSum_5 rfl 1 rfl ?_
  refine zg_iconst (v := 1) ok dX1_nearSum_6 (by decide) ?_
  refine zg_iconst (v := (-1)) ok dX1_nearSum_7 (by decide) ?_
  refine zg_callV (vs := [zI a1, zI 1, zI (-1)]) (rest := []) (rm := rm_X4_sum) ok hRm lk_X1_291 dX1_nearSum_8 hE (fun hE => mt_X4_sum hl hE) rfl (Nat.le_of_ble_eq_true rfl) ⟨⟨Nat.le_of_ble_eq_true rfl, Nat.le_of_ble_eq_true rfl⟩, Nat.le_of_ble_eq_true rfl, Nat.le_of_ble_eq_true rfl⟩ (zg_retD (fun v2 h2 hE => ?_)) (zg_xok ok tab fin ⟨Nat.le_of_ble_eq_true rfl, Nat.le_of_ble_eq_true rfl⟩)
  refine zg_cost (kc2 := 2) (ks2 := 12) ⟨rfl, rfl⟩ ?_
  exact zg_dret ok fin dX1_nearSum_11 ⟨Nat.le_of_ble_eq_true rfl, Nat.le_of_ble_eq_true rfl⟩ hE
set_option maxHeartbeats 8000000 in
theorem mt_X1_farSum {l : Launch} (hl : l.stackTraces = false) {Z : zw_Z} {a0 : Option Nat} {a1 : Int32} {h : zw_H} {Q : UInt64 → zw_H → Prop} {X : String → Nat → zw_H → Prop} (hE : f_X1_farSum Z.2.2.2 a0 a1 h Q X) : zw_Met l Z yX1_farSum (ws_ yX1_farSum cX1_farSum 2 (Option.some Jvm.ClassFile.FieldType.double)) rm_X1_farSum [zA a0, zI a1] h (zq_D Q) X := by
  refine zg_start (own := "MultipoleLine") (by decide +kernel) rfl (Nat.le_of_ble_eq_true rfl) hl (fun Xc ok tab fin hRm hXl hXZ => ?_)
  subst hXl
  subst hXZ
  unfold f_X1_farSum at hE
  refine zg_aload_n ok dX1_farSum_0 rfl 0 rfl ?_
  refine zg_iload_n ok dX1_farSum_1 rfl 1 rfl ?_
  refine zg_callV (vs := [zI a1]) (rest := []) (rm := rm_X1_at) ok hRm lk_X1_193 dX1_farSum_2 hE (fun hE => mt_X1_at hl hE) rfl (Nat.le_of_ble_eq_true rfl) ⟨⟨Nat.le_of_ble_eq_true rfl, Nat.le_of_ble_eq_true rfl⟩, Nat.le_of_ble_eq_true rfl, Nat.le_of_ble_eq_true rfl⟩ (zg_retA (fun v1 h1 hE => ?_)) (zg_xok ok tab fin ⟨Nat.le_of_ble_eq_true rfl, Nat.le_of_ble_eq_true rfl⟩)
  refine zg_cost (kc2 := 2) (ks2 := 12) ⟨rfl, rfl⟩ ?_
  refine zg_iload_n ok dX1_farSum_5 rfl 1 rfl ?_
  refine zg_callV (vs := [zI a1]) (rest := []) (rm := rm_X4_farSum) ok hRm lk_X1_295 dX1_farSum_6 hE (fun hE => mt_X4_farSum hl hE) rfl (Nat.le_of_ble_eq_true rfl) ⟨⟨Nat.le_of_ble_eq_true rfl, Nat.le_of_ble_eq_true rfl⟩, Nat.le_of_ble_eq_true rfl, Nat.le_of_ble_eq_true rfl⟩ (zg_retD (fun v2 h2 hE => ?_)) (zg_xok ok tab fin ⟨Nat.le_of_ble_eq_true rfl, Nat.le_of_ble_eq_true rfl⟩)
  refine zg_cost (kc2 := 2) (ks2 := 12) ⟨rfl, rfl⟩ ?_
  exact zg_dret ok fin dX1_farSum_9 ⟨Nat.le_of_ble_eq_true rfl, Nat.le_of_ble_eq_true rfl⟩ hE
set_option maxHeartbeats 8000000 in
theorem mt_X1_farBits {l : Launch} (hl : l.stackTraces = false) {Z : zw_Z} {a0 : Option Nat} {a1 : Int32} {h : zw_H} {Q : Int64 → zw_H → Prop} {X : String → Nat → zw_H → Prop} (hE : f_X1_farBits Z.2.2.2 a0 a1 h Q X) : zw_Met l Z yX1_farBits (ws_ yX1_farBits cX1_farBits 2 (Option.some Jvm.ClassFile.FieldType.long)) rm_X1_farBits [zA a0, zI a1] h (zq_J Q) X := by
  refine zg_start (own := "MultipoleLine") (by decide +kernel) rfl (Nat.le_of_ble_eq_true rfl) hl (fun Xc ok tab fin hRm hXl hXZ => ?_)
  subst hXl
  subst hXZ
  unfold f_X1_farBits at hE
  refine zg_aload_n ok dX1_farBits_0 rfl 0 rfl ?_
  refine zg_iload_n ok dX1_farBits_1 rfl 1 rfl ?_
  refine zg_callV (vs := [zI a1]) (rest := []) (rm := rm_X1_farSum) ok hRm lk_X1_299 dX1_farBits_2 hE (fun hE => mt_X1_farSum hl hE) rfl (Nat.le_of_ble_eq_true rfl) ⟨⟨Nat.le_of_ble_eq_true rfl, Nat.le_of_ble_eq_true rfl⟩, Nat.le_of_ble_eq_true rfl, Nat.le_of_ble_eq_true rfl⟩ (zg_retD (fun v1 h1 hE => ?_)) (zg_xok ok tab fin ⟨Nat.le_of_ble_eq_true rfl, Nat.le_of_ble_eq_true rfl⟩)
  refine zg_cost (kc2 := 2) (ks2 := 12) ⟨rfl, rfl⟩ ?_
  refine zg_callS (vs := [zD v1]) (rest := []) (rm := rm_J34_doubleToLongBits) ok hRm lk_X1_300 dX1_farBits_5 hE (fun hE => mt_J34_doubleToLongBits hl hE) rfl (Nat.le_of_ble_eq_true rfl) ⟨⟨Nat.le_of_ble_eq_true rfl, Nat.le_of_ble_eq_true rfl⟩, Nat.le_of_ble_eq_true rfl, Nat.le_of_ble_eq_true rfl⟩ (zg_retJ (fun v2 h2 hE => ?_)) (zg_xok ok tab fin ⟨Nat.le_of_ble_eq_true rfl, Nat.le_of_ble_eq_true rfl⟩)
  refine zg_cost (kc2 := 2) (ks2 := 12) ⟨rfl, rfl⟩ ?_
  exact zg_lret ok fin dX1_farBits_8 ⟨Nat.le_of_ble_eq_true rfl, Nat.le_of_ble_eq_true rfl⟩ hE
set_option maxHeartbeats 8000000 in
theorem gt_f_X1_value_J38 {Xc : zw_X} {Q : UInt64 → zw_H → Prop} {X : String → Nat → zw_H → Prop} (hl : (zw_l Xc).stackTraces = false) (ok : zw_ok Xc cX1_value "MultipoleLine" yX1_value.name 5) (tab : zw_tab Xc []) (fin : zw_fin Xc (Option.some Jvm.ClassFile.FieldType.double) (zq_D Q) X 4 24) (hRm : zw_rm Xc = rm_X1_value)  {l0 : Option Nat} {l3 : Int32} {l4 : Option Nat} {s0 : Int32} {h : zw_H} (hE : f_X1_value_J38 (zw_Zf Xc).2.2.2 Q X  l0 l3 l4 s0 h) : zw_G Xc 3 18 5 h 38 [(0, va_rf l0), (3, .int l3), (4, va_rf l4)] [.int s0] := by
  unfold f_X1_value_J38 at hE
  refine zg_callS (vs := [zI s0]) (rest := []) (rm := rm_X1_checkArgument) ok hRm lk_X1_98 dX1_value_38 hE (fun hE => mt_X1_checkArgument hl hE) rfl (Nat.le_of_ble_eq_true rfl) ⟨⟨Nat.le_of_ble_eq_true rfl, Nat.le_of_ble_eq_true rfl⟩, Nat.le_of_ble_eq_true rfl, Nat.le_of_ble_eq_true rfl⟩ (zg_retV (fun h3 hE => ?_)) (zg_xok ok tab fin ⟨Nat.le_of_ble_eq_true rfl, Nat.le_of_ble_eq_true rfl⟩)
  refine zg_cost (kc2 := 4) (ks2 := 24) ⟨rfl, rfl⟩ ?_
  refine zg_aload_n ok dX1_value_41 rfl 0 rfl ?_
  refine zg_getA ok lf_X1_68 dX1_value_42 hE (fun v3 hE => ?_)
  refine zg_aload ok dX1_value_45 2 rfl ?_
  refine zg_iload_n ok dX1_value_47 rfl 1 rfl ?_
  refine zg_callV (vs := [zA l4, zI l3]) (rest := []) (rm := rm_X4_value) ok hRm lk_X1_311 dX1_value_48 hE (fun hE => mt_X4_value hl hE) rfl (Nat.le_of_ble_eq_true rfl) ⟨⟨Nat.le_of_ble_eq_true rfl, Nat.le_of_ble_eq_true rfl⟩, Nat.le_of_ble_eq_true rfl, Nat.le_of_ble_eq_true rfl⟩ (zg_retD (fun v4 h4 hE => ?_)) (zg_xok ok tab fin ⟨Nat.le_of_ble_eq_true rfl, Nat.le_of_ble_eq_true rfl⟩)
  refine zg_cost (kc2 := 4) (ks2 := 24) ⟨rfl, rfl⟩ ?_
  exact zg_dret ok fin dX1_value_51 ⟨Nat.le_of_ble_eq_true rfl, Nat.le_of_ble_eq_true rfl⟩ hE
set_option maxHeartbeats 8000000 in
theorem gt_f_X1_value_J37 {Xc : zw_X} {Q : UInt64 → zw_H → Prop} {X : String → Nat → zw_H → Prop} (hl : (zw_l Xc).stackTraces = false) (ok : zw_ok Xc cX1_value "MultipoleLine" yX1_value.name 5) (tab : zw_tab Xc []) (fin : zw_fin Xc (Option.some Jvm.ClassFile.FieldType.double) (zq_D Q) X 4 24) (hRm : zw_rm Xc = rm_X1_value)  {l0 : Option Nat} {l3 : Int32} {l4 : Option Nat}  {h : zw_H} (hE : f_X1_value_J37 (zw_Zf Xc).2.2.2 Q X  l0 l3 l4 h) : zw_G Xc 3 18 5 h 37 [(0, va_rf l0), (3, .int l3), (4, va_rf l4)] [] := by
  unfold f_X1_value_J37 at hE
  refine zg_iconst (v := 0) ok dX1_value_37 (by decide) ?_
  exact gt_f_X1_value_J38 hl ok tab fin hRm  hE
set_option maxHeartbeats 8000000 in
theorem mt_X1_value {l : Launch} (hl : l.stackTraces = false) {Z : zw_Z} {a0 : Option Nat} {a1 : Int32} {a2 : Int32} {a3 : Int32} {h : zw_H} {Q : UInt64 → zw_H → Prop} {X : String → Nat → zw_H → Prop} (hE : f_X1_value Z.2.2.2 a0 a1 a2 a3 h Q X) : zw_Met l Z yX1_value (ws_ yX1_value cX1_value 5 (Option.some Jvm.ClassFile.FieldType.double)) rm_X1_value [zA a0, zI a1, zI a2, zI a3] h (zq_D Q) X := by
  refine zg_start (own := "MultipoleLine") (by decide +kernel) rfl (Nat.le_of_ble_eq_true rfl) hl (fun Xc ok tab fin hRm hXl hXZ => ?_)
  subst hXl
  subst hXZ
  unfold f_X1_value at hE
  refine zg_aload_n ok dX1_value_0 rfl 0 rfl ?_
  refine zg_iload_n ok dX1_value_1 rfl 1 rfl ?_
  refine zg_iload_n ok dX1_value_2 rfl 2 rfl ?_
  refine zg_callV (vs := [zI a1, zI a2]) (rest := []) (rm := rm_X1_boxOf) ok hRm lk_X1_196 dX1_value_3 hE (fun hE => mt_X1_boxOf hl hE) rfl (Nat.le_of_ble_eq_true rfl) ⟨⟨Nat.le_of_ble_eq_true rfl, Nat.le_of_ble_eq_true rfl⟩, Nat.le_of_ble_eq_true rfl, Nat.le_of_ble_eq_true rfl⟩ (zg_retA (fun v1 h1 hE => ?_)) (zg_xok ok tab fin ⟨Nat.le_of_ble_eq_true rfl, Nat.le_of_ble_eq_true rfl⟩)
  refine zg_cost (kc2 := 3) (ks2 := 18) ⟨rfl, rfl⟩ ?_
  refine zg_astore (L' := [(4, va_rf v1), (0, va_rf a0), (1, .int a1), (2, .int a2), (3, .int a3)]) ok dX1_value_6 (by decide) rfl ?_
  refine zg_iload_n ok dX1_value_8 rfl 4 rfl ?_
  refine zg_callS (vs := [zI a3]) (rest := []) (rm := rm_X1_isPoint) ok hRm lk_X1_94 dX1_value_9 hE (fun hE => mt_X1_isPoint hl hE) rfl (Nat.le_of_ble_eq_true rfl) ⟨⟨Nat.le_of_ble_eq_true rfl, Nat.le_of_ble_eq_true rfl⟩, Nat.le_of_ble_eq_true rfl, Nat.le_of_ble_eq_true rfl⟩ (zg_retI (fun v2 h2 hE => ?_)) (zg_xok ok tab fin ⟨Nat.le_of_ble_eq_true rfl, Nat.le_of_ble_eq_true rfl⟩)
  refine zg_cost (kc2 := 3) (ks2 := 18) ⟨rfl, rfl⟩ ?_
  refine zg_if_eq (tgt := 37) ok dX1_value_12 (by decide) hE (fun hE => ?_) (fun hE => ?_)
  · refine zg_sub (L' := [(0, va_rf a0), (3, .int a3), (4, va_rf v1)]) [1, 4, 0] rfl ?_
    exact gt_f_X1_value_J37 hl ok tab fin hRm  hE
  · refine zg_iload_n ok dX1_value_15 rfl 4 rfl ?_
    refine zg_aload ok dX1_value_16 0 rfl ?_
    refine zg_getI ok lf_X1_205 dX1_value_18 hE (fun v5 hE => ?_)
    refine zg_isub ok dX1_value_21 ?_
    refine zg_callS (vs := [zI (a3 - v5)]) (rest := []) (rm := rm_J14_abs) ok hRm lk_X1_306 dX1_value_22 hE (fun hE => mt_J14_abs hl hE) rfl (Nat.le_of_ble_eq_true rfl) ⟨⟨Nat.le_of_ble_eq_true rfl, Nat.le_of_ble_eq_true rfl⟩, Nat.le_of_ble_eq_true rfl, Nat.le_of_ble_eq_true rfl⟩ (zg_retI (fun v6 h5 hE => ?_)) (zg_xok ok tab fin ⟨Nat.le_of_ble_eq_true rfl, Nat.le_of_ble_eq_true rfl⟩)
    refine zg_cost (kc2 := 3) (ks2 := 18) ⟨rfl, rfl⟩ ?_
    refine zg_aload ok dX1_value_25 0 rfl ?_
    refine zg_getI ok lf_X1_202 dX1_value_27 hE (fun v7 hE => ?_)
    refine zg_icmp_lt (tgt := 37) ok dX1_value_30 (by decide) hE (fun hE => ?_) (fun hE => ?_)
    · refine zg_sub (L' := [(0, va_rf a0), (3, .int a3), (4, va_rf v1)]) [1, 4, 0] rfl ?_
      exact gt_f_X1_value_J37 hl ok tab fin hRm  hE
    · refine zg_iconst (v := 1) ok dX1_value_33 (by decide) ?_
      refine zg_goto (tgt := 38) ok dX1_value_34 (by decide) ?_
      refine zg_sub (L' := [(0, va_rf a0), (3, .int a3), (4, va_rf v1)]) [1, 4, 0] rfl ?_
      exact gt_f_X1_value_J38 hl ok tab fin hRm  hE
set_option maxHeartbeats 8000000 in
theorem gt_f_X1_power_B6 {Xc : zw_X} {Q : UInt64 → zw_H → Prop} {X : String → Nat → zw_H → Prop} (hl : (zw_l Xc).stackTraces = false) (ok : zw_ok Xc cX1_power "MultipoleLine" yX1_power.name 8) (tab : zw_tab Xc []) (fin : zw_fin Xc (Option.some Jvm.ClassFile.FieldType.double) (zq_D Q) X 0 0) (hRm : zw_rm Xc = rm_X1_power) {kc ks : Nat} (hb : kc ≤ 0 ∧ ks ≤ 0) {R : UInt64 → Int32 → zw_H → Prop} {l2 : UInt64} {l4 : Int32} (hR : ∀ (l5 : UInt64) (l7 : Int32) (h : zw_H), R l5 l7 h → zw_G Xc kc ks 8 h 6 [(2, .double l2), (4, .int l4), (5, .double l5), (7, .int l7)] []) {k25 : UInt64 → zw_H → Prop} (hk25 : ∀ (l5 : UInt64) (h : zw_H), k25 l5 h → zw_G Xc kc ks 8 h 25 [(5, .double l5)] [])  {l5 : UInt64} {l7 : Int32} {h : zw_H} (hE : f_X1_power_B6 (zw_Zf Xc).2.2.2 Q X k25 l2 l4 R l5 l7 h) : zw_G Xc kc ks 8 h 6 [(2, .double l2), (4, .int l4), (5, .double l5), (7, .int l7)] [] := by
  unfold f_X1_power_B6 at hE
  refine zg_iload ok dX1_power_6 3 rfl ?_
  refine zg_iload ok dX1_power_8 1 rfl ?_
  refine zg_icmp_ge (tgt := 25) ok dX1_power_10 (by decide) hE (fun hE => ?_) (fun hE => ?_)
  · refine zg_sub (L' := [(5, .double l5)]) [2] rfl ?_
    exact hk25 _ _ hE
  · refine zg_dload ok dX1_power_13 2 rfl ?_
    refine zg_dload_n ok dX1_power_15 rfl 0 rfl ?_
    refine zg_dmulE ok dX1_power_16 hE (fun hE => ?_)
    refine zg_letD hE (fun v1 hE => ?_)
    refine zg_dstore (L' := [(5, .double v1), (2, .double l2), (4, .int l4), (7, .int l7)]) ok dX1_power_17 (by decide) rfl ?_
    refine zg_iincL (k := 3) (L' := fun v2 => [(7, .int v2), (5, .double v1), (2, .double l2), (4, .int l4)]) ok dX1_power_19 (by decide +kernel) hE rfl (by decide) (fun _ => rfl) (fun v2 hE => ?_)
    refine zg_goto (tgt := 6) ok dX1_power_22 (by decide) ?_
    refine zg_sub (L' := [(2, .double l2), (4, .int l4), (5, .double v1), (7, .int v2)]) [2, 3, 1, 0] rfl ?_
    exact hR _ _ _ hE
theorem gt_f_X1_power_L6 {Xc : zw_X} {Q : UInt64 → zw_H → Prop} {X : String → Nat → zw_H → Prop} (hl : (zw_l Xc).stackTraces = false) (ok : zw_ok Xc cX1_power "MultipoleLine" yX1_power.name 8) (tab : zw_tab Xc []) (fin : zw_fin Xc (Option.some Jvm.ClassFile.FieldType.double) (zq_D Q) X 0 0) (hRm : zw_rm Xc = rm_X1_power) {kc ks : Nat} (hb : kc ≤ 0 ∧ ks ≤ 0) {l2 : UInt64} {l4 : Int32} {k25 : UInt64 → zw_H → Prop} (hk25 : ∀ (l5 : UInt64) (h : zw_H), k25 l5 h → zw_G Xc kc ks 8 h 25 [(5, .double l5)] [])  : ∀ (n9 : Nat) (l5 : UInt64) (l7 : Int32) (h : zw_H), zl3 (f_X1_power_B6 (zw_Zf Xc).2.2.2 Q X k25 l2 l4) n9 l5 l7 h → zw_G Xc kc ks 8 h 6 [(2, .double l2), (4, .int l4), (5, .double l5), (7, .int l7)] [] := by
  intro n9
  induction n9 with
  | zero => intro l5 l7 h hE; exact hE.elim
  | succ n9 ih => intro l5 l7 h hE; exact gt_f_X1_power_B6 hl ok tab fin hRm hb ih hk25 hE
set_option maxHeartbeats 8000000 in
theorem mt_X1_power {l : Launch} (hl : l.stackTraces = false) {Z : zw_Z} {a0 : UInt64} {a1 : UInt64} {a2 : Int32} {h : zw_H} {Q : UInt64 → zw_H → Prop} {X : String → Nat → zw_H → Prop} (hE : f_X1_power Z.2.2.2 a0 a1 a2 h Q X) : zw_Met l Z yX1_power (ws_ yX1_power cX1_power 8 (Option.some Jvm.ClassFile.FieldType.double)) rm_X1_power [zD a0, zD a1, zI a2] h (zq_D Q) X := by
  refine zg_start (own := "MultipoleLine") (by decide +kernel) rfl (Nat.le_of_ble_eq_true rfl) hl (fun Xc ok tab fin hRm hXl hXZ => ?_)
  subst hXl
  subst hXZ
  unfold f_X1_power at hE
  refine zg_dload_n ok dX1_power_0 rfl 0 rfl ?_
  refine zg_dstore (L' := [(5, .double a0), (0, .double a0), (2, .double a1), (4, .int a2)]) ok dX1_power_1 (by decide) rfl ?_
  refine zg_iconst (v := 0) ok dX1_power_3 (by decide) ?_
  refine zg_istore (L' := [(7, .int 0), (5, .double a0), (0, .double a0), (2, .double a1), (4, .int a2)]) ok dX1_power_4 (by decide) rfl ?_
  refine zg_sub (L' := [(2, .double a1), (4, .int a2), (5, .double a0), (7, .int 0)]) [3, 4, 1, 0] rfl ?_
  refine gt_f_X1_power_L6 hl ok tab fin hRm ⟨Nat.le_of_ble_eq_true rfl, Nat.le_of_ble_eq_true rfl⟩ ?_ _ _ _ _ hE
  · intro v3 h1 hE
    refine zg_dload ok dX1_power_25 0 rfl ?_
    exact zg_dret ok fin dX1_power_27 ⟨Nat.le_of_ble_eq_true rfl, Nat.le_of_ble_eq_true rfl⟩ hE
set_option maxHeartbeats 8000000 in
theorem gt_f_X4_bound_B12 {Xc : zw_X} {Q : UInt64 → zw_H → Prop} {X : String → Nat → zw_H → Prop} (hl : (zw_l Xc).stackTraces = false) (ok : zw_ok Xc cX4_bound "MultipoleLine$Line" yX4_bound.name 12) (tab : zw_tab Xc []) (fin : zw_fin Xc (Option.some Jvm.ClassFile.FieldType.double) (zq_D Q) X 0 0) (hRm : zw_rm Xc = rm_X4_bound) {kc ks : Nat} (hb : kc ≤ 0 ∧ ks ≤ 0) {R : UInt64 → Int32 → zw_H → Prop} {l0 : Option Nat} {l1 : Int32} {l2 : Int32} {l3 : Int32} (hR : ∀ (l4 : UInt64) (l6 : Int32) (h : zw_H), R l4 l6 h → zw_G Xc kc ks 12 h 12 [(0, va_rf l0), (1, .int l1), (2, .int l2), (3, .int l3), (4, .double l4), (6, .int l6)] []) {k92 : UInt64 → zw_H → Prop} (hk92 : ∀ (l4 : UInt64) (h : zw_H), k92 l4 h → zw_G Xc kc ks 12 h 92 [(4, .double l4)] [])  {l4 : UInt64} {l6 : Int32} {h : zw_H} (hE : f_X4_bound_B12 (zw_Zf Xc).2.2.2 Q X k92 l0 l1 l2 l3 R l4 l6 h) : zw_G Xc kc ks 12 h 12 [(0, va_rf l0), (1, .int l1), (2, .int l2), (3, .int l3), (4, .double l4), (6, .int l6)] [] := by
  unfold f_X4_bound_B12 at hE
  refine zg_iload ok dX4_bound_12 5 rfl ?_
  refine zg_iload_n ok dX4_bound_14 rfl 3 rfl ?_
  refine zg_icmp_ge (tgt := 92) ok dX4_bound_15 (by decide) hE (fun hE => ?_) (fun hE => ?_)
  · refine zg_sub (L' := [(4, .double l4)]) [4] rfl ?_
    exact hk92 _ _ hE
  · refine zg_aload_n ok dX4_bound_18 rfl 0 rfl ?_
    refine zg_getA ok lf_X4_26 dX4_bound_19 hE (fun v2 hE => ?_)
    refine zg_iload ok dX4_bound_22 5 rfl ?_
    refine zg_aaldB ok dX4_bound_24 hE (fun v3 hE => ?_)
    refine zg_astore (L' := [(7, va_rf v3), (0, va_rf l0), (1, .int l1), (2, .int l2), (3, .int l3), (4, .double l4), (6, .int l6)]) ok dX4_bound_25 (by decide) rfl ?_
    refine zg_iload_n ok dX4_bound_27 rfl 2 rfl ?_
    refine zg_aload ok dX4_bound_28 0 rfl ?_
    refine zg_getI ok lf_X4_125 dX4_bound_30 hE (fun v4 hE => ?_)
    refine zg_isub ok dX4_bound_33 ?_
    refine zg_callS (vs := [zI (l1 - v4)]) (rest := []) (rm := rm_J14_abs) ok hRm lk_X4_92 dX4_bound_34 hE (fun hE => mt_J14_abs hl hE) rfl (Nat.le_of_ble_eq_true rfl) ⟨⟨Nat.le_of_ble_eq_true rfl, Nat.le_of_ble_eq_true rfl⟩, (by show kc + 0 ≤ 0; omega), (by show ks + 0 ≤ 0; omega)⟩ (zg_retI (fun v5 h2 hE => ?_)) (zg_xok ok tab fin ⟨(by show kc + 0 ≤ 0; omega), (by show ks + 0 ≤ 0; omega)⟩)
    refine zg_cost (kc2 := kc) (ks2 := ks) ⟨(by show kc + 0 = kc; omega), (by show ks + 0 = ks; omega)⟩ ?_
    refine zg_istoreR (L' := [(8, .int v5), (7, va_rf v3), (0, va_rf l0), (1, .int l1), (2, .int l2), (3, .int l3), (4, .double l4), (6, .int l6)]) ok dX4_bound_37 (by decide) 0 rfl rfl rfl ?_
    refine zg_aload ok dX4_bound_39 1 rfl ?_
    refine zg_getI ok lf_X4_204 dX4_bound_41 hE (fun v6 hE => ?_)
    refine zg_iconst (v := 2) ok dX4_bound_44 (by decide) ?_
    refine zg_idivE ok dX4_bound_45 hE (fun hE => ?_)
    refine zg_letI hE (fun v7 hE => ?_)
    refine zg_istore (L' := [(9, .int v7), (8, .int v5), (7, va_rf v3), (0, va_rf l0), (1, .int l1), (2, .int l2), (3, .int l3), (4, .double l4), (6, .int l6)]) ok dX4_bound_46 (by decide) rfl ?_
    refine zg_dconst1 ok dX4_bound_48 ?_
    refine zg_iload ok dX4_bound_49 0 rfl ?_
    refine zg_i2d ok dX4_bound_51 ?_
    refine zg_iload ok dX4_bound_52 1 rfl ?_
    refine zg_i2d ok dX4_bound_54 ?_
    refine zg_ddivE ok dX4_bound_55 hE (fun hE => ?_)
    refine zg_letD hE (fun v8 hE => ?_)
    refine zg_iload_n ok dX4_bound_56 rfl 5 rfl ?_
    refine zg_iconst (v := 1) ok dX4_bound_57 (by decide) ?_
    refine zg_iadd ok dX4_bound_58 ?_
    refine zg_callSN (vs := [zD FP.dconst1, zD v8, zI (l2 + 1)]) (rest := []) (rm := rm_X1_power) ok hRm lk_X4_207 dX4_bound_59 hE (fun hE => mt_X1_power hl hE) rfl (Nat.le_of_ble_eq_true rfl) ⟨⟨Nat.le_of_ble_eq_true rfl, Nat.le_of_ble_eq_true rfl⟩, (by show kc + 0 ≤ 0; omega), (by show ks + 0 ≤ 0; omega)⟩ (zg_retD (fun v9 h3 hE => ?_)) (zg_xok ok tab fin ⟨(by show kc + 0 ≤ 0; omega), (by show ks + 0 ≤ 0; omega)⟩)
    refine zg_cost (kc2 := kc) (ks2 := ks) ⟨(by show kc + 0 = kc; omega), (by show ks + 0 = ks; omega)⟩ ?_
    refine zg_dstore (L' := [(10, .double v9), (9, .int v7), (8, .int v5), (7, va_rf v3), (0, va_rf l0), (1, .int l1), (2, .int l2), (3, .int l3), (4, .double l4), (6, .int l6)]) ok dX4_bound_62 (by decide) rfl ?_
    refine zg_dload ok dX4_bound_64 8 rfl ?_
    refine zg_aload_n ok dX4_bound_66 rfl 4 rfl ?_
    refine zg_aload ok dX4_bound_67 3 rfl ?_
    refine zg_callV (vs := [zA v3]) (rest := [.double l4]) (rm := rm_X4_weightsIn) ok hRm lk_X4_211 dX4_bound_69 hE (fun hE => mt_X4_weightsIn hl hE) rfl (Nat.le_of_ble_eq_true rfl) ⟨⟨Nat.le_of_ble_eq_true rfl, Nat.le_of_ble_eq_true rfl⟩, (by show kc + 0 ≤ 0; omega), (by show ks + 0 ≤ 0; omega)⟩ (zg_retI (fun v10 h4 hE => ?_)) (zg_xok ok tab fin ⟨(by show kc + 0 ≤ 0; omega), (by show ks + 0 ≤ 0; omega)⟩)
    refine zg_cost (kc2 := kc) (ks2 := ks) ⟨(by show kc + 0 = kc; omega), (by show ks + 0 = ks; omega)⟩ ?_
    refine zg_i2d ok dX4_bound_72 ?_
    refine zg_dload ok dX4_bound_73 0 rfl ?_
    refine zg_dmulE ok dX4_bound_75 hE (fun hE => ?_)
    refine zg_letD hE (fun v11 hE => ?_)
    refine zg_iload ok dX4_bound_76 2 rfl ?_
    refine zg_iload ok dX4_bound_78 1 rfl ?_
    refine zg_isub ok dX4_bound_80 ?_
    refine zg_i2d ok dX4_bound_81 ?_
    refine zg_ddivE ok dX4_bound_82 hE (fun hE => ?_)
    refine zg_letD hE (fun v12 hE => ?_)
    refine zg_daddE ok dX4_bound_83 hE (fun hE => ?_)
    refine zg_letD hE (fun v13 hE => ?_)
    refine zg_dstore (L' := [(4, .double v13), (10, .double v9), (9, .int v7), (8, .int v5), (7, va_rf v3), (0, va_rf l0), (1, .int l1), (2, .int l2), (3, .int l3), (6, .int l6)]) ok dX4_bound_84 (by decide) rfl ?_
    refine zg_iincL (k := 9) (L' := fun v14 => [(6, .int v14), (4, .double v13), (10, .double v9), (9, .int v7), (8, .int v5), (7, va_rf v3), (0, va_rf l0), (1, .int l1), (2, .int l2), (3, .int l3)]) ok dX4_bound_86 (by decide +kernel) hE rfl (by decide) (fun _ => rfl) (fun v14 hE => ?_)
    refine zg_goto (tgt := 12) ok dX4_bound_89 (by decide) ?_
    refine zg_sub (L' := [(0, va_rf l0), (1, .int l1), (2, .int l2), (3, .int l3), (4, .double v13), (6, .int v14)]) [6, 7, 8, 9, 1, 0] rfl ?_
    exact hR _ _ _ hE
theorem gt_f_X4_bound_L12 {Xc : zw_X} {Q : UInt64 → zw_H → Prop} {X : String → Nat → zw_H → Prop} (hl : (zw_l Xc).stackTraces = false) (ok : zw_ok Xc cX4_bound "MultipoleLine$Line" yX4_bound.name 12) (tab : zw_tab Xc []) (fin : zw_fin Xc (Option.some Jvm.ClassFile.FieldType.double) (zq_D Q) X 0 0) (hRm : zw_rm Xc = rm_X4_bound) {kc ks : Nat} (hb : kc ≤ 0 ∧ ks ≤ 0) {l0 : Option Nat} {l1 : Int32} {l2 : Int32} {l3 : Int32} {k92 : UInt64 → zw_H → Prop} (hk92 : ∀ (l4 : UInt64) (h : zw_H), k92 l4 h → zw_G Xc kc ks 12 h 92 [(4, .double l4)] [])  : ∀ (n9 : Nat) (l4 : UInt64) (l6 : Int32) (h : zw_H), zl3 (f_X4_bound_B12 (zw_Zf Xc).2.2.2 Q X k92 l0 l1 l2 l3) n9 l4 l6 h → zw_G Xc kc ks 12 h 12 [(0, va_rf l0), (1, .int l1), (2, .int l2), (3, .int l3), (4, .double l4), (6, .int l6)] [] := by
  intro n9
  induction n9 with
  | zero => intro l4 l6 h hE; exact hE.elim
  | succ n9 ih => intro l4 l6 h hE; exact gt_f_X4_bound_B12 hl ok tab fin hRm hb ih hk92 hE
set_option maxHeartbeats 8000000 in
theorem mt_X4_bound {l : Launch} (hl : l.stackTraces = false) {Z : zw_Z} {a0 : Option Nat} {a1 : Int32} {a2 : Int32} {h : zw_H} {Q : UInt64 → zw_H → Prop} {X : String → Nat → zw_H → Prop} (hE : f_X4_bound Z.2.2.2 a0 a1 a2 h Q X) : zw_Met l Z yX4_bound (ws_ yX4_bound cX4_bound 12 (Option.some Jvm.ClassFile.FieldType.double)) rm_X4_bound [zA a0, zI a1, zI a2] h (zq_D Q) X := by
  refine zg_start (own := "MultipoleLine$Line") (by decide +kernel) rfl (Nat.le_of_ble_eq_true rfl) hl (fun Xc ok tab fin hRm hXl hXZ => ?_)
  subst hXl
  subst hXZ
  unfold f_X4_bound at hE
  refine zg_aload_n ok dX4_bound_0 rfl 0 rfl ?_
  refine zg_iload_n ok dX4_bound_1 rfl 1 rfl ?_
  refine zg_callV (vs := [zI a1]) (rest := []) (rm := rm_X4_laysFar) ok hRm lk_X4_195 dX4_bound_2 hE (fun hE => mt_X4_laysFar hl hE) rfl (Nat.le_of_ble_eq_true rfl) ⟨⟨Nat.le_of_ble_eq_true rfl, Nat.le_of_ble_eq_true rfl⟩, Nat.le_of_ble_eq_true rfl, Nat.le_of_ble_eq_true rfl⟩ (zg_retI (fun v1 h1 hE => ?_)) (zg_xok ok tab fin ⟨Nat.le_of_ble_eq_true rfl, Nat.le_of_ble_eq_true rfl⟩)
  refine zg_cost (kc2 := 0) (ks2 := 0) ⟨rfl, rfl⟩ ?_
  refine zg_istore_n (L' := [(3, .int v1), (0, va_rf a0), (1, .int a1), (2, .int a2)]) ok dX4_bound_5 rfl (by decide) rfl ?_
  refine zg_dconst0 ok dX4_bound_6 ?_
  refine zg_dstore (L' := [(4, .double FP.dconst0), (3, .int v1), (0, va_rf a0), (1, .int a1), (2, .int a2)]) ok dX4_bound_7 (by decide) rfl ?_
  refine zg_iconst (v := 0) ok dX4_bound_9 (by decide) ?_
  refine zg_istore (L' := [(6, .int 0), (4, .double FP.dconst0), (3, .int v1), (0, va_rf a0), (1, .int a1), (2, .int a2)]) ok dX4_bound_10 (by decide) rfl ?_
  refine zg_sub (L' := [(0, va_rf a0), (1, .int a1), (2, .int a2), (3, .int v1), (4, .double FP.dconst0), (6, .int 0)]) [3, 4, 5, 2, 1, 0] rfl ?_
  refine gt_f_X4_bound_L12 hl ok tab fin hRm ⟨Nat.le_of_ble_eq_true rfl, Nat.le_of_ble_eq_true rfl⟩ ?_ _ _ _ _ hE
  · intro v15 h5 hE
    refine zg_dload ok dX4_bound_92 0 rfl ?_
    exact zg_dret ok fin dX4_bound_94 ⟨Nat.le_of_ble_eq_true rfl, Nat.le_of_ble_eq_true rfl⟩ hE
set_option maxHeartbeats 8000000 in
theorem mt_X1_bound {l : Launch} (hl : l.stackTraces = false) {Z : zw_Z} {a0 : Option Nat} {a1 : Int32} {h : zw_H} {Q : UInt64 → zw_H → Prop} {X : String → Nat → zw_H → Prop} (hE : f_X1_bound Z.2.2.2 a0 a1 h Q X) : zw_Met l Z yX1_bound (ws_ yX1_bound cX1_bound 2 (Option.some Jvm.ClassFile.FieldType.double)) rm_X1_bound [zA a0, zI a1] h (zq_D Q) X := by
  refine zg_start (own := "MultipoleLine") (by decide +kernel) rfl (Nat.le_of_ble_eq_true rfl) hl (fun Xc ok tab fin hRm hXl hXZ => ?_)
  subst hXl
  subst hXZ
  unfold f_X1_bound at hE
  refine zg_aload_n ok dX1_bound_0 rfl 0 rfl ?_
  refine zg_iload_n ok dX1_bound_1 rfl 1 rfl ?_
  refine zg_callV (vs := [zI a1]) (rest := []) (rm := rm_X1_at) ok hRm lk_X1_193 dX1_bound_2 hE (fun hE => mt_X1_at hl hE) rfl (Nat.le_of_ble_eq_true rfl) ⟨⟨Nat.le_of_ble_eq_true rfl, Nat.le_of_ble_eq_true rfl⟩, Nat.le_of_ble_eq_true rfl, Nat.le_of_ble_eq_true rfl⟩ (zg_retA (fun v1 h1 hE => ?_)) (zg_xok ok tab fin ⟨Nat.le_of_ble_eq_true rfl, Nat.le_of_ble_eq_true rfl⟩)
  refine zg_cost (kc2 := 2) (ks2 := 12) ⟨rfl, rfl⟩ ?_
  refine zg_iload_n ok dX1_bound_5 rfl 1 rfl ?_
  refine zg_aload_n ok dX1_bound_6 rfl 0 rfl ?_
  refine zg_getA ok lf_X1_68 dX1_bound_7 hE (fun v2 hE => ?_)
  refine zg_getI ok lf_X1_315 dX1_bound_10 hE (fun v3 hE => ?_)
  refine zg_callV (vs := [zI a1, zI v3]) (rest := []) (rm := rm_X4_bound) ok hRm lk_X1_318 dX1_bound_13 hE (fun hE => mt_X4_bound hl hE) rfl (Nat.le_of_ble_eq_true rfl) ⟨⟨Nat.le_of_ble_eq_true rfl, Nat.le_of_ble_eq_true rfl⟩, Nat.le_of_ble_eq_true rfl, Nat.le_of_ble_eq_true rfl⟩ (zg_retD (fun v4 h2 hE => ?_)) (zg_xok ok tab fin ⟨Nat.le_of_ble_eq_true rfl, Nat.le_of_ble_eq_true rfl⟩)
  refine zg_cost (kc2 := 2) (ks2 := 12) ⟨rfl, rfl⟩ ?_
  exact zg_dret ok fin dX1_bound_16 ⟨Nat.le_of_ble_eq_true rfl, Nat.le_of_ble_eq_true rfl⟩ hE
set_option maxHeartbeats 8000000 in
theorem mt_X1_absolute {l : Launch} (hl : l.stackTraces = false) {Z : zw_Z} {a0 : UInt64} {h : zw_H} {Q : UInt64 → zw_H → Prop} {X : String → Nat → zw_H → Prop} (hE : f_X1_absolute Z.2.2.2 a0 h Q X) : zw_Met l Z yX1_absolute (ws_ yX1_absolute cX1_absolute 2 (Option.some Jvm.ClassFile.FieldType.double)) rm_X1_absolute [zD a0] h (zq_D Q) X := by
  refine zg_start (own := "MultipoleLine") (by decide +kernel) rfl (Nat.le_of_ble_eq_true rfl) hl (fun Xc ok tab fin hRm hXl hXZ => ?_)
  subst hXl
  subst hXZ
  unfold f_X1_absolute at hE
  refine zg_dload_n ok dX1_absolute_0 rfl 0 rfl ?_
  refine zg_dconst0 ok dX1_absolute_1 ?_
  refine zg_dcmp ok dX1_absolute_2 ?_
  refine zg_if_ge (tgt := 12) ok dX1_absolute_3 (by decide) hE (fun hE => ?_) (fun hE => ?_)
  · refine zg_dload_n ok dX1_absolute_12 rfl 0 rfl ?_
    exact zg_dret ok fin dX1_absolute_13 ⟨Nat.le_of_ble_eq_true rfl, Nat.le_of_ble_eq_true rfl⟩ hE
  · refine zg_dconst0 ok dX1_absolute_6 ?_
    refine zg_dload_n ok dX1_absolute_7 rfl 0 rfl ?_
    refine zg_dsubE ok dX1_absolute_8 hE (fun hE => ?_)
    refine zg_letD hE (fun v1 hE => ?_)
    refine zg_goto (tgt := 13) ok dX1_absolute_9 (by decide) ?_
    exact zg_dret ok fin dX1_absolute_13 ⟨Nat.le_of_ble_eq_true rfl, Nat.le_of_ble_eq_true rfl⟩ hE
set_option maxHeartbeats 8000000 in
theorem mt_X4_gap {l : Launch} (hl : l.stackTraces = false) {Z : zw_Z} {a0 : Option Nat} {a1 : Int32} {h : zw_H} {Q : UInt64 → zw_H → Prop} {X : String → Nat → zw_H → Prop} (hE : f_X4_gap Z.2.2.2 a0 a1 h Q X) : zw_Met l Z yX4_gap (ws_ yX4_gap cX4_gap 2 (Option.some Jvm.ClassFile.FieldType.double)) rm_X4_gap [zA a0, zI a1] h (zq_D Q) X := by
  refine zg_start (own := "MultipoleLine$Line") (by decide +kernel) rfl (Nat.le_of_ble_eq_true rfl) hl (fun Xc ok tab fin hRm hXl hXZ => ?_)
  subst hXl
  subst hXZ
  unfold f_X4_gap at hE
  refine zg_aload_n ok dX4_gap_0 rfl 0 rfl ?_
  refine zg_iload_n ok dX4_gap_1 rfl 1 rfl ?_
  refine zg_iconst (v := 0) ok dX4_gap_2 (by decide) ?_
  refine zg_callV (vs := [zI a1, zI 0]) (rest := []) (rm := rm_X4_sumBy) ok hRm lk_X4_222 dX4_gap_3 hE (fun hE => mt_X4_sumBy hl hE) rfl (Nat.le_of_ble_eq_true rfl) ⟨⟨Nat.le_of_ble_eq_true rfl, Nat.le_of_ble_eq_true rfl⟩, Nat.le_of_ble_eq_true rfl, Nat.le_of_ble_eq_true rfl⟩ (zg_retD (fun v1 h1 hE => ?_)) (zg_xok ok tab fin ⟨Nat.le_of_ble_eq_true rfl, Nat.le_of_ble_eq_true rfl⟩)
  refine zg_cost (kc2 := 0) (ks2 := 0) ⟨rfl, rfl⟩ ?_
  refine zg_aload_n ok dX4_gap_6 rfl 0 rfl ?_
  refine zg_iload_n ok dX4_gap_7 rfl 1 rfl ?_
  refine zg_iconst (v := 1) ok dX4_gap_8 (by decide) ?_
  refine zg_callV (vs := [zI a1, zI 1]) (rest := [.double v1]) (rm := rm_X4_sumBy) ok hRm lk_X4_222 dX4_gap_9 hE (fun hE => mt_X4_sumBy hl hE) rfl (Nat.le_of_ble_eq_true rfl) ⟨⟨Nat.le_of_ble_eq_true rfl, Nat.le_of_ble_eq_true rfl⟩, Nat.le_of_ble_eq_true rfl, Nat.le_of_ble_eq_true rfl⟩ (zg_retD (fun v2 h2 hE => ?_)) (zg_xok ok tab fin ⟨Nat.le_of_ble_eq_true rfl, Nat.le_of_ble_eq_true rfl⟩)
  refine zg_cost (kc2 := 0) (ks2 := 0) ⟨rfl, rfl⟩ ?_
  refine zg_dsubE ok dX4_gap_12 hE (fun hE => ?_)
  refine zg_letD hE (fun v3 hE => ?_)
  refine zg_callSN (vs := [zD v3]) (rest := []) (rm := rm_X1_absolute) ok hRm lk_X4_226 dX4_gap_13 hE (fun hE => mt_X1_absolute hl hE) rfl (Nat.le_of_ble_eq_true rfl) ⟨⟨Nat.le_of_ble_eq_true rfl, Nat.le_of_ble_eq_true rfl⟩, Nat.le_of_ble_eq_true rfl, Nat.le_of_ble_eq_true rfl⟩ (zg_retD (fun v4 h3 hE => ?_)) (zg_xok ok tab fin ⟨Nat.le_of_ble_eq_true rfl, Nat.le_of_ble_eq_true rfl⟩)
  refine zg_cost (kc2 := 0) (ks2 := 0) ⟨rfl, rfl⟩ ?_
  exact zg_dret ok fin dX4_gap_16 ⟨Nat.le_of_ble_eq_true rfl, Nat.le_of_ble_eq_true rfl⟩ hE
set_option maxHeartbeats 8000000 in
theorem mt_X1_gapAt {l : Launch} (hl : l.stackTraces = false) {Z : zw_Z} {a0 : Option Nat} {a1 : Int32} {h : zw_H} {Q : UInt64 → zw_H → Prop} {X : String → Nat → zw_H → Prop} (hE : f_X1_gapAt Z.2.2.2 a0 a1 h Q X) : zw_Met l Z yX1_gapAt (ws_ yX1_gapAt cX1_gapAt 2 (Option.some Jvm.ClassFile.FieldType.double)) rm_X1_gapAt [zA a0, zI a1] h (zq_D Q) X := by
  refine zg_start (own := "MultipoleLine") (by decide +kernel) rfl (Nat.le_of_ble_eq_true rfl) hl (fun Xc ok tab fin hRm hXl hXZ => ?_)
  subst hXl
  subst hXZ
  unfold f_X1_gapAt at hE
  refine zg_aload_n ok dX1_gapAt_0 rfl 0 rfl ?_
  refine zg_iload_n ok dX1_gapAt_1 rfl 1 rfl ?_
  refine zg_callV (vs := [zI a1]) (rest := []) (rm := rm_X1_at) ok hRm lk_X1_193 dX1_gapAt_2 hE (fun hE => mt_X1_at hl hE) rfl (Nat.le_of_ble_eq_true rfl) ⟨⟨Nat.le_of_ble_eq_true rfl, Nat.le_of_ble_eq_true rfl⟩, Nat.le_of_ble_eq_true rfl, Nat.le_of_ble_eq_true rfl⟩ (zg_retA (fun v1 h1 hE => ?_)) (zg_xok ok tab fin ⟨Nat.le_of_ble_eq_true rfl, Nat.le_of_ble_eq_true rfl⟩)
  refine zg_cost (kc2 := 2) (ks2 := 12) ⟨rfl, rfl⟩ ?_
  refine zg_iload_n ok dX1_gapAt_5 rfl 1 rfl ?_
  refine zg_callV (vs := [zI a1]) (rest := []) (rm := rm_X4_gap) ok hRm lk_X1_322 dX1_gapAt_6 hE (fun hE => mt_X4_gap hl hE) rfl (Nat.le_of_ble_eq_true rfl) ⟨⟨Nat.le_of_ble_eq_true rfl, Nat.le_of_ble_eq_true rfl⟩, Nat.le_of_ble_eq_true rfl, Nat.le_of_ble_eq_true rfl⟩ (zg_retD (fun v2 h2 hE => ?_)) (zg_xok ok tab fin ⟨Nat.le_of_ble_eq_true rfl, Nat.le_of_ble_eq_true rfl⟩)
  refine zg_cost (kc2 := 2) (ks2 := 12) ⟨rfl, rfl⟩ ?_
  exact zg_dret ok fin dX1_gapAt_9 ⟨Nat.le_of_ble_eq_true rfl, Nat.le_of_ble_eq_true rfl⟩ hE
set_option maxHeartbeats 8000000 in
theorem mt_X1_isWithin {l : Launch} (hl : l.stackTraces = false) {Z : zw_Z} {a0 : Option Nat} {a1 : Int32} {h : zw_H} {Q : Int32 → zw_H → Prop} {X : String → Nat → zw_H → Prop} (hE : f_X1_isWithin Z.2.2.2 a0 a1 h Q X) : zw_Met l Z yX1_isWithin (ws_ yX1_isWithin cX1_isWithin 2 (Option.some Jvm.ClassFile.FieldType.boolean)) rm_X1_isWithin [zA a0, zI a1] h (zq_I Q) X := by
  refine zg_start (own := "MultipoleLine") (by decide +kernel) rfl (Nat.le_of_ble_eq_true rfl) hl (fun Xc ok tab fin hRm hXl hXZ => ?_)
  subst hXl
  subst hXZ
  unfold f_X1_isWithin at hE
  refine zg_aload_n ok dX1_isWithin_0 rfl 0 rfl ?_
  refine zg_iload_n ok dX1_isWithin_1 rfl 1 rfl ?_
  refine zg_callV (vs := [zI a1]) (rest := []) (rm := rm_X1_at) ok hRm lk_X1_193 dX1_isWithin_2 hE (fun hE => mt_X1_at hl hE) rfl (Nat.le_of_ble_eq_true rfl) ⟨⟨Nat.le_of_ble_eq_true rfl, Nat.le_of_ble_eq_true rfl⟩, Nat.le_of_ble_eq_true rfl, Nat.le_of_ble_eq_true rfl⟩ (zg_retA (fun v1 h1 hE => ?_)) (zg_xok ok tab fin ⟨Nat.le_of_ble_eq_true rfl, Nat.le_of_ble_eq_true rfl⟩)
  refine zg_cost (kc2 := 2) (ks2 := 12) ⟨rfl, rfl⟩ ?_
  refine zg_iload_n ok dX1_isWithin_5 rfl 1 rfl ?_
  refine zg_callV (vs := [zI a1]) (rest := []) (rm := rm_X4_gap) ok hRm lk_X1_322 dX1_isWithin_6 hE (fun hE => mt_X4_gap hl hE) rfl (Nat.le_of_ble_eq_true rfl) ⟨⟨Nat.le_of_ble_eq_true rfl, Nat.le_of_ble_eq_true rfl⟩, Nat.le_of_ble_eq_true rfl, Nat.le_of_ble_eq_true rfl⟩ (zg_retD (fun v2 h2 hE => ?_)) (zg_xok ok tab fin ⟨Nat.le_of_ble_eq_true rfl, Nat.le_of_ble_eq_true rfl⟩)
  refine zg_cost (kc2 := 2) (ks2 := 12) ⟨rfl, rfl⟩ ?_
  refine zg_aload_n ok dX1_isWithin_9 rfl 0 rfl ?_
  refine zg_getA ok lf_X1_68 dX1_isWithin_10 hE (fun v3 hE => ?_)
  refine zg_iload_n ok dX1_isWithin_13 rfl 1 rfl ?_
  refine zg_aload_n ok dX1_isWithin_14 rfl 0 rfl ?_
  refine zg_getA ok lf_X1_68 dX1_isWithin_15 hE (fun v4 hE => ?_)
  refine zg_getI ok lf_X1_315 dX1_isWithin_18 hE (fun v5 hE => ?_)
  refine zg_callV (vs := [zI a1, zI v5]) (rest := [.double v2]) (rm := rm_X4_bound) ok hRm lk_X1_318 dX1_isWithin_21 hE (fun hE => mt_X4_bound hl hE) rfl (Nat.le_of_ble_eq_true rfl) ⟨⟨Nat.le_of_ble_eq_true rfl, Nat.le_of_ble_eq_true rfl⟩, Nat.le_of_ble_eq_true rfl, Nat.le_of_ble_eq_true rfl⟩ (zg_retD (fun v6 h3 hE => ?_)) (zg_xok ok tab fin ⟨Nat.le_of_ble_eq_true rfl, Nat.le_of_ble_eq_true rfl⟩)
  refine zg_cost (kc2 := 2) (ks2 := 12) ⟨rfl, rfl⟩ ?_
  refine zg_ldc2d (v := (4517329193108106637 : UInt64)) ok q1869 dX1_isWithin_24 ?_
  refine zg_daddE ok dX1_isWithin_27 hE (fun hE => ?_)
  refine zg_letD hE (fun v7 hE => ?_)
  refine zg_dcmp ok dX1_isWithin_28 ?_
  refine zg_if_gt (tgt := 36) ok dX1_isWithin_29 (by decide) hE (fun hE => ?_) (fun hE => ?_)
  · refine zg_iconst (v := 0) ok dX1_isWithin_36 (by decide) ?_
    exact zg_zret ok fin dX1_isWithin_37 ⟨Nat.le_of_ble_eq_true rfl, Nat.le_of_ble_eq_true rfl⟩ rfl hE
  · refine zg_iconst (v := 1) ok dX1_isWithin_32 (by decide) ?_
    refine zg_goto (tgt := 37) ok dX1_isWithin_33 (by decide) ?_
    exact zg_zret ok fin dX1_isWithin_37 ⟨Nat.le_of_ble_eq_true rfl, Nat.le_of_ble_eq_true rfl⟩ rfl hE
set_option maxHeartbeats 8000000 in
theorem gt_f_X1_worst_J48 {Xc : zw_X} {Q : Int32 → zw_H → Prop} {X : String → Nat → zw_H → Prop} (hl : (zw_l Xc).stackTraces = false) (ok : zw_ok Xc cX1_worst "MultipoleLine" yX1_worst.name 8) (tab : zw_tab Xc []) (fin : zw_fin Xc (Option.some Jvm.ClassFile.FieldType.int) (zq_I Q) X 1 6) (hRm : zw_rm Xc = rm_X1_worst) {kc ks : Nat} (hb : kc ≤ 1 ∧ ks ≤ 6) {R : Int32 → UInt64 → Int32 → zw_H → Prop} {l1 : Option Nat} (hR : ∀ (l2 : Int32) (l3 : UInt64) (l5 : Int32) (h : zw_H), R l2 l3 l5 h → zw_G Xc kc ks 8 h 16 [(1, va_rf l1), (2, .int l2), (3, .double l3), (5, .int l5)] []) {k54 : Int32 → zw_H → Prop} (hk54 : ∀ (l2 : Int32) (h : zw_H), k54 l2 h → zw_G Xc kc ks 8 h 54 [(2, .int l2)] [])  {l2 : Int32} {l3 : UInt64} {l5 : Int32}  {h : zw_H} (hE : f_X1_worst_J48 (zw_Zf Xc).2.2.2 Q X R k54 l1 l2 l3 l5 h) : zw_G Xc kc ks 8 h 48 [(1, va_rf l1), (2, .int l2), (3, .double l3), (5, .int l5)] [] := by
  unfold f_X1_worst_J48 at hE
  refine zg_iincL (k := 3) (L' := fun v4 => [(5, .int v4), (1, va_rf l1), (2, .int l2), (3, .double l3)]) ok dX1_worst_48 (by decide +kernel) hE rfl (by decide) (fun _ => rfl) (fun v4 hE => ?_)
  refine zg_goto (tgt := 16) ok dX1_worst_51 (by decide) ?_
  refine zg_sub (L' := [(1, va_rf l1), (2, .int l2), (3, .double l3), (5, .int v4)]) [1, 2, 3, 0] rfl ?_
  exact hR _ _ _ _ hE
set_option maxHeartbeats 8000000 in
theorem gt_f_X1_worst_B16 {Xc : zw_X} {Q : Int32 → zw_H → Prop} {X : String → Nat → zw_H → Prop} (hl : (zw_l Xc).stackTraces = false) (ok : zw_ok Xc cX1_worst "MultipoleLine" yX1_worst.name 8) (tab : zw_tab Xc []) (fin : zw_fin Xc (Option.some Jvm.ClassFile.FieldType.int) (zq_I Q) X 1 6) (hRm : zw_rm Xc = rm_X1_worst) {kc ks : Nat} (hb : kc ≤ 1 ∧ ks ≤ 6) {R : Int32 → UInt64 → Int32 → zw_H → Prop} {l1 : Option Nat} (hR : ∀ (l2 : Int32) (l3 : UInt64) (l5 : Int32) (h : zw_H), R l2 l3 l5 h → zw_G Xc kc ks 8 h 16 [(1, va_rf l1), (2, .int l2), (3, .double l3), (5, .int l5)] []) {k54 : Int32 → zw_H → Prop} (hk54 : ∀ (l2 : Int32) (h : zw_H), k54 l2 h → zw_G Xc kc ks 8 h 54 [(2, .int l2)] [])  {l2 : Int32} {l3 : UInt64} {l5 : Int32} {h : zw_H} (hE : f_X1_worst_B16 (zw_Zf Xc).2.2.2 Q X k54 l1 R l2 l3 l5 h) : zw_G Xc kc ks 8 h 16 [(1, va_rf l1), (2, .int l2), (3, .double l3), (5, .int l5)] [] := by
  unfold f_X1_worst_B16 at hE
  refine zg_iload ok dX1_worst_16 3 rfl ?_
  refine zg_sipush (v := 256) ok dX1_worst_18 (by decide) ?_
  refine zg_icmp_ge (tgt := 54) ok dX1_worst_21 (by decide) hE (fun hE => ?_) (fun hE => ?_)
  · refine zg_sub (L' := [(2, .int l2)]) [1] rfl ?_
    exact hk54 _ _ hE
  · refine zg_aload_n ok dX1_worst_24 rfl 0 rfl ?_
    refine zg_iload ok dX1_worst_25 3 rfl ?_
    refine zg_callV (vs := [zI l5]) (rest := []) (rm := rm_X4_gap) ok hRm lk_X1_322 dX1_worst_27 hE (fun hE => mt_X4_gap hl hE) rfl (Nat.le_of_ble_eq_true rfl) ⟨⟨Nat.le_of_ble_eq_true rfl, Nat.le_of_ble_eq_true rfl⟩, (by show kc + 0 ≤ 1; omega), (by show ks + 0 ≤ 6; omega)⟩ (zg_retD (fun v3 h3 hE => ?_)) (zg_xok ok tab fin ⟨(by show kc + 0 ≤ 1; omega), (by show ks + 0 ≤ 6; omega)⟩)
    refine zg_cost (kc2 := kc) (ks2 := ks) ⟨(by show kc + 0 = kc; omega), (by show ks + 0 = ks; omega)⟩ ?_
    refine zg_dstore (L' := [(6, .double v3), (1, va_rf l1), (2, .int l2), (3, .double l3), (5, .int l5)]) ok dX1_worst_30 (by decide) rfl ?_
    refine zg_dload ok dX1_worst_32 0 rfl ?_
    refine zg_dload_n ok dX1_worst_34 rfl 3 rfl ?_
    refine zg_dcmp ok dX1_worst_35 ?_
    refine zg_if_gt (tgt := 42) ok dX1_worst_36 (by decide) hE (fun hE => ?_) (fun hE => ?_)
    · refine zg_iload ok dX1_worst_42 4 rfl ?_
      refine zg_istore_nR (L' := [(2, .int l5), (6, .double v3), (1, va_rf l1), (3, .double l3), (5, .int l5)]) ok dX1_worst_44 rfl (by decide) 1 rfl rfl rfl ?_
      refine zg_dload ok dX1_worst_45 1 rfl ?_
      refine zg_dstore_n (L' := [(3, .double v3), (2, .int l5), (6, .double v3), (1, va_rf l1), (5, .int l5)]) ok dX1_worst_47 rfl (by decide) rfl ?_
      refine zg_sub (L' := [(1, va_rf l1), (2, .int l5), (3, .double v3), (5, .int l5)]) [3, 1, 0, 4] rfl ?_
      exact gt_f_X1_worst_J48 hl ok tab fin hRm hb hR hk54 hE
    · refine zg_goto (tgt := 48) ok dX1_worst_39 (by decide) ?_
      refine zg_sub (L' := [(1, va_rf l1), (2, .int l2), (3, .double l3), (5, .int l5)]) [1, 2, 3, 4] rfl ?_
      exact gt_f_X1_worst_J48 hl ok tab fin hRm hb hR hk54 hE
theorem gt_f_X1_worst_L16 {Xc : zw_X} {Q : Int32 → zw_H → Prop} {X : String → Nat → zw_H → Prop} (hl : (zw_l Xc).stackTraces = false) (ok : zw_ok Xc cX1_worst "MultipoleLine" yX1_worst.name 8) (tab : zw_tab Xc []) (fin : zw_fin Xc (Option.some Jvm.ClassFile.FieldType.int) (zq_I Q) X 1 6) (hRm : zw_rm Xc = rm_X1_worst) {kc ks : Nat} (hb : kc ≤ 1 ∧ ks ≤ 6) {l1 : Option Nat} {k54 : Int32 → zw_H → Prop} (hk54 : ∀ (l2 : Int32) (h : zw_H), k54 l2 h → zw_G Xc kc ks 8 h 54 [(2, .int l2)] [])  : ∀ (n9 : Nat) (l2 : Int32) (l3 : UInt64) (l5 : Int32) (h : zw_H), zl4 (f_X1_worst_B16 (zw_Zf Xc).2.2.2 Q X k54 l1) n9 l2 l3 l5 h → zw_G Xc kc ks 8 h 16 [(1, va_rf l1), (2, .int l2), (3, .double l3), (5, .int l5)] [] := by
  intro n9
  induction n9 with
  | zero => intro l2 l3 l5 h hE; exact hE.elim
  | succ n9 ih => intro l2 l3 l5 h hE; exact gt_f_X1_worst_B16 hl ok tab fin hRm hb ih hk54 hE
set_option maxHeartbeats 8000000 in
theorem mt_X1_worst {l : Launch} (hl : l.stackTraces = false) {Z : zw_Z} {a0 : Option Nat} {h : zw_H} {Q : Int32 → zw_H → Prop} {X : String → Nat → zw_H → Prop} (hE : f_X1_worst Z.2.2.2 a0 h Q X) : zw_Met l Z yX1_worst (ws_ yX1_worst cX1_worst 8 (Option.some Jvm.ClassFile.FieldType.int)) rm_X1_worst [zA a0] h (zq_I Q) X := by
  refine zg_start (own := "MultipoleLine") (by decide +kernel) rfl (Nat.le_of_ble_eq_true rfl) hl (fun Xc ok tab fin hRm hXl hXZ => ?_)
  subst hXl
  subst hXZ
  unfold f_X1_worst at hE
  refine zg_aload_n ok dX1_worst_0 rfl 0 rfl ?_
  refine zg_callV (vs := []) (rest := []) (rm := rm_X1_loaded) ok hRm lk_X1_76 dX1_worst_1 hE (fun hE => mt_X1_loaded hl hE) rfl (Nat.le_of_ble_eq_true rfl) ⟨⟨Nat.le_of_ble_eq_true rfl, Nat.le_of_ble_eq_true rfl⟩, Nat.le_of_ble_eq_true rfl, Nat.le_of_ble_eq_true rfl⟩ (zg_retA (fun v1 h1 hE => ?_)) (zg_xok ok tab fin ⟨Nat.le_of_ble_eq_true rfl, Nat.le_of_ble_eq_true rfl⟩)
  refine zg_cost (kc2 := 1) (ks2 := 6) ⟨rfl, rfl⟩ ?_
  refine zg_astore_nR (L' := [(1, va_rf v1), (0, va_rf a0)]) ok dX1_worst_4 rfl (by decide) 0 rfl rfl rfl ?_
  refine zg_iconst (v := 0) ok dX1_worst_5 (by decide) ?_
  refine zg_istore_nR (L' := [(2, .int 0), (1, va_rf v1), (0, va_rf a0)]) ok dX1_worst_6 rfl (by decide) 0 rfl rfl rfl ?_
  refine zg_aload_n ok dX1_worst_7 rfl 1 rfl ?_
  refine zg_iconst (v := 0) ok dX1_worst_8 (by decide) ?_
  refine zg_callV (vs := [zI 0]) (rest := []) (rm := rm_X4_gap) ok hRm lk_X1_322 dX1_worst_9 hE (fun hE => mt_X4_gap hl hE) rfl (Nat.le_of_ble_eq_true rfl) ⟨⟨Nat.le_of_ble_eq_true rfl, Nat.le_of_ble_eq_true rfl⟩, Nat.le_of_ble_eq_true rfl, Nat.le_of_ble_eq_true rfl⟩ (zg_retD (fun v2 h2 hE => ?_)) (zg_xok ok tab fin ⟨Nat.le_of_ble_eq_true rfl, Nat.le_of_ble_eq_true rfl⟩)
  refine zg_cost (kc2 := 1) (ks2 := 6) ⟨rfl, rfl⟩ ?_
  refine zg_dstore_n (L' := [(3, .double v2), (2, .int 0), (1, va_rf v1), (0, va_rf a0)]) ok dX1_worst_12 rfl (by decide) rfl ?_
  refine zg_iconst (v := 1) ok dX1_worst_13 (by decide) ?_
  refine zg_istore (L' := [(5, .int 1), (3, .double v2), (2, .int 0), (1, va_rf v1), (0, va_rf a0)]) ok dX1_worst_14 (by decide) rfl ?_
  refine zg_sub (L' := [(1, va_rf v1), (2, .int 0), (3, .double v2), (5, .int 1)]) [3, 2, 1, 0] rfl ?_
  refine gt_f_X1_worst_L16 hl ok tab fin hRm ⟨Nat.le_of_ble_eq_true rfl, Nat.le_of_ble_eq_true rfl⟩ ?_ _ _ _ _ _ hE
  · intro v5 h4 hE
    refine zg_iload_n ok dX1_worst_54 rfl 0 rfl ?_
    exact zg_iret ok fin dX1_worst_55 ⟨Nat.le_of_ble_eq_true rfl, Nat.le_of_ble_eq_true rfl⟩ hE
set_option maxHeartbeats 8000000 in
theorem mt_X4_inheritsl3 {l : Launch} (hl : l.stackTraces = false) {Z : zw_Z} {a0 : Option Nat} {a1 : Option Nat} {h : zw_H} {Q : Option Nat → zw_H → Prop} {X : String → Nat → zw_H → Prop} (hE : f_X4_inheritsl3 Z.2.2.2 a0 a1 h Q X) : zw_Met l Z yX4_inherits (ws_ yX4_inherits cX4_inherits 9 (Option.some (Jvm.ClassFile.FieldType.array Jvm.ClassFile.FieldType.double))) rm_X4_inheritsl3 [zA a0, zA a1] h (zq_A Q) X := by
  refine zg_start (own := "MultipoleLine$Line") (by decide +kernel) rfl (Nat.le_of_ble_eq_true rfl) hl (fun Xc ok tab fin hRm hXl hXZ => ?_)
  subst hXl
  subst hXZ
  unfold f_X4_inheritsl3 at hE
  refine zg_aload_n ok dX4_inherits_0 rfl 0 rfl ?_
  refine zg_getI ok lf_X4_61 dX4_inherits_1 hE (fun v1 hE => ?_)
  refine zg_iconst (v := 1) ok dX4_inherits_4 (by decide) ?_
  refine zg_iadd ok dX4_inherits_5 ?_
  refine zg_newD (b := 5) ok (by rw [hRm]; exact ⟨Nat.le_of_ble_eq_true rfl, Nat.le_of_ble_eq_true rfl⟩) (Nat.le_of_ble_eq_true rfl) dX4_inherits_6 hE (fun v2 h1 hE => ?_)
  refine zg_cost (kc2 := 1) (ks2 := 5) ⟨rfl, rfl⟩ ?_
  refine zg_astore_nR (L' := [(2, va_rf (some v2)), (0, va_rf a0), (1, va_rf a1)]) ok dX4_inherits_8 rfl (by decide) 1 rfl rfl rfl ?_
  refine zg_aload_n ok dX4_inherits_9 rfl 2 rfl ?_
  refine zg_getI ok lf_X4_139 dX4_inherits_10 hE (fun v3 hE => ?_)
  refine zg_iconst (v := 2) ok dX4_inherits_13 (by decide) ?_
  refine zg_icmp_ne (tgt := 19) ok dX4_inherits_14 (by decide) hE (fun hE => ?_) (fun hE => ?_)
  · exact hE.elim
  · refine zg_aload_n ok dX4_inherits_17 rfl 0 rfl ?_
    exact zg_aret ok fin (Or.inr ⟨_, rfl⟩) dX4_inherits_18 ⟨Nat.le_of_ble_eq_true rfl, Nat.le_of_ble_eq_true rfl⟩ hE
set_option maxHeartbeats 8000000 in
theorem gt_f_X4_part_B17 {Xc : zw_X} {Q : UInt64 → zw_H → Prop} {X : String → Nat → zw_H → Prop} (hl : (zw_l Xc).stackTraces = false) (ok : zw_ok Xc cX4_part "MultipoleLine$Line" yX4_part.name 9) (tab : zw_tab Xc []) (fin : zw_fin Xc (Option.some Jvm.ClassFile.FieldType.double) (zq_D Q) X 0 0) (hRm : zw_rm Xc = rm_X4_part) {kc ks : Nat} (hb : kc ≤ 0 ∧ ks ≤ 0) {R : UInt64 → UInt64 → Int32 → zw_H → Prop} {l0 : Option Nat} {l1 : Option Nat} {l2 : Int32} {l3 : Int32} (hR : ∀ (l4 : UInt64) (l6 : UInt64) (l8 : Int32) (h : zw_H), R l4 l6 l8 h → zw_G Xc kc ks 9 h 17 [(0, va_rf l0), (1, va_rf l1), (2, .int l2), (3, .int l3), (4, .double l4), (6, .double l6), (8, .int l8)] []) {k64 : UInt64 → zw_H → Prop} (hk64 : ∀ (l4 : UInt64) (h : zw_H), k64 l4 h → zw_G Xc kc ks 9 h 64 [(4, .double l4)] [])  {l4 : UInt64} {l6 : UInt64} {l8 : Int32} {h : zw_H} (hE : f_X4_part_B17 (zw_Zf Xc).2.2.2 Q X k64 l0 l1 l2 l3 R l4 l6 l8 h) : zw_G Xc kc ks 9 h 17 [(0, va_rf l0), (1, va_rf l1), (2, .int l2), (3, .int l3), (4, .double l4), (6, .double l6), (8, .int l8)] [] := by
  unfold f_X4_part_B17 at hE
  refine zg_iload ok dX4_part_17 6 rfl ?_
  refine zg_aload_n ok dX4_part_19 rfl 0 rfl ?_
  refine zg_getI ok lf_X4_61 dX4_part_20 hE (fun v2 hE => ?_)
  refine zg_icmp_gt (tgt := 64) ok dX4_part_23 (by decide) hE (fun hE => ?_) (fun hE => ?_)
  · refine zg_sub (L' := [(4, .double l4)]) [4] rfl ?_
    exact hk64 _ _ hE
  · refine zg_dload ok dX4_part_26 4 rfl ?_
    refine zg_iload ok dX4_part_28 6 rfl ?_
    refine zg_iload_n ok dX4_part_30 rfl 3 rfl ?_
    refine zg_iadd ok dX4_part_31 ?_
    refine zg_iload_n ok dX4_part_32 rfl 3 rfl ?_
    refine zg_callSN (vs := [zI (l8 + l3), zI l3]) (rest := [.double l4]) (rm := rm_X1_choose) ok hRm lk_X4_132 dX4_part_33 hE (fun hE => mt_X1_choose hl hE) rfl (Nat.le_of_ble_eq_true rfl) ⟨⟨Nat.le_of_ble_eq_true rfl, Nat.le_of_ble_eq_true rfl⟩, (by show kc + 0 ≤ 0; omega), (by show ks + 0 ≤ 0; omega)⟩ (zg_retJ (fun v3 h2 hE => ?_)) (zg_xok ok tab fin ⟨(by show kc + 0 ≤ 0; omega), (by show ks + 0 ≤ 0; omega)⟩)
    refine zg_cost (kc2 := kc) (ks2 := ks) ⟨(by show kc + 0 = kc; omega), (by show ks + 0 = ks; omega)⟩ ?_
    refine zg_aload_n ok dX4_part_36 rfl 0 rfl ?_
    refine zg_aload_n ok dX4_part_37 rfl 1 rfl ?_
    refine zg_iload ok dX4_part_38 6 rfl ?_
    refine zg_callV (vs := [zA l1, zI l8]) (rest := [.long v3, .double l4]) (rm := rm_X4_moment) ok hRm lk_X4_106 dX4_part_40 hE (fun hE => mt_X4_moment hl hE) rfl (Nat.le_of_ble_eq_true rfl) ⟨⟨Nat.le_of_ble_eq_true rfl, Nat.le_of_ble_eq_true rfl⟩, (by show kc + 0 ≤ 0; omega), (by show ks + 0 ≤ 0; omega)⟩ (zg_retJ (fun v4 h3 hE => ?_)) (zg_xok ok tab fin ⟨(by show kc + 0 ≤ 0; omega), (by show ks + 0 ≤ 0; omega)⟩)
    refine zg_cost (kc2 := kc) (ks2 := ks) ⟨(by show kc + 0 = kc; omega), (by show ks + 0 = ks; omega)⟩ ?_
    refine zg_lmul ok dX4_part_43 ?_
    refine zg_l2d ok dX4_part_44 ?_
    refine zg_dload ok dX4_part_45 5 rfl ?_
    refine zg_ddivE ok dX4_part_47 hE (fun hE => ?_)
    refine zg_letD hE (fun v5 hE => ?_)
    refine zg_daddE ok dX4_part_48 hE (fun hE => ?_)
    refine zg_letD hE (fun v6 hE => ?_)
    refine zg_dstore (L' := [(4, .double v6), (0, va_rf l0), (1, va_rf l1), (2, .int l2), (3, .int l3), (6, .double l6), (8, .int l8)]) ok dX4_part_49 (by decide) rfl ?_
    refine zg_dload ok dX4_part_51 5 rfl ?_
    refine zg_iload_n ok dX4_part_53 rfl 3 rfl ?_
    refine zg_i2d ok dX4_part_54 ?_
    refine zg_dmulE ok dX4_part_55 hE (fun hE => ?_)
    refine zg_letD hE (fun v7 hE => ?_)
    refine zg_dstore (L' := [(6, .double v7), (4, .double v6), (0, va_rf l0), (1, va_rf l1), (2, .int l2), (3, .int l3), (8, .int l8)]) ok dX4_part_56 (by decide) rfl ?_
    refine zg_iincL (k := 6) (L' := fun v8 => [(8, .int v8), (6, .double v7), (4, .double v6), (0, va_rf l0), (1, va_rf l1), (2, .int l2), (3, .int l3)]) ok dX4_part_58 (by decide +kernel) hE rfl (by decide) (fun _ => rfl) (fun v8 hE => ?_)
    refine zg_goto (tgt := 17) ok dX4_part_61 (by decide) ?_
    refine zg_sub (L' := [(0, va_rf l0), (1, va_rf l1), (2, .int l2), (3, .int l3), (4, .double v6), (6, .double v7), (8, .int v8)]) [3, 4, 5, 6, 2, 1, 0] rfl ?_
    exact hR _ _ _ _ hE
theorem gt_f_X4_part_L17 {Xc : zw_X} {Q : UInt64 → zw_H → Prop} {X : String → Nat → zw_H → Prop} (hl : (zw_l Xc).stackTraces = false) (ok : zw_ok Xc cX4_part "MultipoleLine$Line" yX4_part.name 9) (tab : zw_tab Xc []) (fin : zw_fin Xc (Option.some Jvm.ClassFile.FieldType.double) (zq_D Q) X 0 0) (hRm : zw_rm Xc = rm_X4_part) {kc ks : Nat} (hb : kc ≤ 0 ∧ ks ≤ 0) {l0 : Option Nat} {l1 : Option Nat} {l2 : Int32} {l3 : Int32} {k64 : UInt64 → zw_H → Prop} (hk64 : ∀ (l4 : UInt64) (h : zw_H), k64 l4 h → zw_G Xc kc ks 9 h 64 [(4, .double l4)] [])  : ∀ (n9 : Nat) (l4 : UInt64) (l6 : UInt64) (l8 : Int32) (h : zw_H), zl4 (f_X4_part_B17 (zw_Zf Xc).2.2.2 Q X k64 l0 l1 l2 l3) n9 l4 l6 l8 h → zw_G Xc kc ks 9 h 17 [(0, va_rf l0), (1, va_rf l1), (2, .int l2), (3, .int l3), (4, .double l4), (6, .double l6), (8, .int l8)] [] := by
  intro n9
  induction n9 with
  | zero => intro l4 l6 l8 h hE; exact hE.elim
  | succ n9 ih => intro l4 l6 l8 h hE; exact gt_f_X4_part_B17 hl ok tab fin hRm hb ih hk64 hE
set_option maxHeartbeats 8000000 in
theorem mt_X4_part {l : Launch} (hl : l.stackTraces = false) {Z : zw_Z} {a0 : Option Nat} {a1 : Option Nat} {a2 : Int32} {a3 : Int32} {h : zw_H} {Q : UInt64 → zw_H → Prop} {X : String → Nat → zw_H → Prop} (hE : f_X4_part Z.2.2.2 a0 a1 a2 a3 h Q X) : zw_Met l Z yX4_part (ws_ yX4_part cX4_part 9 (Option.some Jvm.ClassFile.FieldType.double)) rm_X4_part [zA a0, zA a1, zI a2, zI a3] h (zq_D Q) X := by
  refine zg_start (own := "MultipoleLine$Line") (by decide +kernel) rfl (Nat.le_of_ble_eq_true rfl) hl (fun Xc ok tab fin hRm hXl hXZ => ?_)
  subst hXl
  subst hXZ
  unfold f_X4_part at hE
  refine zg_dconst0 ok dX4_part_0 ?_
  refine zg_dstore (L' := [(4, .double FP.dconst0), (0, va_rf a0), (1, va_rf a1), (2, .int a2), (3, .int a3)]) ok dX4_part_1 (by decide) rfl ?_
  refine zg_dconst1 ok dX4_part_3 ?_
  refine zg_iload_n ok dX4_part_4 rfl 3 rfl ?_
  refine zg_i2d ok dX4_part_5 ?_
  refine zg_iload_n ok dX4_part_6 rfl 4 rfl ?_
  refine zg_iconst (v := 1) ok dX4_part_7 (by decide) ?_
  refine zg_iadd ok dX4_part_8 ?_
  refine zg_callSN (vs := [zD FP.dconst1, zD (FP.i2d a2), zI (a3 + 1)]) (rest := []) (rm := rm_X1_power) ok hRm lk_X4_207 dX4_part_9 hE (fun hE => mt_X1_power hl hE) rfl (Nat.le_of_ble_eq_true rfl) ⟨⟨Nat.le_of_ble_eq_true rfl, Nat.le_of_ble_eq_true rfl⟩, Nat.le_of_ble_eq_true rfl, Nat.le_of_ble_eq_true rfl⟩ (zg_retD (fun v1 h1 hE => ?_)) (zg_xok ok tab fin ⟨Nat.le_of_ble_eq_true rfl, Nat.le_of_ble_eq_true rfl⟩)
  refine zg_cost (kc2 := 0) (ks2 := 0) ⟨rfl, rfl⟩ ?_
  refine zg_dstore (L' := [(6, .double v1), (4, .double FP.dconst0), (0, va_rf a0), (1, va_rf a1), (2, .int a2), (3, .int a3)]) ok dX4_part_12 (by decide) rfl ?_
  refine zg_iconst (v := 0) ok dX4_part_14 (by decide) ?_
  refine zg_istore (L' := [(8, .int 0), (6, .double v1), (4, .double FP.dconst0), (0, va_rf a0), (1, va_rf a1), (2, .int a2), (3, .int a3)]) ok dX4_part_15 (by decide) rfl ?_
  refine zg_sub (L' := [(0, va_rf a0), (1, va_rf a1), (2, .int a2), (3, .int a3), (4, .double FP.dconst0), (6, .double v1), (8, .int 0)]) [3, 4, 5, 6, 2, 1, 0] rfl ?_
  refine gt_f_X4_part_L17 hl ok tab fin hRm ⟨Nat.le_of_ble_eq_true rfl, Nat.le_of_ble_eq_true rfl⟩ ?_ _ _ _ _ _ hE
  · intro v9 h4 hE
    refine zg_dload ok dX4_part_64 0 rfl ?_
    exact zg_dret ok fin dX4_part_66 ⟨Nat.le_of_ble_eq_true rfl, Nat.le_of_ble_eq_true rfl⟩ hE
set_option maxHeartbeats 8000000 in
theorem gt_f_X4_locall3_J154 {Xc : zw_X} {Q : Option Nat → zw_H → Prop} {X : String → Nat → zw_H → Prop} (hl : (zw_l Xc).stackTraces = false) (ok : zw_ok Xc cX4_local "MultipoleLine$Line" yX4_local.name 11) (tab : zw_tab Xc []) (fin : zw_fin Xc (Option.some (Jvm.ClassFile.FieldType.array Jvm.ClassFile.FieldType.double)) (zq_A Q) X 2 21) (hRm : zw_rm Xc = rm_X4_locall3) {kc ks : Nat} (hb : kc ≤ 2 ∧ ks ≤ 21) {R : Int32 → zw_H → Prop} {l0 : Option Nat} {l1 : Option Nat} {l2 : Option Nat} {l3 : Option Nat} {l4 : Int32} (hR : ∀ (l5 : Int32) (h : zw_H), R l5 h → zw_G Xc kc ks 11 h 29 [(0, va_rf l0), (1, va_rf l1), (2, va_rf l2), (3, va_rf l3), (4, .int l4), (5, .int l5)] []) {k160 : zw_H → Prop} (hk160 : ∀  (h : zw_H), k160  h → zw_G Xc kc ks 11 h 160 [(2, va_rf l2)] [])  {l5 : Int32}  {h : zw_H} (hE : f_X4_locall3_J154 (zw_Zf Xc).2.2.2 Q X R k160 l0 l1 l2 l3 l4 l5 h) : zw_G Xc kc ks 11 h 154 [(0, va_rf l0), (1, va_rf l1), (2, va_rf l2), (3, va_rf l3), (4, .int l4), (5, .int l5)] [] := by
  unfold f_X4_locall3_J154 at hE
  refine zg_iincL (k := 5) (L' := fun v10 => [(5, .int v10), (0, va_rf l0), (1, va_rf l1), (2, va_rf l2), (3, va_rf l3), (4, .int l4)]) ok dX4_local_154 (by decide +kernel) hE rfl (by decide) (fun _ => rfl) (fun v10 hE => ?_)
  refine zg_goto (tgt := 29) ok dX4_local_157 (by decide) ?_
  refine zg_sub (L' := [(0, va_rf l0), (1, va_rf l1), (2, va_rf l2), (3, va_rf l3), (4, .int l4), (5, .int v10)]) [1, 2, 3, 4, 5, 0] rfl ?_
  exact hR _ _ hE
set_option maxHeartbeats 8000000 in
theorem gt_f_X4_locall3_J148 {Xc : zw_X} {Q : Option Nat → zw_H → Prop} {X : String → Nat → zw_H → Prop} (hl : (zw_l Xc).stackTraces = false) (ok : zw_ok Xc cX4_local "MultipoleLine$Line" yX4_local.name 11) (tab : zw_tab Xc []) (fin : zw_fin Xc (Option.some (Jvm.ClassFile.FieldType.array Jvm.ClassFile.FieldType.double)) (zq_A Q) X 2 21) (hRm : zw_rm Xc = rm_X4_locall3) {kc ks : Nat} (hb : kc ≤ 2 ∧ ks ≤ 21) {R : Int32 → zw_H → Prop} {l0 : Option Nat} {l1 : Option Nat} {l2 : Option Nat} {l3 : Option Nat} {l4 : Int32} {l5 : Int32} {l6 : Option Nat} {l7 : Int32} (hR : ∀ (l8 : Int32) (h : zw_H), R l8 h → zw_G Xc kc ks 11 h 81 [(0, va_rf l0), (1, va_rf l1), (2, va_rf l2), (3, va_rf l3), (4, .int l4), (5, .int l5), (6, va_rf l6), (7, .int l7), (8, .int l8)] []) {k154 : zw_H → Prop} (hk154 : ∀  (h : zw_H), k154  h → zw_G Xc kc ks 11 h 154 [(0, va_rf l0), (1, va_rf l1), (2, va_rf l2), (3, va_rf l3), (4, .int l4), (5, .int l5)] [])  {l8 : Int32}  {h : zw_H} (hE : f_X4_locall3_J148 (zw_Zf Xc).2.2.2 Q X R k154 l0 l1 l2 l3 l4 l5 l6 l7 l8 h) : zw_G Xc kc ks 11 h 148 [(0, va_rf l0), (1, va_rf l1), (2, va_rf l2), (3, va_rf l3), (4, .int l4), (5, .int l5), (6, va_rf l6), (7, .int l7), (8, .int l8)] [] := by
  unfold f_X4_locall3_J148 at hE
  refine zg_iincL (k := 8) (L' := fun v19 => [(8, .int v19), (0, va_rf l0), (1, va_rf l1), (2, va_rf l2), (3, va_rf l3), (4, .int l4), (5, .int l5), (6, va_rf l6), (7, .int l7)]) ok dX4_local_148 (by decide +kernel) hE rfl (by decide) (fun _ => rfl) (fun v19 hE => ?_)
  refine zg_goto (tgt := 81) ok dX4_local_151 (by decide) ?_
  refine zg_sub (L' := [(0, va_rf l0), (1, va_rf l1), (2, va_rf l2), (3, va_rf l3), (4, .int l4), (5, .int l5), (6, va_rf l6), (7, .int l7), (8, .int v19)]) [1, 2, 3, 4, 5, 6, 7, 8, 0] rfl ?_
  exact hR _ _ hE
set_option maxHeartbeats 8000000 in
theorem gt_f_X4_locall3_J124 {Xc : zw_X} {Q : Option Nat → zw_H → Prop} {X : String → Nat → zw_H → Prop} (hl : (zw_l Xc).stackTraces = false) (ok : zw_ok Xc cX4_local "MultipoleLine$Line" yX4_local.name 11) (tab : zw_tab Xc []) (fin : zw_fin Xc (Option.some (Jvm.ClassFile.FieldType.array Jvm.ClassFile.FieldType.double)) (zq_A Q) X 2 21) (hRm : zw_rm Xc = rm_X4_locall3) {kc ks : Nat} (hb : kc ≤ 2 ∧ ks ≤ 21) {R : Int32 → zw_H → Prop} {l0 : Option Nat} {l1 : Option Nat} {l2 : Option Nat} {l3 : Option Nat} {l4 : Int32} {l5 : Int32} {l6 : Option Nat} {l7 : Int32} (hR : ∀ (l8 : Int32) (h : zw_H), R l8 h → zw_G Xc kc ks 11 h 81 [(0, va_rf l0), (1, va_rf l1), (2, va_rf l2), (3, va_rf l3), (4, .int l4), (5, .int l5), (6, va_rf l6), (7, .int l7), (8, .int l8)] []) {k154 : zw_H → Prop} (hk154 : ∀  (h : zw_H), k154  h → zw_G Xc kc ks 11 h 154 [(0, va_rf l0), (1, va_rf l1), (2, va_rf l2), (3, va_rf l3), (4, .int l4), (5, .int l5)] [])  {l8 : Int32} {l9 : UInt64} {s0 : Int32} {s1 : Int32} {h : zw_H} (hE : f_X4_locall3_J124 (zw_Zf Xc).2.2.2 Q X R k154 l0 l1 l2 l3 l4 l5 l6 l7 l8 l9 s0 s1 h) : zw_G Xc kc ks 11 h 124 [(0, va_rf l0), (1, va_rf l1), (2, va_rf l2), (3, va_rf l3), (4, .int l4), (5, .int l5), (6, va_rf l6), (7, .int l7), (8, .int l8), (9, .double l9)] [.int s0, .int s1] := by
  unfold f_X4_locall3_J124 at hE
  refine zg_icmp_ne (tgt := 139) ok dX4_local_124 (by decide) hE (fun hE => ?_) (fun hE => ?_)
  · refine zg_aload_n ok dX4_local_139 rfl 2 rfl ?_
    refine zg_iload ok dX4_local_140 8 rfl ?_
    refine zg_dup2_11 ok dX4_local_142 rfl (zw_rfc _) ?_
    refine zg_dald ok dX4_local_143 hE (fun v17 hE => ?_)
    refine zg_dload ok dX4_local_144 9 rfl ?_
    refine zg_daddE ok dX4_local_146 hE (fun hE => ?_)
    refine zg_letD hE (fun v18 hE => ?_)
    refine zg_dast ok dX4_local_147 hE (fun h6 hE => ?_)
    refine zg_sub (L' := [(0, va_rf l0), (1, va_rf l1), (2, va_rf l2), (3, va_rf l3), (4, .int l4), (5, .int l5), (6, va_rf l6), (7, .int l7), (8, .int l8)]) [0, 1, 2, 3, 4, 5, 6, 7, 8] rfl ?_
    exact gt_f_X4_locall3_J148 hl ok tab fin hRm hb hR hk154 hE
  · refine zg_aload_n ok dX4_local_127 rfl 2 rfl ?_
    refine zg_iload ok dX4_local_128 8 rfl ?_
    refine zg_dup2_11 ok dX4_local_130 rfl (zw_rfc _) ?_
    refine zg_dald ok dX4_local_131 hE (fun v20 hE => ?_)
    refine zg_dload ok dX4_local_132 9 rfl ?_
    refine zg_dsubE ok dX4_local_134 hE (fun hE => ?_)
    refine zg_letD hE (fun v21 hE => ?_)
    refine zg_dast ok dX4_local_135 hE (fun h7 hE => ?_)
    refine zg_goto (tgt := 148) ok dX4_local_136 (by decide) ?_
    refine zg_sub (L' := [(0, va_rf l0), (1, va_rf l1), (2, va_rf l2), (3, va_rf l3), (4, .int l4), (5, .int l5), (6, va_rf l6), (7, .int l7), (8, .int l8)]) [0, 1, 2, 3, 4, 5, 6, 7, 8] rfl ?_
    exact gt_f_X4_locall3_J148 hl ok tab fin hRm hb hR hk154 hE
set_option maxHeartbeats 8000000 in
theorem gt_f_X4_locall3_J112 {Xc : zw_X} {Q : Option Nat → zw_H → Prop} {X : String → Nat → zw_H → Prop} (hl : (zw_l Xc).stackTraces = false) (ok : zw_ok Xc cX4_local "MultipoleLine$Line" yX4_local.name 11) (tab : zw_tab Xc []) (fin : zw_fin Xc (Option.some (Jvm.ClassFile.FieldType.array Jvm.ClassFile.FieldType.double)) (zq_A Q) X 2 21) (hRm : zw_rm Xc = rm_X4_locall3) {kc ks : Nat} (hb : kc ≤ 2 ∧ ks ≤ 21) {R : Int32 → zw_H → Prop} {l0 : Option Nat} {l1 : Option Nat} {l2 : Option Nat} {l3 : Option Nat} {l4 : Int32} {l5 : Int32} {l6 : Option Nat} {l7 : Int32} (hR : ∀ (l8 : Int32) (h : zw_H), R l8 h → zw_G Xc kc ks 11 h 81 [(0, va_rf l0), (1, va_rf l1), (2, va_rf l2), (3, va_rf l3), (4, .int l4), (5, .int l5), (6, va_rf l6), (7, .int l7), (8, .int l8)] []) {k154 : zw_H → Prop} (hk154 : ∀  (h : zw_H), k154  h → zw_G Xc kc ks 11 h 154 [(0, va_rf l0), (1, va_rf l1), (2, va_rf l2), (3, va_rf l3), (4, .int l4), (5, .int l5)] [])  {l8 : Int32} {l9 : UInt64} {s0 : Int32} {h : zw_H} (hE : f_X4_locall3_J112 (zw_Zf Xc).2.2.2 Q X R k154 l0 l1 l2 l3 l4 l5 l6 l7 l8 l9 s0 h) : zw_G Xc kc ks 11 h 112 [(0, va_rf l0), (1, va_rf l1), (2, va_rf l2), (3, va_rf l3), (4, .int l4), (5, .int l5), (6, va_rf l6), (7, .int l7), (8, .int l8), (9, .double l9)] [.int s0] := by
  unfold f_X4_locall3_J112 at hE
  refine zg_iload ok dX4_local_112 8 rfl ?_
  refine zg_iconst (v := 2) ok dX4_local_114 (by decide) ?_
  refine zg_iremE ok dX4_local_115 hE (fun hE => ?_)
  refine zg_if_ne (tgt := 123) ok dX4_local_116 (by decide) hE (fun hE => ?_) (fun hE => ?_)
  · refine zg_iconst (v := 0) ok dX4_local_123 (by decide) ?_
    exact gt_f_X4_locall3_J124 hl ok tab fin hRm hb hR hk154 hE
  · refine zg_iconst (v := 1) ok dX4_local_119 (by decide) ?_
    refine zg_goto (tgt := 124) ok dX4_local_120 (by decide) ?_
    exact gt_f_X4_locall3_J124 hl ok tab fin hRm hb hR hk154 hE
set_option maxHeartbeats 8000000 in
theorem gt_f_X4_locall3_B81 {Xc : zw_X} {Q : Option Nat → zw_H → Prop} {X : String → Nat → zw_H → Prop} (hl : (zw_l Xc).stackTraces = false) (ok : zw_ok Xc cX4_local "MultipoleLine$Line" yX4_local.name 11) (tab : zw_tab Xc []) (fin : zw_fin Xc (Option.some (Jvm.ClassFile.FieldType.array Jvm.ClassFile.FieldType.double)) (zq_A Q) X 2 21) (hRm : zw_rm Xc = rm_X4_locall3) {kc ks : Nat} (hb : kc ≤ 2 ∧ ks ≤ 21) {R : Int32 → zw_H → Prop} {l0 : Option Nat} {l1 : Option Nat} {l2 : Option Nat} {l3 : Option Nat} {l4 : Int32} {l5 : Int32} {l6 : Option Nat} {l7 : Int32} (hR : ∀ (l8 : Int32) (h : zw_H), R l8 h → zw_G Xc kc ks 11 h 81 [(0, va_rf l0), (1, va_rf l1), (2, va_rf l2), (3, va_rf l3), (4, .int l4), (5, .int l5), (6, va_rf l6), (7, .int l7), (8, .int l8)] []) {k154 : zw_H → Prop} (hk154 : ∀  (h : zw_H), k154  h → zw_G Xc kc ks 11 h 154 [(0, va_rf l0), (1, va_rf l1), (2, va_rf l2), (3, va_rf l3), (4, .int l4), (5, .int l5)] [])  {l8 : Int32} {h : zw_H} (hE : f_X4_locall3_B81 (zw_Zf Xc).2.2.2 Q X k154 l0 l1 l2 l3 l4 l5 l6 l7 R l8 h) : zw_G Xc kc ks 11 h 81 [(0, va_rf l0), (1, va_rf l1), (2, va_rf l2), (3, va_rf l3), (4, .int l4), (5, .int l5), (6, va_rf l6), (7, .int l7), (8, .int l8)] [] := by
  unfold f_X4_locall3_B81 at hE
  refine zg_iload ok dX4_local_81 8 rfl ?_
  refine zg_aload_n ok dX4_local_83 rfl 0 rfl ?_
  refine zg_getI ok lf_X4_61 dX4_local_84 hE (fun v15 hE => ?_)
  refine zg_icmp_gt (tgt := 154) ok dX4_local_87 (by decide) hE (fun hE => ?_) (fun hE => ?_)
  · refine zg_sub (L' := [(0, va_rf l0), (1, va_rf l1), (2, va_rf l2), (3, va_rf l3), (4, .int l4), (5, .int l5)]) [0, 1, 2, 3, 4, 5] rfl ?_
    exact hk154 _ hE
  · refine zg_aload_n ok dX4_local_90 rfl 0 rfl ?_
    refine zg_aload ok dX4_local_91 6 rfl ?_
    refine zg_iload ok dX4_local_93 7 rfl ?_
    refine zg_iload ok dX4_local_95 8 rfl ?_
    refine zg_callV (vs := [zA l6, zI l7, zI l8]) (rest := []) (rm := rm_X4_part) ok hRm lk_X4_243 dX4_local_97 hE (fun hE => mt_X4_part hl hE) rfl (Nat.le_of_ble_eq_true rfl) ⟨⟨Nat.le_of_ble_eq_true rfl, Nat.le_of_ble_eq_true rfl⟩, (by show kc + 0 ≤ 2; omega), (by show ks + 0 ≤ 21; omega)⟩ (zg_retD (fun v16 h5 hE => ?_)) (zg_xok ok tab fin ⟨(by show kc + 0 ≤ 2; omega), (by show ks + 0 ≤ 21; omega)⟩)
    refine zg_cost (kc2 := kc) (ks2 := ks) ⟨(by show kc + 0 = kc; omega), (by show ks + 0 = ks; omega)⟩ ?_
    refine zg_dstore (L' := [(9, .double v16), (0, va_rf l0), (1, va_rf l1), (2, va_rf l2), (3, va_rf l3), (4, .int l4), (5, .int l5), (6, va_rf l6), (7, .int l7), (8, .int l8)]) ok dX4_local_100 (by decide) rfl ?_
    refine zg_iload ok dX4_local_102 8 rfl ?_
    refine zg_if_ge (tgt := 111) ok dX4_local_104 (by decide) hE (fun hE => ?_) (fun hE => ?_)
    · refine zg_iconst (v := 0) ok dX4_local_111 (by decide) ?_
      refine zg_sub (L' := [(0, va_rf l0), (1, va_rf l1), (2, va_rf l2), (3, va_rf l3), (4, .int l4), (5, .int l5), (6, va_rf l6), (7, .int l7), (8, .int l8), (9, .double v16)]) [1, 2, 3, 4, 5, 6, 7, 8, 9, 0] rfl ?_
      exact gt_f_X4_locall3_J112 hl ok tab fin hRm hb hR hk154 hE
    · refine zg_iconst (v := 1) ok dX4_local_107 (by decide) ?_
      refine zg_goto (tgt := 112) ok dX4_local_108 (by decide) ?_
      refine zg_sub (L' := [(0, va_rf l0), (1, va_rf l1), (2, va_rf l2), (3, va_rf l3), (4, .int l4), (5, .int l5), (6, va_rf l6), (7, .int l7), (8, .int l8), (9, .double v16)]) [1, 2, 3, 4, 5, 6, 7, 8, 9, 0] rfl ?_
      exact gt_f_X4_locall3_J112 hl ok tab fin hRm hb hR hk154 hE
theorem gt_f_X4_locall3_L81 {Xc : zw_X} {Q : Option Nat → zw_H → Prop} {X : String → Nat → zw_H → Prop} (hl : (zw_l Xc).stackTraces = false) (ok : zw_ok Xc cX4_local "MultipoleLine$Line" yX4_local.name 11) (tab : zw_tab Xc []) (fin : zw_fin Xc (Option.some (Jvm.ClassFile.FieldType.array Jvm.ClassFile.FieldType.double)) (zq_A Q) X 2 21) (hRm : zw_rm Xc = rm_X4_locall3) {kc ks : Nat} (hb : kc ≤ 2 ∧ ks ≤ 21) {l0 : Option Nat} {l1 : Option Nat} {l2 : Option Nat} {l3 : Option Nat} {l4 : Int32} {l5 : Int32} {l6 : Option Nat} {l7 : Int32} {k154 : zw_H → Prop} (hk154 : ∀  (h : zw_H), k154  h → zw_G Xc kc ks 11 h 154 [(0, va_rf l0), (1, va_rf l1), (2, va_rf l2), (3, va_rf l3), (4, .int l4), (5, .int l5)] [])  : ∀ (n9 : Nat) (l8 : Int32) (h : zw_H), zl2 (f_X4_locall3_B81 (zw_Zf Xc).2.2.2 Q X k154 l0 l1 l2 l3 l4 l5 l6 l7) n9 l8 h → zw_G Xc kc ks 11 h 81 [(0, va_rf l0), (1, va_rf l1), (2, va_rf l2), (3, va_rf l3), (4, .int l4), (5, .int l5), (6, va_rf l6), (7, .int l7), (8, .int l8)] [] := by
  intro n9
  induction n9 with
  | zero => intro l8 h hE; exact hE.elim
  | succ n9 ih => intro l8 h hE; exact gt_f_X4_locall3_B81 hl ok tab fin hRm hb ih hk154 hE
set_option maxHeartbeats 8000000 in
theorem gt_f_X4_locall3_B29 {Xc : zw_X} {Q : Option Nat → zw_H → Prop} {X : String → Nat → zw_H → Prop} (hl : (zw_l Xc).stackTraces = false) (ok : zw_ok Xc cX4_local "MultipoleLine$Line" yX4_local.name 11) (tab : zw_tab Xc []) (fin : zw_fin Xc (Option.some (Jvm.ClassFile.FieldType.array Jvm.ClassFile.FieldType.double)) (zq_A Q) X 2 21) (hRm : zw_rm Xc = rm_X4_locall3) {kc ks : Nat} (hb : kc ≤ 2 ∧ ks ≤ 21) {R : Int32 → zw_H → Prop} {l0 : Option Nat} {l1 : Option Nat} {l2 : Option Nat} {l3 : Option Nat} {l4 : Int32} (hR : ∀ (l5 : Int32) (h : zw_H), R l5 h → zw_G Xc kc ks 11 h 29 [(0, va_rf l0), (1, va_rf l1), (2, va_rf l2), (3, va_rf l3), (4, .int l4), (5, .int l5)] []) {k160 : zw_H → Prop} (hk160 : ∀  (h : zw_H), k160  h → zw_G Xc kc ks 11 h 160 [(2, va_rf l2)] [])  {l5 : Int32} {h : zw_H} (hE : f_X4_locall3_B29 (zw_Zf Xc).2.2.2 Q X k160 l0 l1 l2 l3 l4 R l5 h) : zw_G Xc kc ks 11 h 29 [(0, va_rf l0), (1, va_rf l1), (2, va_rf l2), (3, va_rf l3), (4, .int l4), (5, .int l5)] [] := by
  unfold f_X4_locall3_B29 at hE
  refine zg_iload ok dX4_local_29 5 rfl ?_
  refine zg_iload ok dX4_local_31 4 rfl ?_
  refine zg_icmp_ge (tgt := 160) ok dX4_local_33 (by decide) hE (fun hE => ?_) (fun hE => ?_)
  · refine zg_sub (L' := [(2, va_rf l2)]) [2] rfl ?_
    exact hk160 _ hE
  · refine zg_aload_n ok dX4_local_36 rfl 3 rfl ?_
    refine zg_iload ok dX4_local_37 5 rfl ?_
    refine zg_aaldB ok dX4_local_39 hE (fun v7 hE => ?_)
    refine zg_astore (L' := [(6, va_rf v7), (0, va_rf l0), (1, va_rf l1), (2, va_rf l2), (3, va_rf l3), (4, .int l4), (5, .int l5)]) ok dX4_local_40 (by decide) rfl ?_
    refine zg_aload ok dX4_local_42 0 rfl ?_
    refine zg_aload_n ok dX4_local_44 rfl 2 rfl ?_
    refine zg_getI ok lf_X4_119 dX4_local_45 hE (fun v8 hE => ?_)
    refine zg_callV (vs := [zI v8]) (rest := []) (rm := rm_X5_isFarFrom) ok hRm lk_X4_182 dX4_local_48 hE (fun hE => mt_X5_isFarFrom hl hE) rfl (Nat.le_of_ble_eq_true rfl) ⟨⟨Nat.le_of_ble_eq_true rfl, Nat.le_of_ble_eq_true rfl⟩, (by show kc + 0 ≤ 2; omega), (by show ks + 0 ≤ 21; omega)⟩ (zg_retI (fun v9 h3 hE => ?_)) (zg_xok ok tab fin ⟨(by show kc + 0 ≤ 2; omega), (by show ks + 0 ≤ 21; omega)⟩)
    refine zg_cost (kc2 := kc) (ks2 := ks) ⟨(by show kc + 0 = kc; omega), (by show ks + 0 = ks; omega)⟩ ?_
    refine zg_if_eq (tgt := 154) ok dX4_local_51 (by decide) hE (fun hE => ?_) (fun hE => ?_)
    · refine zg_sub (L' := [(0, va_rf l0), (1, va_rf l1), (2, va_rf l2), (3, va_rf l3), (4, .int l4), (5, .int l5)]) [1, 2, 3, 4, 5, 6] rfl ?_
      exact gt_f_X4_locall3_J154 hl ok tab fin hRm hb hR hk160 hE
    · refine zg_aload_n ok dX4_local_54 rfl 1 rfl ?_
      refine zg_aload ok dX4_local_55 0 rfl ?_
      refine zg_callV (vs := [zA v7]) (rest := []) (rm := rm_X4_bodiesIn) ok hRm lk_X4_185 dX4_local_57 hE (fun hE => mt_X4_bodiesIn hl hE) rfl (Nat.le_of_ble_eq_true rfl) ⟨⟨Nat.le_of_ble_eq_true rfl, Nat.le_of_ble_eq_true rfl⟩, (by show kc + 0 ≤ 2; omega), (by show ks + 0 ≤ 21; omega)⟩ (zg_retI (fun v11 h4 hE => ?_)) (zg_xok ok tab fin ⟨(by show kc + 0 ≤ 2; omega), (by show ks + 0 ≤ 21; omega)⟩)
      refine zg_cost (kc2 := kc) (ks2 := ks) ⟨(by show kc + 0 = kc; omega), (by show ks + 0 = ks; omega)⟩ ?_
      refine zg_if_ne (tgt := 66) ok dX4_local_60 (by decide) hE (fun hE => ?_) (fun hE => ?_)
      · refine zg_aload_n ok dX4_local_66 rfl 2 rfl ?_
        refine zg_getI ok lf_X4_125 dX4_local_67 hE (fun v12 hE => ?_)
        refine zg_aload ok dX4_local_70 0 rfl ?_
        refine zg_getI ok lf_X4_125 dX4_local_72 hE (fun v13 hE => ?_)
        refine zg_isub ok dX4_local_75 ?_
        refine zg_letI hE (fun v14 hE => ?_)
        refine zg_istoreR (L' := [(7, .int v14), (6, va_rf v7), (0, va_rf l0), (1, va_rf l1), (2, va_rf l2), (3, va_rf l3), (4, .int l4), (5, .int l5)]) ok dX4_local_76 (by decide) 0 rfl rfl rfl ?_
        refine zg_iconst (v := 0) ok dX4_local_78 (by decide) ?_
        refine zg_istore (L' := [(8, .int 0), (7, .int v14), (6, va_rf v7), (0, va_rf l0), (1, va_rf l1), (2, va_rf l2), (3, va_rf l3), (4, .int l4), (5, .int l5)]) ok dX4_local_79 (by decide) rfl ?_
        refine zg_sub (L' := [(0, va_rf l0), (1, va_rf l1), (2, va_rf l2), (3, va_rf l3), (4, .int l4), (5, .int l5), (6, va_rf v7), (7, .int v14), (8, .int 0)]) [3, 4, 5, 6, 7, 8, 2, 1, 0] rfl ?_
        refine gt_f_X4_locall3_L81 hl ok tab fin hRm ⟨(by omega), (by omega)⟩ ?_ _ _ _ hE
        · intro h8 hE
          exact gt_f_X4_locall3_J154 hl ok tab fin hRm hb hR hk160 hE
      · refine zg_goto (tgt := 154) ok dX4_local_63 (by decide) ?_
        refine zg_sub (L' := [(0, va_rf l0), (1, va_rf l1), (2, va_rf l2), (3, va_rf l3), (4, .int l4), (5, .int l5)]) [1, 2, 3, 4, 5, 6] rfl ?_
        exact gt_f_X4_locall3_J154 hl ok tab fin hRm hb hR hk160 hE
theorem gt_f_X4_locall3_L29 {Xc : zw_X} {Q : Option Nat → zw_H → Prop} {X : String → Nat → zw_H → Prop} (hl : (zw_l Xc).stackTraces = false) (ok : zw_ok Xc cX4_local "MultipoleLine$Line" yX4_local.name 11) (tab : zw_tab Xc []) (fin : zw_fin Xc (Option.some (Jvm.ClassFile.FieldType.array Jvm.ClassFile.FieldType.double)) (zq_A Q) X 2 21) (hRm : zw_rm Xc = rm_X4_locall3) {kc ks : Nat} (hb : kc ≤ 2 ∧ ks ≤ 21) {l0 : Option Nat} {l1 : Option Nat} {l2 : Option Nat} {l3 : Option Nat} {l4 : Int32} {k160 : zw_H → Prop} (hk160 : ∀  (h : zw_H), k160  h → zw_G Xc kc ks 11 h 160 [(2, va_rf l2)] [])  : ∀ (n9 : Nat) (l5 : Int32) (h : zw_H), zl2 (f_X4_locall3_B29 (zw_Zf Xc).2.2.2 Q X k160 l0 l1 l2 l3 l4) n9 l5 h → zw_G Xc kc ks 11 h 29 [(0, va_rf l0), (1, va_rf l1), (2, va_rf l2), (3, va_rf l3), (4, .int l4), (5, .int l5)] [] := by
  intro n9
  induction n9 with
  | zero => intro l5 h hE; exact hE.elim
  | succ n9 ih => intro l5 h hE; exact gt_f_X4_locall3_B29 hl ok tab fin hRm hb ih hk160 hE
set_option maxHeartbeats 8000000 in
theorem mt_X4_locall3 {l : Launch} (hl : l.stackTraces = false) {Z : zw_Z} {a0 : Option Nat} {a1 : Option Nat} {h : zw_H} {Q : Option Nat → zw_H → Prop} {X : String → Nat → zw_H → Prop} (hE : f_X4_locall3 Z.2.2.2 a0 a1 h Q X) : zw_Met l Z yX4_local (ws_ yX4_local cX4_local 11 (Option.some (Jvm.ClassFile.FieldType.array Jvm.ClassFile.FieldType.double))) rm_X4_locall3 [zA a0, zA a1] h (zq_A Q) X := by
  refine zg_start (own := "MultipoleLine$Line") (by decide +kernel) rfl (Nat.le_of_ble_eq_true rfl) hl (fun Xc ok tab fin hRm hXl hXZ => ?_)
  subst hXl
  subst hXZ
  unfold f_X4_locall3 at hE
  refine zg_aload_n ok dX4_local_0 rfl 0 rfl ?_
  refine zg_aload_n ok dX4_local_1 rfl 1 rfl ?_
  refine zg_callV (vs := [zA a1]) (rest := []) (rm := rm_X4_inheritsl3) ok hRm lk_X4_234 dX4_local_2 hE (fun hE => mt_X4_inheritsl3 hl hE) rfl (Nat.le_of_ble_eq_true rfl) ⟨⟨Nat.le_of_ble_eq_true rfl, Nat.le_of_ble_eq_true rfl⟩, Nat.le_of_ble_eq_true rfl, Nat.le_of_ble_eq_true rfl⟩ (zg_retA (fun v1 h1 hE => ?_)) (zg_xok ok tab fin ⟨Nat.le_of_ble_eq_true rfl, Nat.le_of_ble_eq_true rfl⟩)
  refine zg_cost (kc2 := 1) (ks2 := 5) ⟨rfl, rfl⟩ ?_
  refine zg_cloneD (b := 16) ok hRm q1893 ⟨⟨by decide, by decide⟩, Nat.le_of_ble_eq_true rfl, Nat.le_of_ble_eq_true rfl⟩ (Nat.le_of_ble_eq_true rfl) dX4_local_5 hE (fun v2 h2 hE => ?_)
  refine zg_cost (kc2 := 2) (ks2 := 21) ⟨rfl, rfl⟩ ?_
  refine zg_castA4 ok q1897 dX4_local_8 hE (fun hE => ?_)
  refine zg_astore_nR (L' := [(2, va_rf (some v2)), (0, va_rf a0), (1, va_rf a1)]) ok dX4_local_11 rfl (by decide) 1 rfl rfl rfl ?_
  refine zg_aload_n ok dX4_local_12 rfl 1 rfl ?_
  refine zg_getA ok lf_X4_20 dX4_local_13 hE (fun v3 hE => ?_)
  refine zg_aload_n ok dX4_local_16 rfl 2 rfl ?_
  refine zg_getI ok lf_X4_139 dX4_local_17 hE (fun v4 hE => ?_)
  refine zg_aaldBB ok dX4_local_20 hE (fun v5 hE => ?_)
  refine zg_astore_nR (L' := [(3, va_rf v5), (2, va_rf (some v2)), (0, va_rf a0), (1, va_rf a1)]) ok dX4_local_21 rfl (by decide) 0 rfl rfl rfl ?_
  refine zg_aload_n ok dX4_local_22 rfl 0 rfl ?_
  refine zg_alen ok dX4_local_23 hE (fun v6 hE => ?_)
  refine zg_istoreR (L' := [(4, .int v6), (3, va_rf v5), (2, va_rf (some v2)), (0, va_rf a0), (1, va_rf a1)]) ok dX4_local_24 (by decide) 0 rfl rfl rfl ?_
  refine zg_iconst (v := 0) ok dX4_local_26 (by decide) ?_
  refine zg_istore (L' := [(5, .int 0), (4, .int v6), (3, va_rf v5), (2, va_rf (some v2)), (0, va_rf a0), (1, va_rf a1)]) ok dX4_local_27 (by decide) rfl ?_
  refine zg_sub (L' := [(0, va_rf a0), (1, va_rf a1), (2, va_rf (some v2)), (3, va_rf v5), (4, .int v6), (5, .int 0)]) [4, 5, 3, 2, 1, 0] rfl ?_
  refine gt_f_X4_locall3_L29 hl ok tab fin hRm ⟨Nat.le_of_ble_eq_true rfl, Nat.le_of_ble_eq_true rfl⟩ ?_ _ _ _ hE
  · intro h9 hE
    refine zg_aload_n ok dX4_local_160 rfl 0 rfl ?_
    exact zg_aret ok fin (Or.inr ⟨_, rfl⟩) dX4_local_161 ⟨Nat.le_of_ble_eq_true rfl, Nat.le_of_ble_eq_true rfl⟩ hE
set_option maxHeartbeats 8000000 in
theorem gt_f_X4_inheritsl2_B71 {Xc : zw_X} {Q : Option Nat → zw_H → Prop} {X : String → Nat → zw_H → Prop} (hl : (zw_l Xc).stackTraces = false) (ok : zw_ok Xc cX4_inherits "MultipoleLine$Line" yX4_inherits.name 9) (tab : zw_tab Xc []) (fin : zw_fin Xc (Option.some (Jvm.ClassFile.FieldType.array Jvm.ClassFile.FieldType.double)) (zq_A Q) X 3 26) (hRm : zw_rm Xc = rm_X4_inheritsl2) {kc ks : Nat} (hb : kc ≤ 3 ∧ ks ≤ 26) {R : Int32 → zw_H → Prop} {l0 : Option Nat} {l2 : Option Nat} {l4 : Option Nat} {l5 : UInt64} {l7 : Int32} (hR : ∀ (l8 : Int32) (h : zw_H), R l8 h → zw_G Xc kc ks 9 h 71 [(0, va_rf l0), (2, va_rf l2), (4, va_rf l4), (5, .double l5), (7, .int l7), (8, .int l8)] []) {k119 : zw_H → Prop} (hk119 : ∀  (h : zw_H), k119  h → zw_G Xc kc ks 9 h 119 [(0, va_rf l0), (2, va_rf l2), (4, va_rf l4), (5, .double l5), (7, .int l7)] [])  {l8 : Int32} {h : zw_H} (hE : f_X4_inheritsl2_B71 (zw_Zf Xc).2.2.2 Q X k119 l0 l2 l4 l5 l7 R l8 h) : zw_G Xc kc ks 9 h 71 [(0, va_rf l0), (2, va_rf l2), (4, va_rf l4), (5, .double l5), (7, .int l7), (8, .int l8)] [] := by
  unfold f_X4_inheritsl2_B71 at hE
  refine zg_iload ok dX4_inherits_71 5 rfl ?_
  refine zg_aload_n ok dX4_inherits_73 rfl 0 rfl ?_
  refine zg_getI ok lf_X4_61 dX4_inherits_74 hE (fun v12 hE => ?_)
  refine zg_icmp_gt (tgt := 119) ok dX4_inherits_77 (by decide) hE (fun hE => ?_) (fun hE => ?_)
  · refine zg_sub (L' := [(0, va_rf l0), (2, va_rf l2), (4, va_rf l4), (5, .double l5), (7, .int l7)]) [0, 1, 2, 3, 4] rfl ?_
    exact hk119 _ hE
  · refine zg_aload_n ok dX4_inherits_80 rfl 1 rfl ?_
    refine zg_iload ok dX4_inherits_81 4 rfl ?_
    refine zg_dup2_11 ok dX4_inherits_83 rfl (zw_rfc _) ?_
    refine zg_dald ok dX4_inherits_84 hE (fun v13 hE => ?_)
    refine zg_iload ok dX4_inherits_85 5 rfl ?_
    refine zg_iload ok dX4_inherits_87 4 rfl ?_
    refine zg_callSN (vs := [zI l8, zI l7]) (rest := [.double v13, .int l7, va_rf l2]) (rm := rm_X1_choose) ok hRm lk_X4_132 dX4_inherits_89 hE (fun hE => mt_X1_choose hl hE) rfl (Nat.le_of_ble_eq_true rfl) ⟨⟨Nat.le_of_ble_eq_true rfl, Nat.le_of_ble_eq_true rfl⟩, (by show kc + 0 ≤ 3; omega), (by show ks + 0 ≤ 26; omega)⟩ (zg_retJ (fun v14 h4 hE => ?_)) (zg_xok ok tab fin ⟨(by show kc + 0 ≤ 3; omega), (by show ks + 0 ≤ 26; omega)⟩)
    refine zg_cost (kc2 := kc) (ks2 := ks) ⟨(by show kc + 0 = kc; omega), (by show ks + 0 = ks; omega)⟩ ?_
    refine zg_l2d ok dX4_inherits_92 ?_
    refine zg_aload ok dX4_inherits_93 2 rfl ?_
    refine zg_iload ok dX4_inherits_95 5 rfl ?_
    refine zg_dald ok dX4_inherits_97 hE (fun v15 hE => ?_)
    refine zg_dmulE ok dX4_inherits_98 hE (fun hE => ?_)
    refine zg_letD hE (fun v16 hE => ?_)
    refine zg_dconst1 ok dX4_inherits_99 ?_
    refine zg_dload ok dX4_inherits_100 3 rfl ?_
    refine zg_iload ok dX4_inherits_102 5 rfl ?_
    refine zg_iload ok dX4_inherits_104 4 rfl ?_
    refine zg_isub ok dX4_inherits_106 ?_
    refine zg_callSN (vs := [zD FP.dconst1, zD l5, zI (l8 - l7)]) (rest := [.double v16, .double v13, .int l7, va_rf l2]) (rm := rm_X1_power) ok hRm lk_X4_207 dX4_inherits_107 hE (fun hE => mt_X1_power hl hE) rfl (Nat.le_of_ble_eq_true rfl) ⟨⟨Nat.le_of_ble_eq_true rfl, Nat.le_of_ble_eq_true rfl⟩, (by show kc + 0 ≤ 3; omega), (by show ks + 0 ≤ 26; omega)⟩ (zg_retD (fun v17 h5 hE => ?_)) (zg_xok ok tab fin ⟨(by show kc + 0 ≤ 3; omega), (by show ks + 0 ≤ 26; omega)⟩)
    refine zg_cost (kc2 := kc) (ks2 := ks) ⟨(by show kc + 0 = kc; omega), (by show ks + 0 = ks; omega)⟩ ?_
    refine zg_dmulE ok dX4_inherits_110 hE (fun hE => ?_)
    refine zg_letD hE (fun v18 hE => ?_)
    refine zg_daddE ok dX4_inherits_111 hE (fun hE => ?_)
    refine zg_letD hE (fun v19 hE => ?_)
    refine zg_dast ok dX4_inherits_112 hE (fun h6 hE => ?_)
    refine zg_iincL (k := 5) (L' := fun v20 => [(8, .int v20), (0, va_rf l0), (2, va_rf l2), (4, va_rf l4), (5, .double l5), (7, .int l7)]) ok dX4_inherits_113 (by decide +kernel) hE rfl (by decide) (fun _ => rfl) (fun v20 hE => ?_)
    refine zg_goto (tgt := 71) ok dX4_inherits_116 (by decide) ?_
    refine zg_sub (L' := [(0, va_rf l0), (2, va_rf l2), (4, va_rf l4), (5, .double l5), (7, .int l7), (8, .int v20)]) [1, 2, 3, 4, 5, 0] rfl ?_
    exact hR _ _ hE
theorem gt_f_X4_inheritsl2_L71 {Xc : zw_X} {Q : Option Nat → zw_H → Prop} {X : String → Nat → zw_H → Prop} (hl : (zw_l Xc).stackTraces = false) (ok : zw_ok Xc cX4_inherits "MultipoleLine$Line" yX4_inherits.name 9) (tab : zw_tab Xc []) (fin : zw_fin Xc (Option.some (Jvm.ClassFile.FieldType.array Jvm.ClassFile.FieldType.double)) (zq_A Q) X 3 26) (hRm : zw_rm Xc = rm_X4_inheritsl2) {kc ks : Nat} (hb : kc ≤ 3 ∧ ks ≤ 26) {l0 : Option Nat} {l2 : Option Nat} {l4 : Option Nat} {l5 : UInt64} {l7 : Int32} {k119 : zw_H → Prop} (hk119 : ∀  (h : zw_H), k119  h → zw_G Xc kc ks 9 h 119 [(0, va_rf l0), (2, va_rf l2), (4, va_rf l4), (5, .double l5), (7, .int l7)] [])  : ∀ (n9 : Nat) (l8 : Int32) (h : zw_H), zl2 (f_X4_inheritsl2_B71 (zw_Zf Xc).2.2.2 Q X k119 l0 l2 l4 l5 l7) n9 l8 h → zw_G Xc kc ks 9 h 71 [(0, va_rf l0), (2, va_rf l2), (4, va_rf l4), (5, .double l5), (7, .int l7), (8, .int l8)] [] := by
  intro n9
  induction n9 with
  | zero => intro l8 h hE; exact hE.elim
  | succ n9 ih => intro l8 h hE; exact gt_f_X4_inheritsl2_B71 hl ok tab fin hRm hb ih hk119 hE
set_option maxHeartbeats 8000000 in
theorem gt_f_X4_inheritsl2_B58 {Xc : zw_X} {Q : Option Nat → zw_H → Prop} {X : String → Nat → zw_H → Prop} (hl : (zw_l Xc).stackTraces = false) (ok : zw_ok Xc cX4_inherits "MultipoleLine$Line" yX4_inherits.name 9) (tab : zw_tab Xc []) (fin : zw_fin Xc (Option.some (Jvm.ClassFile.FieldType.array Jvm.ClassFile.FieldType.double)) (zq_A Q) X 3 26) (hRm : zw_rm Xc = rm_X4_inheritsl2) {kc ks : Nat} (hb : kc ≤ 3 ∧ ks ≤ 26) {R : Int32 → zw_H → Prop} {l0 : Option Nat} {l2 : Option Nat} {l4 : Option Nat} {l5 : UInt64} (hR : ∀ (l7 : Int32) (h : zw_H), R l7 h → zw_G Xc kc ks 9 h 58 [(0, va_rf l0), (2, va_rf l2), (4, va_rf l4), (5, .double l5), (7, .int l7)] []) {k125 : zw_H → Prop} (hk125 : ∀  (h : zw_H), k125  h → zw_G Xc kc ks 9 h 125 [(2, va_rf l2)] [])  {l7 : Int32} {h : zw_H} (hE : f_X4_inheritsl2_B58 (zw_Zf Xc).2.2.2 Q X k125 l0 l2 l4 l5 R l7 h) : zw_G Xc kc ks 9 h 58 [(0, va_rf l0), (2, va_rf l2), (4, va_rf l4), (5, .double l5), (7, .int l7)] [] := by
  unfold f_X4_inheritsl2_B58 at hE
  refine zg_iload ok dX4_inherits_58 4 rfl ?_
  refine zg_aload_n ok dX4_inherits_60 rfl 0 rfl ?_
  refine zg_getI ok lf_X4_61 dX4_inherits_61 hE (fun v11 hE => ?_)
  refine zg_icmp_gt (tgt := 125) ok dX4_inherits_64 (by decide) hE (fun hE => ?_) (fun hE => ?_)
  · refine zg_sub (L' := [(2, va_rf l2)]) [1] rfl ?_
    exact hk125 _ hE
  · refine zg_iload ok dX4_inherits_67 4 rfl ?_
    refine zg_istore (L' := [(8, .int l7), (0, va_rf l0), (2, va_rf l2), (4, va_rf l4), (5, .double l5), (7, .int l7)]) ok dX4_inherits_69 (by decide) rfl ?_
    refine zg_sub (L' := [(0, va_rf l0), (2, va_rf l2), (4, va_rf l4), (5, .double l5), (7, .int l7), (8, .int l7)]) [1, 2, 3, 4, 5, 0] rfl ?_
    refine gt_f_X4_inheritsl2_L71 hl ok tab fin hRm ⟨(by omega), (by omega)⟩ ?_ _ _ _ hE
    · intro h7 hE
      refine zg_iincL (k := 4) (L' := fun v21 => [(7, .int v21), (0, va_rf l0), (2, va_rf l2), (4, va_rf l4), (5, .double l5)]) ok dX4_inherits_119 (by decide +kernel) hE rfl (by decide) (fun _ => rfl) (fun v21 hE => ?_)
      refine zg_goto (tgt := 58) ok dX4_inherits_122 (by decide) ?_
      refine zg_sub (L' := [(0, va_rf l0), (2, va_rf l2), (4, va_rf l4), (5, .double l5), (7, .int v21)]) [1, 2, 3, 4, 0] rfl ?_
      exact hR _ _ hE
theorem gt_f_X4_inheritsl2_L58 {Xc : zw_X} {Q : Option Nat → zw_H → Prop} {X : String → Nat → zw_H → Prop} (hl : (zw_l Xc).stackTraces = false) (ok : zw_ok Xc cX4_inherits "MultipoleLine$Line" yX4_inherits.name 9) (tab : zw_tab Xc []) (fin : zw_fin Xc (Option.some (Jvm.ClassFile.FieldType.array Jvm.ClassFile.FieldType.double)) (zq_A Q) X 3 26) (hRm : zw_rm Xc = rm_X4_inheritsl2) {kc ks : Nat} (hb : kc ≤ 3 ∧ ks ≤ 26) {l0 : Option Nat} {l2 : Option Nat} {l4 : Option Nat} {l5 : UInt64} {k125 : zw_H → Prop} (hk125 : ∀  (h : zw_H), k125  h → zw_G Xc kc ks 9 h 125 [(2, va_rf l2)] [])  : ∀ (n9 : Nat) (l7 : Int32) (h : zw_H), zl2 (f_X4_inheritsl2_B58 (zw_Zf Xc).2.2.2 Q X k125 l0 l2 l4 l5) n9 l7 h → zw_G Xc kc ks 9 h 58 [(0, va_rf l0), (2, va_rf l2), (4, va_rf l4), (5, .double l5), (7, .int l7)] [] := by
  intro n9
  induction n9 with
  | zero => intro l7 h hE; exact hE.elim
  | succ n9 ih => intro l7 h hE; exact gt_f_X4_inheritsl2_B58 hl ok tab fin hRm hb ih hk125 hE
set_option maxHeartbeats 8000000 in
theorem mt_X4_inheritsl2 {l : Launch} (hl : l.stackTraces = false) {Z : zw_Z} {a0 : Option Nat} {a1 : Option Nat} {h : zw_H} {Q : Option Nat → zw_H → Prop} {X : String → Nat → zw_H → Prop} (hE : f_X4_inheritsl2 Z.2.2.2 a0 a1 h Q X) : zw_Met l Z yX4_inherits (ws_ yX4_inherits cX4_inherits 9 (Option.some (Jvm.ClassFile.FieldType.array Jvm.ClassFile.FieldType.double))) rm_X4_inheritsl2 [zA a0, zA a1] h (zq_A Q) X := by
  refine zg_start (own := "MultipoleLine$Line") (by decide +kernel) rfl (Nat.le_of_ble_eq_true rfl) hl (fun Xc ok tab fin hRm hXl hXZ => ?_)
  subst hXl
  subst hXZ
  unfold f_X4_inheritsl2 at hE
  refine zg_aload_n ok dX4_inherits_0 rfl 0 rfl ?_
  refine zg_getI ok lf_X4_61 dX4_inherits_1 hE (fun v1 hE => ?_)
  refine zg_iconst (v := 1) ok dX4_inherits_4 (by decide) ?_
  refine zg_iadd ok dX4_inherits_5 ?_
  refine zg_newD (b := 5) ok (by rw [hRm]; exact ⟨Nat.le_of_ble_eq_true rfl, Nat.le_of_ble_eq_true rfl⟩) (Nat.le_of_ble_eq_true rfl) dX4_inherits_6 hE (fun v2 h1 hE => ?_)
  refine zg_cost (kc2 := 1) (ks2 := 5) ⟨rfl, rfl⟩ ?_
  refine zg_astore_nR (L' := [(2, va_rf (some v2)), (0, va_rf a0), (1, va_rf a1)]) ok dX4_inherits_8 rfl (by decide) 1 rfl rfl rfl ?_
  refine zg_aload_n ok dX4_inherits_9 rfl 2 rfl ?_
  refine zg_getI ok lf_X4_139 dX4_inherits_10 hE (fun v3 hE => ?_)
  refine zg_iconst (v := 2) ok dX4_inherits_13 (by decide) ?_
  refine zg_icmp_ne (tgt := 19) ok dX4_inherits_14 (by decide) hE (fun hE => ?_) (fun hE => ?_)
  · refine zg_aload_n ok dX4_inherits_19 rfl 1 rfl ?_
    refine zg_aload_n ok dX4_inherits_20 rfl 2 rfl ?_
    refine zg_getI ok lf_X4_139 dX4_inherits_21 hE (fun v4 hE => ?_)
    refine zg_iconst (v := 1) ok dX4_inherits_24 (by decide) ?_
    refine zg_isub ok dX4_inherits_25 ?_
    refine zg_aload_n ok dX4_inherits_26 rfl 2 rfl ?_
    refine zg_getI ok lf_X4_119 dX4_inherits_27 hE (fun v5 hE => ?_)
    refine zg_iconst (v := 2) ok dX4_inherits_30 (by decide) ?_
    refine zg_idivE ok dX4_inherits_31 hE (fun hE => ?_)
    refine zg_callV (vs := [zI (v4 - 1), zI (v5 / 2)]) (rest := []) (rm := rm_X4_box) ok hRm lk_X4_142 dX4_inherits_32 hE (fun hE => mt_X4_box hl hE) rfl (Nat.le_of_ble_eq_true rfl) ⟨⟨Nat.le_of_ble_eq_true rfl, Nat.le_of_ble_eq_true rfl⟩, Nat.le_of_ble_eq_true rfl, Nat.le_of_ble_eq_true rfl⟩ (zg_retA (fun v6 h2 hE => ?_)) (zg_xok ok tab fin ⟨Nat.le_of_ble_eq_true rfl, Nat.le_of_ble_eq_true rfl⟩)
    refine zg_cost (kc2 := 1) (ks2 := 5) ⟨rfl, rfl⟩ ?_
    refine zg_astore_nR (L' := [(3, va_rf v6), (2, va_rf (some v2)), (0, va_rf a0), (1, va_rf a1)]) ok dX4_inherits_35 rfl (by decide) 0 rfl rfl rfl ?_
    refine zg_aload_n ok dX4_inherits_36 rfl 2 rfl ?_
    refine zg_aload_n ok dX4_inherits_37 rfl 0 rfl ?_
    refine zg_callV (vs := [zA v6]) (rest := []) (rm := rm_X4_locall3) ok hRm lk_X4_230 dX4_inherits_38 hE (fun hE => mt_X4_locall3 hl hE) rfl (Nat.le_of_ble_eq_true rfl) ⟨⟨Nat.le_of_ble_eq_true rfl, Nat.le_of_ble_eq_true rfl⟩, Nat.le_of_ble_eq_true rfl, Nat.le_of_ble_eq_true rfl⟩ (zg_retA (fun v7 h3 hE => ?_)) (zg_xok ok tab fin ⟨Nat.le_of_ble_eq_true rfl, Nat.le_of_ble_eq_true rfl⟩)
    refine zg_cost (kc2 := 3) (ks2 := 26) ⟨rfl, rfl⟩ ?_
    refine zg_astoreR (L' := [(4, va_rf v7), (3, va_rf v6), (2, va_rf (some v2)), (0, va_rf a0), (1, va_rf a1)]) ok dX4_inherits_41 (by decide) 0 rfl rfl rfl ?_
    refine zg_aload_n ok dX4_inherits_43 rfl 4 rfl ?_
    refine zg_getI ok lf_X4_125 dX4_inherits_44 hE (fun v8 hE => ?_)
    refine zg_aload_n ok dX4_inherits_47 rfl 1 rfl ?_
    refine zg_getI ok lf_X4_125 dX4_inherits_48 hE (fun v9 hE => ?_)
    refine zg_isub ok dX4_inherits_51 ?_
    refine zg_i2d ok dX4_inherits_52 ?_
    refine zg_letD hE (fun v10 hE => ?_)
    refine zg_dstoreR (L' := [(5, .double v10), (4, va_rf v7), (3, va_rf v6), (2, va_rf (some v2)), (0, va_rf a0), (1, va_rf a1)]) ok dX4_inherits_53 (by decide) 0 rfl rfl rfl ?_
    refine zg_iconst (v := 0) ok dX4_inherits_55 (by decide) ?_
    refine zg_istore (L' := [(7, .int 0), (5, .double v10), (4, va_rf v7), (3, va_rf v6), (2, va_rf (some v2)), (0, va_rf a0), (1, va_rf a1)]) ok dX4_inherits_56 (by decide) rfl ?_
    refine zg_sub (L' := [(0, va_rf a0), (2, va_rf (some v2)), (4, va_rf v7), (5, .double v10), (7, .int 0)]) [5, 4, 2, 1, 0] rfl ?_
    refine gt_f_X4_inheritsl2_L58 hl ok tab fin hRm ⟨Nat.le_of_ble_eq_true rfl, Nat.le_of_ble_eq_true rfl⟩ ?_ _ _ _ hE
    · intro h8 hE
      refine zg_aload_n ok dX4_inherits_125 rfl 0 rfl ?_
      exact zg_aret ok fin (Or.inr ⟨_, rfl⟩) dX4_inherits_126 ⟨Nat.le_of_ble_eq_true rfl, Nat.le_of_ble_eq_true rfl⟩ hE
  · refine zg_aload_n ok dX4_inherits_17 rfl 0 rfl ?_
    exact zg_aret ok fin (Or.inr ⟨_, rfl⟩) dX4_inherits_18 ⟨Nat.le_of_ble_eq_true rfl, Nat.le_of_ble_eq_true rfl⟩ hE
set_option maxHeartbeats 8000000 in
theorem gt_f_X4_locall2_J154 {Xc : zw_X} {Q : Option Nat → zw_H → Prop} {X : String → Nat → zw_H → Prop} (hl : (zw_l Xc).stackTraces = false) (ok : zw_ok Xc cX4_local "MultipoleLine$Line" yX4_local.name 11) (tab : zw_tab Xc []) (fin : zw_fin Xc (Option.some (Jvm.ClassFile.FieldType.array Jvm.ClassFile.FieldType.double)) (zq_A Q) X 4 42) (hRm : zw_rm Xc = rm_X4_locall2) {kc ks : Nat} (hb : kc ≤ 4 ∧ ks ≤ 42) {R : Int32 → zw_H → Prop} {l0 : Option Nat} {l1 : Option Nat} {l2 : Option Nat} {l3 : Option Nat} {l4 : Int32} (hR : ∀ (l5 : Int32) (h : zw_H), R l5 h → zw_G Xc kc ks 11 h 29 [(0, va_rf l0), (1, va_rf l1), (2, va_rf l2), (3, va_rf l3), (4, .int l4), (5, .int l5)] []) {k160 : zw_H → Prop} (hk160 : ∀  (h : zw_H), k160  h → zw_G Xc kc ks 11 h 160 [(2, va_rf l2)] [])  {l5 : Int32}  {h : zw_H} (hE : f_X4_locall2_J154 (zw_Zf Xc).2.2.2 Q X R k160 l0 l1 l2 l3 l4 l5 h) : zw_G Xc kc ks 11 h 154 [(0, va_rf l0), (1, va_rf l1), (2, va_rf l2), (3, va_rf l3), (4, .int l4), (5, .int l5)] [] := by
  unfold f_X4_locall2_J154 at hE
  refine zg_iincL (k := 5) (L' := fun v10 => [(5, .int v10), (0, va_rf l0), (1, va_rf l1), (2, va_rf l2), (3, va_rf l3), (4, .int l4)]) ok dX4_local_154 (by decide +kernel) hE rfl (by decide) (fun _ => rfl) (fun v10 hE => ?_)
  refine zg_goto (tgt := 29) ok dX4_local_157 (by decide) ?_
  refine zg_sub (L' := [(0, va_rf l0), (1, va_rf l1), (2, va_rf l2), (3, va_rf l3), (4, .int l4), (5, .int v10)]) [1, 2, 3, 4, 5, 0] rfl ?_
  exact hR _ _ hE
set_option maxHeartbeats 8000000 in
theorem gt_f_X4_locall2_J148 {Xc : zw_X} {Q : Option Nat → zw_H → Prop} {X : String → Nat → zw_H → Prop} (hl : (zw_l Xc).stackTraces = false) (ok : zw_ok Xc cX4_local "MultipoleLine$Line" yX4_local.name 11) (tab : zw_tab Xc []) (fin : zw_fin Xc (Option.some (Jvm.ClassFile.FieldType.array Jvm.ClassFile.FieldType.double)) (zq_A Q) X 4 42) (hRm : zw_rm Xc = rm_X4_locall2) {kc ks : Nat} (hb : kc ≤ 4 ∧ ks ≤ 42) {R : Int32 → zw_H → Prop} {l0 : Option Nat} {l1 : Option Nat} {l2 : Option Nat} {l3 : Option Nat} {l4 : Int32} {l5 : Int32} {l6 : Option Nat} {l7 : Int32} (hR : ∀ (l8 : Int32) (h : zw_H), R l8 h → zw_G Xc kc ks 11 h 81 [(0, va_rf l0), (1, va_rf l1), (2, va_rf l2), (3, va_rf l3), (4, .int l4), (5, .int l5), (6, va_rf l6), (7, .int l7), (8, .int l8)] []) {k154 : zw_H → Prop} (hk154 : ∀  (h : zw_H), k154  h → zw_G Xc kc ks 11 h 154 [(0, va_rf l0), (1, va_rf l1), (2, va_rf l2), (3, va_rf l3), (4, .int l4), (5, .int l5)] [])  {l8 : Int32}  {h : zw_H} (hE : f_X4_locall2_J148 (zw_Zf Xc).2.2.2 Q X R k154 l0 l1 l2 l3 l4 l5 l6 l7 l8 h) : zw_G Xc kc ks 11 h 148 [(0, va_rf l0), (1, va_rf l1), (2, va_rf l2), (3, va_rf l3), (4, .int l4), (5, .int l5), (6, va_rf l6), (7, .int l7), (8, .int l8)] [] := by
  unfold f_X4_locall2_J148 at hE
  refine zg_iincL (k := 8) (L' := fun v19 => [(8, .int v19), (0, va_rf l0), (1, va_rf l1), (2, va_rf l2), (3, va_rf l3), (4, .int l4), (5, .int l5), (6, va_rf l6), (7, .int l7)]) ok dX4_local_148 (by decide +kernel) hE rfl (by decide) (fun _ => rfl) (fun v19 hE => ?_)
  refine zg_goto (tgt := 81) ok dX4_local_151 (by decide) ?_
  refine zg_sub (L' := [(0, va_rf l0), (1, va_rf l1), (2, va_rf l2), (3, va_rf l3), (4, .int l4), (5, .int l5), (6, va_rf l6), (7, .int l7), (8, .int v19)]) [1, 2, 3, 4, 5, 6, 7, 8, 0] rfl ?_
  exact hR _ _ hE
set_option maxHeartbeats 8000000 in
theorem gt_f_X4_locall2_J124 {Xc : zw_X} {Q : Option Nat → zw_H → Prop} {X : String → Nat → zw_H → Prop} (hl : (zw_l Xc).stackTraces = false) (ok : zw_ok Xc cX4_local "MultipoleLine$Line" yX4_local.name 11) (tab : zw_tab Xc []) (fin : zw_fin Xc (Option.some (Jvm.ClassFile.FieldType.array Jvm.ClassFile.FieldType.double)) (zq_A Q) X 4 42) (hRm : zw_rm Xc = rm_X4_locall2) {kc ks : Nat} (hb : kc ≤ 4 ∧ ks ≤ 42) {R : Int32 → zw_H → Prop} {l0 : Option Nat} {l1 : Option Nat} {l2 : Option Nat} {l3 : Option Nat} {l4 : Int32} {l5 : Int32} {l6 : Option Nat} {l7 : Int32} (hR : ∀ (l8 : Int32) (h : zw_H), R l8 h → zw_G Xc kc ks 11 h 81 [(0, va_rf l0), (1, va_rf l1), (2, va_rf l2), (3, va_rf l3), (4, .int l4), (5, .int l5), (6, va_rf l6), (7, .int l7), (8, .int l8)] []) {k154 : zw_H → Prop} (hk154 : ∀  (h : zw_H), k154  h → zw_G Xc kc ks 11 h 154 [(0, va_rf l0), (1, va_rf l1), (2, va_rf l2), (3, va_rf l3), (4, .int l4), (5, .int l5)] [])  {l8 : Int32} {l9 : UInt64} {s0 : Int32} {s1 : Int32} {h : zw_H} (hE : f_X4_locall2_J124 (zw_Zf Xc).2.2.2 Q X R k154 l0 l1 l2 l3 l4 l5 l6 l7 l8 l9 s0 s1 h) : zw_G Xc kc ks 11 h 124 [(0, va_rf l0), (1, va_rf l1), (2, va_rf l2), (3, va_rf l3), (4, .int l4), (5, .int l5), (6, va_rf l6), (7, .int l7), (8, .int l8), (9, .double l9)] [.int s0, .int s1] := by
  unfold f_X4_locall2_J124 at hE
  refine zg_icmp_ne (tgt := 139) ok dX4_local_124 (by decide) hE (fun hE => ?_) (fun hE => ?_)
  · refine zg_aload_n ok dX4_local_139 rfl 2 rfl ?_
    refine zg_iload ok dX4_local_140 8 rfl ?_
    refine zg_dup2_11 ok dX4_local_142 rfl (zw_rfc _) ?_
    refine zg_dald ok dX4_local_143 hE (fun v17 hE => ?_)
    refine zg_dload ok dX4_local_144 9 rfl ?_
    refine zg_daddE ok dX4_local_146 hE (fun hE => ?_)
    refine zg_letD hE (fun v18 hE => ?_)
    refine zg_dast ok dX4_local_147 hE (fun h6 hE => ?_)
    refine zg_sub (L' := [(0, va_rf l0), (1, va_rf l1), (2, va_rf l2), (3, va_rf l3), (4, .int l4), (5, .int l5), (6, va_rf l6), (7, .int l7), (8, .int l8)]) [0, 1, 2, 3, 4, 5, 6, 7, 8] rfl ?_
    exact gt_f_X4_locall2_J148 hl ok tab fin hRm hb hR hk154 hE
  · refine zg_aload_n ok dX4_local_127 rfl 2 rfl ?_
    refine zg_iload ok dX4_local_128 8 rfl ?_
    refine zg_dup2_11 ok dX4_local_130 rfl (zw_rfc _) ?_
    refine zg_dald ok dX4_local_131 hE (fun v20 hE => ?_)
    refine zg_dload ok dX4_local_132 9 rfl ?_
    refine zg_dsubE ok dX4_local_134 hE (fun hE => ?_)
    refine zg_letD hE (fun v21 hE => ?_)
    refine zg_dast ok dX4_local_135 hE (fun h7 hE => ?_)
    refine zg_goto (tgt := 148) ok dX4_local_136 (by decide) ?_
    refine zg_sub (L' := [(0, va_rf l0), (1, va_rf l1), (2, va_rf l2), (3, va_rf l3), (4, .int l4), (5, .int l5), (6, va_rf l6), (7, .int l7), (8, .int l8)]) [0, 1, 2, 3, 4, 5, 6, 7, 8] rfl ?_
    exact gt_f_X4_locall2_J148 hl ok tab fin hRm hb hR hk154 hE
set_option maxHeartbeats 8000000 in
theorem gt_f_X4_locall2_J112 {Xc : zw_X} {Q : Option Nat → zw_H → Prop} {X : String → Nat → zw_H → Prop} (hl : (zw_l Xc).stackTraces = false) (ok : zw_ok Xc cX4_local "MultipoleLine$Line" yX4_local.name 11) (tab : zw_tab Xc []) (fin : zw_fin Xc (Option.some (Jvm.ClassFile.FieldType.array Jvm.ClassFile.FieldType.double)) (zq_A Q) X 4 42) (hRm : zw_rm Xc = rm_X4_locall2) {kc ks : Nat} (hb : kc ≤ 4 ∧ ks ≤ 42) {R : Int32 → zw_H → Prop} {l0 : Option Nat} {l1 : Option Nat} {l2 : Option Nat} {l3 : Option Nat} {l4 : Int32} {l5 : Int32} {l6 : Option Nat} {l7 : Int32} (hR : ∀ (l8 : Int32) (h : zw_H), R l8 h → zw_G Xc kc ks 11 h 81 [(0, va_rf l0), (1, va_rf l1), (2, va_rf l2), (3, va_rf l3), (4, .int l4), (5, .int l5), (6, va_rf l6), (7, .int l7), (8, .int l8)] []) {k154 : zw_H → Prop} (hk154 : ∀  (h : zw_H), k154  h → zw_G Xc kc ks 11 h 154 [(0, va_rf l0), (1, va_rf l1), (2, va_rf l2), (3, va_rf l3), (4, .int l4), (5, .int l5)] [])  {l8 : Int32} {l9 : UInt64} {s0 : Int32} {h : zw_H} (hE : f_X4_locall2_J112 (zw_Zf Xc).2.2.2 Q X R k154 l0 l1 l2 l3 l4 l5 l6 l7 l8 l9 s0 h) : zw_G Xc kc ks 11 h 112 [(0, va_rf l0), (1, va_rf l1), (2, va_rf l2), (3, va_rf l3), (4, .int l4), (5, .int l5), (6, va_rf l6), (7, .int l7), (8, .int l8), (9, .double l9)] [.int s0] := by
  unfold f_X4_locall2_J112 at hE
  refine zg_iload ok dX4_local_112 8 rfl ?_
  refine zg_iconst (v := 2) ok dX4_local_114 (by decide) ?_
  refine zg_iremE ok dX4_local_115 hE (fun hE => ?_)
  refine zg_if_ne (tgt := 123) ok dX4_local_116 (by decide) hE (fun hE => ?_) (fun hE => ?_)
  · refine zg_iconst (v := 0) ok dX4_local_123 (by decide) ?_
    exact gt_f_X4_locall2_J124 hl ok tab fin hRm hb hR hk154 hE
  · refine zg_iconst (v := 1) ok dX4_local_119 (by decide) ?_
    refine zg_goto (tgt := 124) ok dX4_local_120 (by decide) ?_
    exact gt_f_X4_locall2_J124 hl ok tab fin hRm hb hR hk154 hE
set_option maxHeartbeats 8000000 in
theorem gt_f_X4_locall2_B81 {Xc : zw_X} {Q : Option Nat → zw_H → Prop} {X : String → Nat → zw_H → Prop} (hl : (zw_l Xc).stackTraces = false) (ok : zw_ok Xc cX4_local "MultipoleLine$Line" yX4_local.name 11) (tab : zw_tab Xc []) (fin : zw_fin Xc (Option.some (Jvm.ClassFile.FieldType.array Jvm.ClassFile.FieldType.double)) (zq_A Q) X 4 42) (hRm : zw_rm Xc = rm_X4_locall2) {kc ks : Nat} (hb : kc ≤ 4 ∧ ks ≤ 42) {R : Int32 → zw_H → Prop} {l0 : Option Nat} {l1 : Option Nat} {l2 : Option Nat} {l3 : Option Nat} {l4 : Int32} {l5 : Int32} {l6 : Option Nat} {l7 : Int32} (hR : ∀ (l8 : Int32) (h : zw_H), R l8 h → zw_G Xc kc ks 11 h 81 [(0, va_rf l0), (1, va_rf l1), (2, va_rf l2), (3, va_rf l3), (4, .int l4), (5, .int l5), (6, va_rf l6), (7, .int l7), (8, .int l8)] []) {k154 : zw_H → Prop} (hk154 : ∀  (h : zw_H), k154  h → zw_G Xc kc ks 11 h 154 [(0, va_rf l0), (1, va_rf l1), (2, va_rf l2), (3, va_rf l3), (4, .int l4), (5, .int l5)] [])  {l8 : Int32} {h : zw_H} (hE : f_X4_locall2_B81 (zw_Zf Xc).2.2.2 Q X k154 l0 l1 l2 l3 l4 l5 l6 l7 R l8 h) : zw_G Xc kc ks 11 h 81 [(0, va_rf l0), (1, va_rf l1), (2, va_rf l2), (3, va_rf l3), (4, .int l4), (5, .int l5), (6, va_rf l6), (7, .int l7), (8, .int l8)] [] := by
  unfold f_X4_locall2_B81 at hE
  refine zg_iload ok dX4_local_81 8 rfl ?_
  refine zg_aload_n ok dX4_local_83 rfl 0 rfl ?_
  refine zg_getI ok lf_X4_61 dX4_local_84 hE (fun v15 hE => ?_)
  refine zg_icmp_gt (tgt := 154) ok dX4_local_87 (by decide) hE (fun hE => ?_) (fun hE => ?_)
  · refine zg_sub (L' := [(0, va_rf l0), (1, va_rf l1), (2, va_rf l2), (3, va_rf l3), (4, .int l4), (5, .int l5)]) [0, 1, 2, 3, 4, 5] rfl ?_
    exact hk154 _ hE
  · refine zg_aload_n ok dX4_local_90 rfl 0 rfl ?_
    refine zg_aload ok dX4_local_91 6 rfl ?_
    refine zg_iload ok dX4_local_93 7 rfl ?_
    refine zg_iload ok dX4_local_95 8 rfl ?_
    refine zg_callV (vs := [zA l6, zI l7, zI l8]) (rest := []) (rm := rm_X4_part) ok hRm lk_X4_243 dX4_local_97 hE (fun hE => mt_X4_part hl hE) rfl (Nat.le_of_ble_eq_true rfl) ⟨⟨Nat.le_of_ble_eq_true rfl, Nat.le_of_ble_eq_true rfl⟩, (by show kc + 0 ≤ 4; omega), (by show ks + 0 ≤ 42; omega)⟩ (zg_retD (fun v16 h5 hE => ?_)) (zg_xok ok tab fin ⟨(by show kc + 0 ≤ 4; omega), (by show ks + 0 ≤ 42; omega)⟩)
    refine zg_cost (kc2 := kc) (ks2 := ks) ⟨(by show kc + 0 = kc; omega), (by show ks + 0 = ks; omega)⟩ ?_
    refine zg_dstore (L' := [(9, .double v16), (0, va_rf l0), (1, va_rf l1), (2, va_rf l2), (3, va_rf l3), (4, .int l4), (5, .int l5), (6, va_rf l6), (7, .int l7), (8, .int l8)]) ok dX4_local_100 (by decide) rfl ?_
    refine zg_iload ok dX4_local_102 8 rfl ?_
    refine zg_if_ge (tgt := 111) ok dX4_local_104 (by decide) hE (fun hE => ?_) (fun hE => ?_)
    · refine zg_iconst (v := 0) ok dX4_local_111 (by decide) ?_
      refine zg_sub (L' := [(0, va_rf l0), (1, va_rf l1), (2, va_rf l2), (3, va_rf l3), (4, .int l4), (5, .int l5), (6, va_rf l6), (7, .int l7), (8, .int l8), (9, .double v16)]) [1, 2, 3, 4, 5, 6, 7, 8, 9, 0] rfl ?_
      exact gt_f_X4_locall2_J112 hl ok tab fin hRm hb hR hk154 hE
    · refine zg_iconst (v := 1) ok dX4_local_107 (by decide) ?_
      refine zg_goto (tgt := 112) ok dX4_local_108 (by decide) ?_
      refine zg_sub (L' := [(0, va_rf l0), (1, va_rf l1), (2, va_rf l2), (3, va_rf l3), (4, .int l4), (5, .int l5), (6, va_rf l6), (7, .int l7), (8, .int l8), (9, .double v16)]) [1, 2, 3, 4, 5, 6, 7, 8, 9, 0] rfl ?_
      exact gt_f_X4_locall2_J112 hl ok tab fin hRm hb hR hk154 hE
theorem gt_f_X4_locall2_L81 {Xc : zw_X} {Q : Option Nat → zw_H → Prop} {X : String → Nat → zw_H → Prop} (hl : (zw_l Xc).stackTraces = false) (ok : zw_ok Xc cX4_local "MultipoleLine$Line" yX4_local.name 11) (tab : zw_tab Xc []) (fin : zw_fin Xc (Option.some (Jvm.ClassFile.FieldType.array Jvm.ClassFile.FieldType.double)) (zq_A Q) X 4 42) (hRm : zw_rm Xc = rm_X4_locall2) {kc ks : Nat} (hb : kc ≤ 4 ∧ ks ≤ 42) {l0 : Option Nat} {l1 : Option Nat} {l2 : Option Nat} {l3 : Option Nat} {l4 : Int32} {l5 : Int32} {l6 : Option Nat} {l7 : Int32} {k154 : zw_H → Prop} (hk154 : ∀  (h : zw_H), k154  h → zw_G Xc kc ks 11 h 154 [(0, va_rf l0), (1, va_rf l1), (2, va_rf l2), (3, va_rf l3), (4, .int l4), (5, .int l5)] [])  : ∀ (n9 : Nat) (l8 : Int32) (h : zw_H), zl2 (f_X4_locall2_B81 (zw_Zf Xc).2.2.2 Q X k154 l0 l1 l2 l3 l4 l5 l6 l7) n9 l8 h → zw_G Xc kc ks 11 h 81 [(0, va_rf l0), (1, va_rf l1), (2, va_rf l2), (3, va_rf l3), (4, .int l4), (5, .int l5), (6, va_rf l6), (7, .int l7), (8, .int l8)] [] := by
  intro n9
  induction n9 with
  | zero => intro l8 h hE; exact hE.elim
  | succ n9 ih => intro l8 h hE; exact gt_f_X4_locall2_B81 hl ok tab fin hRm hb ih hk154 hE
set_option maxHeartbeats 8000000 in
theorem gt_f_X4_locall2_B29 {Xc : zw_X} {Q : Option Nat → zw_H → Prop} {X : String → Nat → zw_H → Prop} (hl : (zw_l Xc).stackTraces = false) (ok : zw_ok Xc cX4_local "MultipoleLine$Line" yX4_local.name 11) (tab : zw_tab Xc []) (fin : zw_fin Xc (Option.some (Jvm.ClassFile.FieldType.array Jvm.ClassFile.FieldType.double)) (zq_A Q) X 4 42) (hRm : zw_rm Xc = rm_X4_locall2) {kc ks : Nat} (hb : kc ≤ 4 ∧ ks ≤ 42) {R : Int32 → zw_H → Prop} {l0 : Option Nat} {l1 : Option Nat} {l2 : Option Nat} {l3 : Option Nat} {l4 : Int32} (hR : ∀ (l5 : Int32) (h : zw_H), R l5 h → zw_G Xc kc ks 11 h 29 [(0, va_rf l0), (1, va_rf l1), (2, va_rf l2), (3, va_rf l3), (4, .int l4), (5, .int l5)] []) {k160 : zw_H → Prop} (hk160 : ∀  (h : zw_H), k160  h → zw_G Xc kc ks 11 h 160 [(2, va_rf l2)] [])  {l5 : Int32} {h : zw_H} (hE : f_X4_locall2_B29 (zw_Zf Xc).2.2.2 Q X k160 l0 l1 l2 l3 l4 R l5 h) : zw_G Xc kc ks 11 h 29 [(0, va_rf l0), (1, va_rf l1), (2, va_rf l2), (3, va_rf l3), (4, .int l4), (5, .int l5)] [] := by
  unfold f_X4_locall2_B29 at hE
  refine zg_iload ok dX4_local_29 5 rfl ?_
  refine zg_iload ok dX4_local_31 4 rfl ?_
  refine zg_icmp_ge (tgt := 160) ok dX4_local_33 (by decide) hE (fun hE => ?_) (fun hE => ?_)
  · refine zg_sub (L' := [(2, va_rf l2)]) [2] rfl ?_
    exact hk160 _ hE
  · refine zg_aload_n ok dX4_local_36 rfl 3 rfl ?_
    refine zg_iload ok dX4_local_37 5 rfl ?_
    refine zg_aaldB ok dX4_local_39 hE (fun v7 hE => ?_)
    refine zg_astore (L' := [(6, va_rf v7), (0, va_rf l0), (1, va_rf l1), (2, va_rf l2), (3, va_rf l3), (4, .int l4), (5, .int l5)]) ok dX4_local_40 (by decide) rfl ?_
    refine zg_aload ok dX4_local_42 0 rfl ?_
    refine zg_aload_n ok dX4_local_44 rfl 2 rfl ?_
    refine zg_getI ok lf_X4_119 dX4_local_45 hE (fun v8 hE => ?_)
    refine zg_callV (vs := [zI v8]) (rest := []) (rm := rm_X5_isFarFrom) ok hRm lk_X4_182 dX4_local_48 hE (fun hE => mt_X5_isFarFrom hl hE) rfl (Nat.le_of_ble_eq_true rfl) ⟨⟨Nat.le_of_ble_eq_true rfl, Nat.le_of_ble_eq_true rfl⟩, (by show kc + 0 ≤ 4; omega), (by show ks + 0 ≤ 42; omega)⟩ (zg_retI (fun v9 h3 hE => ?_)) (zg_xok ok tab fin ⟨(by show kc + 0 ≤ 4; omega), (by show ks + 0 ≤ 42; omega)⟩)
    refine zg_cost (kc2 := kc) (ks2 := ks) ⟨(by show kc + 0 = kc; omega), (by show ks + 0 = ks; omega)⟩ ?_
    refine zg_if_eq (tgt := 154) ok dX4_local_51 (by decide) hE (fun hE => ?_) (fun hE => ?_)
    · refine zg_sub (L' := [(0, va_rf l0), (1, va_rf l1), (2, va_rf l2), (3, va_rf l3), (4, .int l4), (5, .int l5)]) [1, 2, 3, 4, 5, 6] rfl ?_
      exact gt_f_X4_locall2_J154 hl ok tab fin hRm hb hR hk160 hE
    · refine zg_aload_n ok dX4_local_54 rfl 1 rfl ?_
      refine zg_aload ok dX4_local_55 0 rfl ?_
      refine zg_callV (vs := [zA v7]) (rest := []) (rm := rm_X4_bodiesIn) ok hRm lk_X4_185 dX4_local_57 hE (fun hE => mt_X4_bodiesIn hl hE) rfl (Nat.le_of_ble_eq_true rfl) ⟨⟨Nat.le_of_ble_eq_true rfl, Nat.le_of_ble_eq_true rfl⟩, (by show kc + 0 ≤ 4; omega), (by show ks + 0 ≤ 42; omega)⟩ (zg_retI (fun v11 h4 hE => ?_)) (zg_xok ok tab fin ⟨(by show kc + 0 ≤ 4; omega), (by show ks + 0 ≤ 42; omega)⟩)
      refine zg_cost (kc2 := kc) (ks2 := ks) ⟨(by show kc + 0 = kc; omega), (by show ks + 0 = ks; omega)⟩ ?_
      refine zg_if_ne (tgt := 66) ok dX4_local_60 (by decide) hE (fun hE => ?_) (fun hE => ?_)
      · refine zg_aload_n ok dX4_local_66 rfl 2 rfl ?_
        refine zg_getI ok lf_X4_125 dX4_local_67 hE (fun v12 hE => ?_)
        refine zg_aload ok dX4_local_70 0 rfl ?_
        refine zg_getI ok lf_X4_125 dX4_local_72 hE (fun v13 hE => ?_)
        refine zg_isub ok dX4_local_75 ?_
        refine zg_letI hE (fun v14 hE => ?_)
        refine zg_istoreR (L' := [(7, .int v14), (6, va_rf v7), (0, va_rf l0), (1, va_rf l1), (2, va_rf l2), (3, va_rf l3), (4, .int l4), (5, .int l5)]) ok dX4_local_76 (by decide) 0 rfl rfl rfl ?_
        refine zg_iconst (v := 0) ok dX4_local_78 (by decide) ?_
        refine zg_istore (L' := [(8, .int 0), (7, .int v14), (6, va_rf v7), (0, va_rf l0), (1, va_rf l1), (2, va_rf l2), (3, va_rf l3), (4, .int l4), (5, .int l5)]) ok dX4_local_79 (by decide) rfl ?_
        refine zg_sub (L' := [(0, va_rf l0), (1, va_rf l1), (2, va_rf l2), (3, va_rf l3), (4, .int l4), (5, .int l5), (6, va_rf v7), (7, .int v14), (8, .int 0)]) [3, 4, 5, 6, 7, 8, 2, 1, 0] rfl ?_
        refine gt_f_X4_locall2_L81 hl ok tab fin hRm ⟨(by omega), (by omega)⟩ ?_ _ _ _ hE
        · intro h8 hE
          exact gt_f_X4_locall2_J154 hl ok tab fin hRm hb hR hk160 hE
      · refine zg_goto (tgt := 154) ok dX4_local_63 (by decide) ?_
        refine zg_sub (L' := [(0, va_rf l0), (1, va_rf l1), (2, va_rf l2), (3, va_rf l3), (4, .int l4), (5, .int l5)]) [1, 2, 3, 4, 5, 6] rfl ?_
        exact gt_f_X4_locall2_J154 hl ok tab fin hRm hb hR hk160 hE
theorem gt_f_X4_locall2_L29 {Xc : zw_X} {Q : Option Nat → zw_H → Prop} {X : String → Nat → zw_H → Prop} (hl : (zw_l Xc).stackTraces = false) (ok : zw_ok Xc cX4_local "MultipoleLine$Line" yX4_local.name 11) (tab : zw_tab Xc []) (fin : zw_fin Xc (Option.some (Jvm.ClassFile.FieldType.array Jvm.ClassFile.FieldType.double)) (zq_A Q) X 4 42) (hRm : zw_rm Xc = rm_X4_locall2) {kc ks : Nat} (hb : kc ≤ 4 ∧ ks ≤ 42) {l0 : Option Nat} {l1 : Option Nat} {l2 : Option Nat} {l3 : Option Nat} {l4 : Int32} {k160 : zw_H → Prop} (hk160 : ∀  (h : zw_H), k160  h → zw_G Xc kc ks 11 h 160 [(2, va_rf l2)] [])  : ∀ (n9 : Nat) (l5 : Int32) (h : zw_H), zl2 (f_X4_locall2_B29 (zw_Zf Xc).2.2.2 Q X k160 l0 l1 l2 l3 l4) n9 l5 h → zw_G Xc kc ks 11 h 29 [(0, va_rf l0), (1, va_rf l1), (2, va_rf l2), (3, va_rf l3), (4, .int l4), (5, .int l5)] [] := by
  intro n9
  induction n9 with
  | zero => intro l5 h hE; exact hE.elim
  | succ n9 ih => intro l5 h hE; exact gt_f_X4_locall2_B29 hl ok tab fin hRm hb ih hk160 hE
set_option maxHeartbeats 8000000 in
theorem mt_X4_locall2 {l : Launch} (hl : l.stackTraces = false) {Z : zw_Z} {a0 : Option Nat} {a1 : Option Nat} {h : zw_H} {Q : Option Nat → zw_H → Prop} {X : String → Nat → zw_H → Prop} (hE : f_X4_locall2 Z.2.2.2 a0 a1 h Q X) : zw_Met l Z yX4_local (ws_ yX4_local cX4_local 11 (Option.some (Jvm.ClassFile.FieldType.array Jvm.ClassFile.FieldType.double))) rm_X4_locall2 [zA a0, zA a1] h (zq_A Q) X := by
  refine zg_start (own := "MultipoleLine$Line") (by decide +kernel) rfl (Nat.le_of_ble_eq_true rfl) hl (fun Xc ok tab fin hRm hXl hXZ => ?_)
  subst hXl
  subst hXZ
  unfold f_X4_locall2 at hE
  refine zg_aload_n ok dX4_local_0 rfl 0 rfl ?_
  refine zg_aload_n ok dX4_local_1 rfl 1 rfl ?_
  refine zg_callV (vs := [zA a1]) (rest := []) (rm := rm_X4_inheritsl2) ok hRm lk_X4_234 dX4_local_2 hE (fun hE => mt_X4_inheritsl2 hl hE) rfl (Nat.le_of_ble_eq_true rfl) ⟨⟨Nat.le_of_ble_eq_true rfl, Nat.le_of_ble_eq_true rfl⟩, Nat.le_of_ble_eq_true rfl, Nat.le_of_ble_eq_true rfl⟩ (zg_retA (fun v1 h1 hE => ?_)) (zg_xok ok tab fin ⟨Nat.le_of_ble_eq_true rfl, Nat.le_of_ble_eq_true rfl⟩)
  refine zg_cost (kc2 := 3) (ks2 := 26) ⟨rfl, rfl⟩ ?_
  refine zg_cloneD (b := 16) ok hRm q1893 ⟨⟨by decide, by decide⟩, Nat.le_of_ble_eq_true rfl, Nat.le_of_ble_eq_true rfl⟩ (Nat.le_of_ble_eq_true rfl) dX4_local_5 hE (fun v2 h2 hE => ?_)
  refine zg_cost (kc2 := 4) (ks2 := 42) ⟨rfl, rfl⟩ ?_
  refine zg_castA4 ok q1897 dX4_local_8 hE (fun hE => ?_)
  refine zg_astore_nR (L' := [(2, va_rf (some v2)), (0, va_rf a0), (1, va_rf a1)]) ok dX4_local_11 rfl (by decide) 1 rfl rfl rfl ?_
  refine zg_aload_n ok dX4_local_12 rfl 1 rfl ?_
  refine zg_getA ok lf_X4_20 dX4_local_13 hE (fun v3 hE => ?_)
  refine zg_aload_n ok dX4_local_16 rfl 2 rfl ?_
  refine zg_getI ok lf_X4_139 dX4_local_17 hE (fun v4 hE => ?_)
  refine zg_aaldBB ok dX4_local_20 hE (fun v5 hE => ?_)
  refine zg_astore_nR (L' := [(3, va_rf v5), (2, va_rf (some v2)), (0, va_rf a0), (1, va_rf a1)]) ok dX4_local_21 rfl (by decide) 0 rfl rfl rfl ?_
  refine zg_aload_n ok dX4_local_22 rfl 0 rfl ?_
  refine zg_alen ok dX4_local_23 hE (fun v6 hE => ?_)
  refine zg_istoreR (L' := [(4, .int v6), (3, va_rf v5), (2, va_rf (some v2)), (0, va_rf a0), (1, va_rf a1)]) ok dX4_local_24 (by decide) 0 rfl rfl rfl ?_
  refine zg_iconst (v := 0) ok dX4_local_26 (by decide) ?_
  refine zg_istore (L' := [(5, .int 0), (4, .int v6), (3, va_rf v5), (2, va_rf (some v2)), (0, va_rf a0), (1, va_rf a1)]) ok dX4_local_27 (by decide) rfl ?_
  refine zg_sub (L' := [(0, va_rf a0), (1, va_rf a1), (2, va_rf (some v2)), (3, va_rf v5), (4, .int v6), (5, .int 0)]) [4, 5, 3, 2, 1, 0] rfl ?_
  refine gt_f_X4_locall2_L29 hl ok tab fin hRm ⟨Nat.le_of_ble_eq_true rfl, Nat.le_of_ble_eq_true rfl⟩ ?_ _ _ _ hE
  · intro h9 hE
    refine zg_aload_n ok dX4_local_160 rfl 0 rfl ?_
    exact zg_aret ok fin (Or.inr ⟨_, rfl⟩) dX4_local_161 ⟨Nat.le_of_ble_eq_true rfl, Nat.le_of_ble_eq_true rfl⟩ hE
set_option maxHeartbeats 8000000 in
theorem gt_f_X4_inheritsl1_B71 {Xc : zw_X} {Q : Option Nat → zw_H → Prop} {X : String → Nat → zw_H → Prop} (hl : (zw_l Xc).stackTraces = false) (ok : zw_ok Xc cX4_inherits "MultipoleLine$Line" yX4_inherits.name 9) (tab : zw_tab Xc []) (fin : zw_fin Xc (Option.some (Jvm.ClassFile.FieldType.array Jvm.ClassFile.FieldType.double)) (zq_A Q) X 5 47) (hRm : zw_rm Xc = rm_X4_inheritsl1) {kc ks : Nat} (hb : kc ≤ 5 ∧ ks ≤ 47) {R : Int32 → zw_H → Prop} {l0 : Option Nat} {l2 : Option Nat} {l4 : Option Nat} {l5 : UInt64} {l7 : Int32} (hR : ∀ (l8 : Int32) (h : zw_H), R l8 h → zw_G Xc kc ks 9 h 71 [(0, va_rf l0), (2, va_rf l2), (4, va_rf l4), (5, .double l5), (7, .int l7), (8, .int l8)] []) {k119 : zw_H → Prop} (hk119 : ∀  (h : zw_H), k119  h → zw_G Xc kc ks 9 h 119 [(0, va_rf l0), (2, va_rf l2), (4, va_rf l4), (5, .double l5), (7, .int l7)] [])  {l8 : Int32} {h : zw_H} (hE : f_X4_inheritsl1_B71 (zw_Zf Xc).2.2.2 Q X k119 l0 l2 l4 l5 l7 R l8 h) : zw_G Xc kc ks 9 h 71 [(0, va_rf l0), (2, va_rf l2), (4, va_rf l4), (5, .double l5), (7, .int l7), (8, .int l8)] [] := by
  unfold f_X4_inheritsl1_B71 at hE
  refine zg_iload ok dX4_inherits_71 5 rfl ?_
  refine zg_aload_n ok dX4_inherits_73 rfl 0 rfl ?_
  refine zg_getI ok lf_X4_61 dX4_inherits_74 hE (fun v12 hE => ?_)
  refine zg_icmp_gt (tgt := 119) ok dX4_inherits_77 (by decide) hE (fun hE => ?_) (fun hE => ?_)
  · refine zg_sub (L' := [(0, va_rf l0), (2, va_rf l2), (4, va_rf l4), (5, .double l5), (7, .int l7)]) [0, 1, 2, 3, 4] rfl ?_
    exact hk119 _ hE
  · refine zg_aload_n ok dX4_inherits_80 rfl 1 rfl ?_
    refine zg_iload ok dX4_inherits_81 4 rfl ?_
    refine zg_dup2_11 ok dX4_inherits_83 rfl (zw_rfc _) ?_
    refine zg_dald ok dX4_inherits_84 hE (fun v13 hE => ?_)
    refine zg_iload ok dX4_inherits_85 5 rfl ?_
    refine zg_iload ok dX4_inherits_87 4 rfl ?_
    refine zg_callSN (vs := [zI l8, zI l7]) (rest := [.double v13, .int l7, va_rf l2]) (rm := rm_X1_choose) ok hRm lk_X4_132 dX4_inherits_89 hE (fun hE => mt_X1_choose hl hE) rfl (Nat.le_of_ble_eq_true rfl) ⟨⟨Nat.le_of_ble_eq_true rfl, Nat.le_of_ble_eq_true rfl⟩, (by show kc + 0 ≤ 5; omega), (by show ks + 0 ≤ 47; omega)⟩ (zg_retJ (fun v14 h4 hE => ?_)) (zg_xok ok tab fin ⟨(by show kc + 0 ≤ 5; omega), (by show ks + 0 ≤ 47; omega)⟩)
    refine zg_cost (kc2 := kc) (ks2 := ks) ⟨(by show kc + 0 = kc; omega), (by show ks + 0 = ks; omega)⟩ ?_
    refine zg_l2d ok dX4_inherits_92 ?_
    refine zg_aload ok dX4_inherits_93 2 rfl ?_
    refine zg_iload ok dX4_inherits_95 5 rfl ?_
    refine zg_dald ok dX4_inherits_97 hE (fun v15 hE => ?_)
    refine zg_dmulE ok dX4_inherits_98 hE (fun hE => ?_)
    refine zg_letD hE (fun v16 hE => ?_)
    refine zg_dconst1 ok dX4_inherits_99 ?_
    refine zg_dload ok dX4_inherits_100 3 rfl ?_
    refine zg_iload ok dX4_inherits_102 5 rfl ?_
    refine zg_iload ok dX4_inherits_104 4 rfl ?_
    refine zg_isub ok dX4_inherits_106 ?_
    refine zg_callSN (vs := [zD FP.dconst1, zD l5, zI (l8 - l7)]) (rest := [.double v16, .double v13, .int l7, va_rf l2]) (rm := rm_X1_power) ok hRm lk_X4_207 dX4_inherits_107 hE (fun hE => mt_X1_power hl hE) rfl (Nat.le_of_ble_eq_true rfl) ⟨⟨Nat.le_of_ble_eq_true rfl, Nat.le_of_ble_eq_true rfl⟩, (by show kc + 0 ≤ 5; omega), (by show ks + 0 ≤ 47; omega)⟩ (zg_retD (fun v17 h5 hE => ?_)) (zg_xok ok tab fin ⟨(by show kc + 0 ≤ 5; omega), (by show ks + 0 ≤ 47; omega)⟩)
    refine zg_cost (kc2 := kc) (ks2 := ks) ⟨(by show kc + 0 = kc; omega), (by show ks + 0 = ks; omega)⟩ ?_
    refine zg_dmulE ok dX4_inherits_110 hE (fun hE => ?_)
    refine zg_letD hE (fun v18 hE => ?_)
    refine zg_daddE ok dX4_inherits_111 hE (fun hE => ?_)
    refine zg_letD hE (fun v19 hE => ?_)
    refine zg_dast ok dX4_inherits_112 hE (fun h6 hE => ?_)
    refine zg_iincL (k := 5) (L' := fun v20 => [(8, .int v20), (0, va_rf l0), (2, va_rf l2), (4, va_rf l4), (5, .double l5), (7, .int l7)]) ok dX4_inherits_113 (by decide +kernel) hE rfl (by decide) (fun _ => rfl) (fun v20 hE => ?_)
    refine zg_goto (tgt := 71) ok dX4_inherits_116 (by decide) ?_
    refine zg_sub (L' := [(0, va_rf l0), (2, va_rf l2), (4, va_rf l4), (5, .double l5), (7, .int l7), (8, .int v20)]) [1, 2, 3, 4, 5, 0] rfl ?_
    exact hR _ _ hE
theorem gt_f_X4_inheritsl1_L71 {Xc : zw_X} {Q : Option Nat → zw_H → Prop} {X : String → Nat → zw_H → Prop} (hl : (zw_l Xc).stackTraces = false) (ok : zw_ok Xc cX4_inherits "MultipoleLine$Line" yX4_inherits.name 9) (tab : zw_tab Xc []) (fin : zw_fin Xc (Option.some (Jvm.ClassFile.FieldType.array Jvm.ClassFile.FieldType.double)) (zq_A Q) X 5 47) (hRm : zw_rm Xc = rm_X4_inheritsl1) {kc ks : Nat} (hb : kc ≤ 5 ∧ ks ≤ 47) {l0 : Option Nat} {l2 : Option Nat} {l4 : Option Nat} {l5 : UInt64} {l7 : Int32} {k119 : zw_H → Prop} (hk119 : ∀  (h : zw_H), k119  h → zw_G Xc kc ks 9 h 119 [(0, va_rf l0), (2, va_rf l2), (4, va_rf l4), (5, .double l5), (7, .int l7)] [])  : ∀ (n9 : Nat) (l8 : Int32) (h : zw_H), zl2 (f_X4_inheritsl1_B71 (zw_Zf Xc).2.2.2 Q X k119 l0 l2 l4 l5 l7) n9 l8 h → zw_G Xc kc ks 9 h 71 [(0, va_rf l0), (2, va_rf l2), (4, va_rf l4), (5, .double l5), (7, .int l7), (8, .int l8)] [] := by
  intro n9
  induction n9 with
  | zero => intro l8 h hE; exact hE.elim
  | succ n9 ih => intro l8 h hE; exact gt_f_X4_inheritsl1_B71 hl ok tab fin hRm hb ih hk119 hE
set_option maxHeartbeats 8000000 in
theorem gt_f_X4_inheritsl1_B58 {Xc : zw_X} {Q : Option Nat → zw_H → Prop} {X : String → Nat → zw_H → Prop} (hl : (zw_l Xc).stackTraces = false) (ok : zw_ok Xc cX4_inherits "MultipoleLine$Line" yX4_inherits.name 9) (tab : zw_tab Xc []) (fin : zw_fin Xc (Option.some (Jvm.ClassFile.FieldType.array Jvm.ClassFile.FieldType.double)) (zq_A Q) X 5 47) (hRm : zw_rm Xc = rm_X4_inheritsl1) {kc ks : Nat} (hb : kc ≤ 5 ∧ ks ≤ 47) {R : Int32 → zw_H → Prop} {l0 : Option Nat} {l2 : Option Nat} {l4 : Option Nat} {l5 : UInt64} (hR : ∀ (l7 : Int32) (h : zw_H), R l7 h → zw_G Xc kc ks 9 h 58 [(0, va_rf l0), (2, va_rf l2), (4, va_rf l4), (5, .double l5), (7, .int l7)] []) {k125 : zw_H → Prop} (hk125 : ∀  (h : zw_H), k125  h → zw_G Xc kc ks 9 h 125 [(2, va_rf l2)] [])  {l7 : Int32} {h : zw_H} (hE : f_X4_inheritsl1_B58 (zw_Zf Xc).2.2.2 Q X k125 l0 l2 l4 l5 R l7 h) : zw_G Xc kc ks 9 h 58 [(0, va_rf l0), (2, va_rf l2), (4, va_rf l4), (5, .double l5), (7, .int l7)] [] := by
  unfold f_X4_inheritsl1_B58 at hE
  refine zg_iload ok dX4_inherits_58 4 rfl ?_
  refine zg_aload_n ok dX4_inherits_60 rfl 0 rfl ?_
  refine zg_getI ok lf_X4_61 dX4_inherits_61 hE (fun v11 hE => ?_)
  refine zg_icmp_gt (tgt := 125) ok dX4_inherits_64 (by decide) hE (fun hE => ?_) (fun hE => ?_)
  · refine zg_sub (L' := [(2, va_rf l2)]) [1] rfl ?_
    exact hk125 _ hE
  · refine zg_iload ok dX4_inherits_67 4 rfl ?_
    refine zg_istore (L' := [(8, .int l7), (0, va_rf l0), (2, va_rf l2), (4, va_rf l4), (5, .double l5), (7, .int l7)]) ok dX4_inherits_69 (by decide) rfl ?_
    refine zg_sub (L' := [(0, va_rf l0), (2, va_rf l2), (4, va_rf l4), (5, .double l5), (7, .int l7), (8, .int l7)]) [1, 2, 3, 4, 5, 0] rfl ?_
    refine gt_f_X4_inheritsl1_L71 hl ok tab fin hRm ⟨(by omega), (by omega)⟩ ?_ _ _ _ hE
    · intro h7 hE
      refine zg_iincL (k := 4) (L' := fun v21 => [(7, .int v21), (0, va_rf l0), (2, va_rf l2), (4, va_rf l4), (5, .double l5)]) ok dX4_inherits_119 (by decide +kernel) hE rfl (by decide) (fun _ => rfl) (fun v21 hE => ?_)
      refine zg_goto (tgt := 58) ok dX4_inherits_122 (by decide) ?_
      refine zg_sub (L' := [(0, va_rf l0), (2, va_rf l2), (4, va_rf l4), (5, .double l5), (7, .int v21)]) [1, 2, 3, 4, 0] rfl ?_
      exact hR _ _ hE
theorem gt_f_X4_inheritsl1_L58 {Xc : zw_X} {Q : Option Nat → zw_H → Prop} {X : String → Nat → zw_H → Prop} (hl : (zw_l Xc).stackTraces = false) (ok : zw_ok Xc cX4_inherits "MultipoleLine$Line" yX4_inherits.name 9) (tab : zw_tab Xc []) (fin : zw_fin Xc (Option.some (Jvm.ClassFile.FieldType.array Jvm.ClassFile.FieldType.double)) (zq_A Q) X 5 47) (hRm : zw_rm Xc = rm_X4_inheritsl1) {kc ks : Nat} (hb : kc ≤ 5 ∧ ks ≤ 47) {l0 : Option Nat} {l2 : Option Nat} {l4 : Option Nat} {l5 : UInt64} {k125 : zw_H → Prop} (hk125 : ∀  (h : zw_H), k125  h → zw_G Xc kc ks 9 h 125 [(2, va_rf l2)] [])  : ∀ (n9 : Nat) (l7 : Int32) (h : zw_H), zl2 (f_X4_inheritsl1_B58 (zw_Zf Xc).2.2.2 Q X k125 l0 l2 l4 l5) n9 l7 h → zw_G Xc kc ks 9 h 58 [(0, va_rf l0), (2, va_rf l2), (4, va_rf l4), (5, .double l5), (7, .int l7)] [] := by
  intro n9
  induction n9 with
  | zero => intro l7 h hE; exact hE.elim
  | succ n9 ih => intro l7 h hE; exact gt_f_X4_inheritsl1_B58 hl ok tab fin hRm hb ih hk125 hE
set_option maxHeartbeats 8000000 in
theorem mt_X4_inheritsl1 {l : Launch} (hl : l.stackTraces = false) {Z : zw_Z} {a0 : Option Nat} {a1 : Option Nat} {h : zw_H} {Q : Option Nat → zw_H → Prop} {X : String → Nat → zw_H → Prop} (hE : f_X4_inheritsl1 Z.2.2.2 a0 a1 h Q X) : zw_Met l Z yX4_inherits (ws_ yX4_inherits cX4_inherits 9 (Option.some (Jvm.ClassFile.FieldType.array Jvm.ClassFile.FieldType.double))) rm_X4_inheritsl1 [zA a0, zA a1] h (zq_A Q) X := by
  refine zg_start (own := "MultipoleLine$Line") (by decide +kernel) rfl (Nat.le_of_ble_eq_true rfl) hl (fun Xc ok tab fin hRm hXl hXZ => ?_)
  subst hXl
  subst hXZ
  unfold f_X4_inheritsl1 at hE
  refine zg_aload_n ok dX4_inherits_0 rfl 0 rfl ?_
  refine zg_getI ok lf_X4_61 dX4_inherits_1 hE (fun v1 hE => ?_)
  refine zg_iconst (v := 1) ok dX4_inherits_4 (by decide) ?_
  refine zg_iadd ok dX4_inherits_5 ?_
  refine zg_newD (b := 5) ok (by rw [hRm]; exact ⟨Nat.le_of_ble_eq_true rfl, Nat.le_of_ble_eq_true rfl⟩) (Nat.le_of_ble_eq_true rfl) dX4_inherits_6 hE (fun v2 h1 hE => ?_)
  refine zg_cost (kc2 := 1) (ks2 := 5) ⟨rfl, rfl⟩ ?_
  refine zg_astore_nR (L' := [(2, va_rf (some v2)), (0, va_rf a0), (1, va_rf a1)]) ok dX4_inherits_8 rfl (by decide) 1 rfl rfl rfl ?_
  refine zg_aload_n ok dX4_inherits_9 rfl 2 rfl ?_
  refine zg_getI ok lf_X4_139 dX4_inherits_10 hE (fun v3 hE => ?_)
  refine zg_iconst (v := 2) ok dX4_inherits_13 (by decide) ?_
  refine zg_icmp_ne (tgt := 19) ok dX4_inherits_14 (by decide) hE (fun hE => ?_) (fun hE => ?_)
  · refine zg_aload_n ok dX4_inherits_19 rfl 1 rfl ?_
    refine zg_aload_n ok dX4_inherits_20 rfl 2 rfl ?_
    refine zg_getI ok lf_X4_139 dX4_inherits_21 hE (fun v4 hE => ?_)
    refine zg_iconst (v := 1) ok dX4_inherits_24 (by decide) ?_
    refine zg_isub ok dX4_inherits_25 ?_
    refine zg_aload_n ok dX4_inherits_26 rfl 2 rfl ?_
    refine zg_getI ok lf_X4_119 dX4_inherits_27 hE (fun v5 hE => ?_)
    refine zg_iconst (v := 2) ok dX4_inherits_30 (by decide) ?_
    refine zg_idivE ok dX4_inherits_31 hE (fun hE => ?_)
    refine zg_callV (vs := [zI (v4 - 1), zI (v5 / 2)]) (rest := []) (rm := rm_X4_box) ok hRm lk_X4_142 dX4_inherits_32 hE (fun hE => mt_X4_box hl hE) rfl (Nat.le_of_ble_eq_true rfl) ⟨⟨Nat.le_of_ble_eq_true rfl, Nat.le_of_ble_eq_true rfl⟩, Nat.le_of_ble_eq_true rfl, Nat.le_of_ble_eq_true rfl⟩ (zg_retA (fun v6 h2 hE => ?_)) (zg_xok ok tab fin ⟨Nat.le_of_ble_eq_true rfl, Nat.le_of_ble_eq_true rfl⟩)
    refine zg_cost (kc2 := 1) (ks2 := 5) ⟨rfl, rfl⟩ ?_
    refine zg_astore_nR (L' := [(3, va_rf v6), (2, va_rf (some v2)), (0, va_rf a0), (1, va_rf a1)]) ok dX4_inherits_35 rfl (by decide) 0 rfl rfl rfl ?_
    refine zg_aload_n ok dX4_inherits_36 rfl 2 rfl ?_
    refine zg_aload_n ok dX4_inherits_37 rfl 0 rfl ?_
    refine zg_callV (vs := [zA v6]) (rest := []) (rm := rm_X4_locall2) ok hRm lk_X4_230 dX4_inherits_38 hE (fun hE => mt_X4_locall2 hl hE) rfl (Nat.le_of_ble_eq_true rfl) ⟨⟨Nat.le_of_ble_eq_true rfl, Nat.le_of_ble_eq_true rfl⟩, Nat.le_of_ble_eq_true rfl, Nat.le_of_ble_eq_true rfl⟩ (zg_retA (fun v7 h3 hE => ?_)) (zg_xok ok tab fin ⟨Nat.le_of_ble_eq_true rfl, Nat.le_of_ble_eq_true rfl⟩)
    refine zg_cost (kc2 := 5) (ks2 := 47) ⟨rfl, rfl⟩ ?_
    refine zg_astoreR (L' := [(4, va_rf v7), (3, va_rf v6), (2, va_rf (some v2)), (0, va_rf a0), (1, va_rf a1)]) ok dX4_inherits_41 (by decide) 0 rfl rfl rfl ?_
    refine zg_aload_n ok dX4_inherits_43 rfl 4 rfl ?_
    refine zg_getI ok lf_X4_125 dX4_inherits_44 hE (fun v8 hE => ?_)
    refine zg_aload_n ok dX4_inherits_47 rfl 1 rfl ?_
    refine zg_getI ok lf_X4_125 dX4_inherits_48 hE (fun v9 hE => ?_)
    refine zg_isub ok dX4_inherits_51 ?_
    refine zg_i2d ok dX4_inherits_52 ?_
    refine zg_letD hE (fun v10 hE => ?_)
    refine zg_dstoreR (L' := [(5, .double v10), (4, va_rf v7), (3, va_rf v6), (2, va_rf (some v2)), (0, va_rf a0), (1, va_rf a1)]) ok dX4_inherits_53 (by decide) 0 rfl rfl rfl ?_
    refine zg_iconst (v := 0) ok dX4_inherits_55 (by decide) ?_
    refine zg_istore (L' := [(7, .int 0), (5, .double v10), (4, va_rf v7), (3, va_rf v6), (2, va_rf (some v2)), (0, va_rf a0), (1, va_rf a1)]) ok dX4_inherits_56 (by decide) rfl ?_
    refine zg_sub (L' := [(0, va_rf a0), (2, va_rf (some v2)), (4, va_rf v7), (5, .double v10), (7, .int 0)]) [5, 4, 2, 1, 0] rfl ?_
    refine gt_f_X4_inheritsl1_L58 hl ok tab fin hRm ⟨Nat.le_of_ble_eq_true rfl, Nat.le_of_ble_eq_true rfl⟩ ?_ _ _ _ hE
    · intro h8 hE
      refine zg_aload_n ok dX4_inherits_125 rfl 0 rfl ?_
      exact zg_aret ok fin (Or.inr ⟨_, rfl⟩) dX4_inherits_126 ⟨Nat.le_of_ble_eq_true rfl, Nat.le_of_ble_eq_true rfl⟩ hE
  · refine zg_aload_n ok dX4_inherits_17 rfl 0 rfl ?_
    exact zg_aret ok fin (Or.inr ⟨_, rfl⟩) dX4_inherits_18 ⟨Nat.le_of_ble_eq_true rfl, Nat.le_of_ble_eq_true rfl⟩ hE
set_option maxHeartbeats 8000000 in
theorem gt_f_X4_locall1_J154 {Xc : zw_X} {Q : Option Nat → zw_H → Prop} {X : String → Nat → zw_H → Prop} (hl : (zw_l Xc).stackTraces = false) (ok : zw_ok Xc cX4_local "MultipoleLine$Line" yX4_local.name 11) (tab : zw_tab Xc []) (fin : zw_fin Xc (Option.some (Jvm.ClassFile.FieldType.array Jvm.ClassFile.FieldType.double)) (zq_A Q) X 6 63) (hRm : zw_rm Xc = rm_X4_locall1) {kc ks : Nat} (hb : kc ≤ 6 ∧ ks ≤ 63) {R : Int32 → zw_H → Prop} {l0 : Option Nat} {l1 : Option Nat} {l2 : Option Nat} {l3 : Option Nat} {l4 : Int32} (hR : ∀ (l5 : Int32) (h : zw_H), R l5 h → zw_G Xc kc ks 11 h 29 [(0, va_rf l0), (1, va_rf l1), (2, va_rf l2), (3, va_rf l3), (4, .int l4), (5, .int l5)] []) {k160 : zw_H → Prop} (hk160 : ∀  (h : zw_H), k160  h → zw_G Xc kc ks 11 h 160 [(2, va_rf l2)] [])  {l5 : Int32}  {h : zw_H} (hE : f_X4_locall1_J154 (zw_Zf Xc).2.2.2 Q X R k160 l0 l1 l2 l3 l4 l5 h) : zw_G Xc kc ks 11 h 154 [(0, va_rf l0), (1, va_rf l1), (2, va_rf l2), (3, va_rf l3), (4, .int l4), (5, .int l5)] [] := by
  unfold f_X4_locall1_J154 at hE
  refine zg_iincL (k := 5) (L' := fun v10 => [(5, .int v10), (0, va_rf l0), (1, va_rf l1), (2, va_rf l2), (3, va_rf l3), (4, .int l4)]) ok dX4_local_154 (by decide +kernel) hE rfl (by decide) (fun _ => rfl) (fun v10 hE => ?_)
  refine zg_goto (tgt := 29) ok dX4_local_157 (by decide) ?_
  refine zg_sub (L' := [(0, va_rf l0), (1, va_rf l1), (2, va_rf l2), (3, va_rf l3), (4, .int l4), (5, .int v10)]) [1, 2, 3, 4, 5, 0] rfl ?_
  exact hR _ _ hE
set_option maxHeartbeats 8000000 in
theorem gt_f_X4_locall1_J148 {Xc : zw_X} {Q : Option Nat → zw_H → Prop} {X : String → Nat → zw_H → Prop} (hl : (zw_l Xc).stackTraces = false) (ok : zw_ok Xc cX4_local "MultipoleLine$Line" yX4_local.name 11) (tab : zw_tab Xc []) (fin : zw_fin Xc (Option.some (Jvm.ClassFile.FieldType.array Jvm.ClassFile.FieldType.double)) (zq_A Q) X 6 63) (hRm : zw_rm Xc = rm_X4_locall1) {kc ks : Nat} (hb : kc ≤ 6 ∧ ks ≤ 63) {R : Int32 → zw_H → Prop} {l0 : Option Nat} {l1 : Option Nat} {l2 : Option Nat} {l3 : Option Nat} {l4 : Int32} {l5 : Int32} {l6 : Option Nat} {l7 : Int32} (hR : ∀ (l8 : Int32) (h : zw_H), R l8 h → zw_G Xc kc ks 11 h 81 [(0, va_rf l0), (1, va_rf l1), (2, va_rf l2), (3, va_rf l3), (4, .int l4), (5, .int l5), (6, va_rf l6), (7, .int l7), (8, .int l8)] []) {k154 : zw_H → Prop} (hk154 : ∀  (h : zw_H), k154  h → zw_G Xc kc ks 11 h 154 [(0, va_rf l0), (1, va_rf l1), (2, va_rf l2), (3, va_rf l3), (4, .int l4), (5, .int l5)] [])  {l8 : Int32}  {h : zw_H} (hE : f_X4_locall1_J148 (zw_Zf Xc).2.2.2 Q X R k154 l0 l1 l2 l3 l4 l5 l6 l7 l8 h) : zw_G Xc kc ks 11 h 148 [(0, va_rf l0), (1, va_rf l1), (2, va_rf l2), (3, va_rf l3), (4, .int l4), (5, .int l5), (6, va_rf l6), (7, .int l7), (8, .int l8)] [] := by
  unfold f_X4_locall1_J148 at hE
  refine zg_iincL (k := 8) (L' := fun v19 => [(8, .int v19), (0, va_rf l0), (1, va_rf l1), (2, va_rf l2), (3, va_rf l3), (4, .int l4), (5, .int l5), (6, va_rf l6), (7, .int l7)]) ok dX4_local_148 (by decide +kernel) hE rfl (by decide) (fun _ => rfl) (fun v19 hE => ?_)
  refine zg_goto (tgt := 81) ok dX4_local_151 (by decide) ?_
  refine zg_sub (L' := [(0, va_rf l0), (1, va_rf l1), (2, va_rf l2), (3, va_rf l3), (4, .int l4), (5, .int l5), (6, va_rf l6), (7, .int l7), (8, .int v19)]) [1, 2, 3, 4, 5, 6, 7, 8, 0] rfl ?_
  exact hR _ _ hE
set_option maxHeartbeats 8000000 in
theorem gt_f_X4_locall1_J124 {Xc : zw_X} {Q : Option Nat → zw_H → Prop} {X : String → Nat → zw_H → Prop} (hl : (zw_l Xc).stackTraces = false) (ok : zw_ok Xc cX4_local "MultipoleLine$Line" yX4_local.name 11) (tab : zw_tab Xc []) (fin : zw_fin Xc (Option.some (Jvm.ClassFile.FieldType.array Jvm.ClassFile.FieldType.double)) (zq_A Q) X 6 63) (hRm : zw_rm Xc = rm_X4_locall1) {kc ks : Nat} (hb : kc ≤ 6 ∧ ks ≤ 63) {R : Int32 → zw_H → Prop} {l0 : Option Nat} {l1 : Option Nat} {l2 : Option Nat} {l3 : Option Nat} {l4 : Int32} {l5 : Int32} {l6 : Option Nat} {l7 : Int32} (hR : ∀ (l8 : Int32) (h : zw_H), R l8 h → zw_G Xc kc ks 11 h 81 [(0, va_rf l0), (1, va_rf l1), (2, va_rf l2), (3, va_rf l3), (4, .int l4), (5, .int l5), (6, va_rf l6), (7, .int l7), (8, .int l8)] []) {k154 : zw_H → Prop} (hk154 : ∀  (h : zw_H), k154  h → zw_G Xc kc ks 11 h 154 [(0, va_rf l0), (1, va_rf l1), (2, va_rf l2), (3, va_rf l3), (4, .int l4), (5, .int l5)] [])  {l8 : Int32} {l9 : UInt64} {s0 : Int32} {s1 : Int32} {h : zw_H} (hE : f_X4_locall1_J124 (zw_Zf Xc).2.2.2 Q X R k154 l0 l1 l2 l3 l4 l5 l6 l7 l8 l9 s0 s1 h) : zw_G Xc kc ks 11 h 124 [(0, va_rf l0), (1, va_rf l1), (2, va_rf l2), (3, va_rf l3), (4, .int l4), (5, .int l5), (6, va_rf l6), (7, .int l7), (8, .int l8), (9, .double l9)] [.int s0, .int s1] := by
  unfold f_X4_locall1_J124 at hE
  refine zg_icmp_ne (tgt := 139) ok dX4_local_124 (by decide) hE (fun hE => ?_) (fun hE => ?_)
  · refine zg_aload_n ok dX4_local_139 rfl 2 rfl ?_
    refine zg_iload ok dX4_local_140 8 rfl ?_
    refine zg_dup2_11 ok dX4_local_142 rfl (zw_rfc _) ?_
    refine zg_dald ok dX4_local_143 hE (fun v17 hE => ?_)
    refine zg_dload ok dX4_local_144 9 rfl ?_
    refine zg_daddE ok dX4_local_146 hE (fun hE => ?_)
    refine zg_letD hE (fun v18 hE => ?_)
    refine zg_dast ok dX4_local_147 hE (fun h6 hE => ?_)
    refine zg_sub (L' := [(0, va_rf l0), (1, va_rf l1), (2, va_rf l2), (3, va_rf l3), (4, .int l4), (5, .int l5), (6, va_rf l6), (7, .int l7), (8, .int l8)]) [0, 1, 2, 3, 4, 5, 6, 7, 8] rfl ?_
    exact gt_f_X4_locall1_J148 hl ok tab fin hRm hb hR hk154 hE
  · refine zg_aload_n ok dX4_local_127 rfl 2 rfl ?_
    refine zg_iload ok dX4_local_128 8 rfl ?_
    refine zg_dup2_11 ok dX4_local_130 rfl (zw_rfc _) ?_
    refine zg_dald ok dX4_local_131 hE (fun v20 hE => ?_)
    refine zg_dload ok dX4_local_132 9 rfl ?_
    refine zg_dsubE ok dX4_local_134 hE (fun hE => ?_)
    refine zg_letD hE (fun v21 hE => ?_)
    refine zg_dast ok dX4_local_135 hE (fun h7 hE => ?_)
    refine zg_goto (tgt := 148) ok dX4_local_136 (by decide) ?_
    refine zg_sub (L' := [(0, va_rf l0), (1, va_rf l1), (2, va_rf l2), (3, va_rf l3), (4, .int l4), (5, .int l5), (6, va_rf l6), (7, .int l7), (8, .int l8)]) [0, 1, 2, 3, 4, 5, 6, 7, 8] rfl ?_
    exact gt_f_X4_locall1_J148 hl ok tab fin hRm hb hR hk154 hE
set_option maxHeartbeats 8000000 in
theorem gt_f_X4_locall1_J112 {Xc : zw_X} {Q : Option Nat → zw_H → Prop} {X : String → Nat → zw_H → Prop} (hl : (zw_l Xc).stackTraces = false) (ok : zw_ok Xc cX4_local "MultipoleLine$Line" yX4_local.name 11) (tab : zw_tab Xc []) (fin : zw_fin Xc (Option.some (Jvm.ClassFile.FieldType.array Jvm.ClassFile.FieldType.double)) (zq_A Q) X 6 63) (hRm : zw_rm Xc = rm_X4_locall1) {kc ks : Nat} (hb : kc ≤ 6 ∧ ks ≤ 63) {R : Int32 → zw_H → Prop} {l0 : Option Nat} {l1 : Option Nat} {l2 : Option Nat} {l3 : Option Nat} {l4 : Int32} {l5 : Int32} {l6 : Option Nat} {l7 : Int32} (hR : ∀ (l8 : Int32) (h : zw_H), R l8 h → zw_G Xc kc ks 11 h 81 [(0, va_rf l0), (1, va_rf l1), (2, va_rf l2), (3, va_rf l3), (4, .int l4), (5, .int l5), (6, va_rf l6), (7, .int l7), (8, .int l8)] []) {k154 : zw_H → Prop} (hk154 : ∀  (h : zw_H), k154  h → zw_G Xc kc ks 11 h 154 [(0, va_rf l0), (1, va_rf l1), (2, va_rf l2), (3, va_rf l3), (4, .int l4), (5, .int l5)] [])  {l8 : Int32} {l9 : UInt64} {s0 : Int32} {h : zw_H} (hE : f_X4_locall1_J112 (zw_Zf Xc).2.2.2 Q X R k154 l0 l1 l2 l3 l4 l5 l6 l7 l8 l9 s0 h) : zw_G Xc kc ks 11 h 112 [(0, va_rf l0), (1, va_rf l1), (2, va_rf l2), (3, va_rf l3), (4, .int l4), (5, .int l5), (6, va_rf l6), (7, .int l7), (8, .int l8), (9, .double l9)] [.int s0] := by
  unfold f_X4_locall1_J112 at hE
  refine zg_iload ok dX4_local_112 8 rfl ?_
  refine zg_iconst (v := 2) ok dX4_local_114 (by decide) ?_
  refine zg_iremE ok dX4_local_115 hE (fun hE => ?_)
  refine zg_if_ne (tgt := 123) ok dX4_local_116 (by decide) hE (fun hE => ?_) (fun hE => ?_)
  · refine zg_iconst (v := 0) ok dX4_local_123 (by decide) ?_
    exact gt_f_X4_locall1_J124 hl ok tab fin hRm hb hR hk154 hE
  · refine zg_iconst (v := 1) ok dX4_local_119 (by decide) ?_
    refine zg_goto (tgt := 124) ok dX4_local_120 (by decide) ?_
    exact gt_f_X4_locall1_J124 hl ok tab fin hRm hb hR hk154 hE
set_option maxHeartbeats 8000000 in
theorem gt_f_X4_locall1_B81 {Xc : zw_X} {Q : Option Nat → zw_H → Prop} {X : String → Nat → zw_H → Prop} (hl : (zw_l Xc).stackTraces = false) (ok : zw_ok Xc cX4_local "MultipoleLine$Line" yX4_local.name 11) (tab : zw_tab Xc []) (fin : zw_fin Xc (Option.some (Jvm.ClassFile.FieldType.array Jvm.ClassFile.FieldType.double)) (zq_A Q) X 6 63) (hRm : zw_rm Xc = rm_X4_locall1) {kc ks : Nat} (hb : kc ≤ 6 ∧ ks ≤ 63) {R : Int32 → zw_H → Prop} {l0 : Option Nat} {l1 : Option Nat} {l2 : Option Nat} {l3 : Option Nat} {l4 : Int32} {l5 : Int32} {l6 : Option Nat} {l7 : Int32} (hR : ∀ (l8 : Int32) (h : zw_H), R l8 h → zw_G Xc kc ks 11 h 81 [(0, va_rf l0), (1, va_rf l1), (2, va_rf l2), (3, va_rf l3), (4, .int l4), (5, .int l5), (6, va_rf l6), (7, .int l7), (8, .int l8)] []) {k154 : zw_H → Prop} (hk154 : ∀  (h : zw_H), k154  h → zw_G Xc kc ks 11 h 154 [(0, va_rf l0), (1, va_rf l1), (2, va_rf l2), (3, va_rf l3), (4, .int l4), (5, .int l5)] [])  {l8 : Int32} {h : zw_H} (hE : f_X4_locall1_B81 (zw_Zf Xc).2.2.2 Q X k154 l0 l1 l2 l3 l4 l5 l6 l7 R l8 h) : zw_G Xc kc ks 11 h 81 [(0, va_rf l0), (1, va_rf l1), (2, va_rf l2), (3, va_rf l3), (4, .int l4), (5, .int l5), (6, va_rf l6), (7, .int l7), (8, .int l8)] [] := by
  unfold f_X4_locall1_B81 at hE
  refine zg_iload ok dX4_local_81 8 rfl ?_
  refine zg_aload_n ok dX4_local_83 rfl 0 rfl ?_
  refine zg_getI ok lf_X4_61 dX4_local_84 hE (fun v15 hE => ?_)
  refine zg_icmp_gt (tgt := 154) ok dX4_local_87 (by decide) hE (fun hE => ?_) (fun hE => ?_)
  · refine zg_sub (L' := [(0, va_rf l0), (1, va_rf l1), (2, va_rf l2), (3, va_rf l3), (4, .int l4), (5, .int l5)]) [0, 1, 2, 3, 4, 5] rfl ?_
    exact hk154 _ hE
  · refine zg_aload_n ok dX4_local_90 rfl 0 rfl ?_
    refine zg_aload ok dX4_local_91 6 rfl ?_
    refine zg_iload ok dX4_local_93 7 rfl ?_
    refine zg_iload ok dX4_local_95 8 rfl ?_
    refine zg_callV (vs := [zA l6, zI l7, zI l8]) (rest := []) (rm := rm_X4_part) ok hRm lk_X4_243 dX4_local_97 hE (fun hE => mt_X4_part hl hE) rfl (Nat.le_of_ble_eq_true rfl) ⟨⟨Nat.le_of_ble_eq_true rfl, Nat.le_of_ble_eq_true rfl⟩, (by show kc + 0 ≤ 6; omega), (by show ks + 0 ≤ 63; omega)⟩ (zg_retD (fun v16 h5 hE => ?_)) (zg_xok ok tab fin ⟨(by show kc + 0 ≤ 6; omega), (by show ks + 0 ≤ 63; omega)⟩)
    refine zg_cost (kc2 := kc) (ks2 := ks) ⟨(by show kc + 0 = kc; omega), (by show ks + 0 = ks; omega)⟩ ?_
    refine zg_dstore (L' := [(9, .double v16), (0, va_rf l0), (1, va_rf l1), (2, va_rf l2), (3, va_rf l3), (4, .int l4), (5, .int l5), (6, va_rf l6), (7, .int l7), (8, .int l8)]) ok dX4_local_100 (by decide) rfl ?_
    refine zg_iload ok dX4_local_102 8 rfl ?_
    refine zg_if_ge (tgt := 111) ok dX4_local_104 (by decide) hE (fun hE => ?_) (fun hE => ?_)
    · refine zg_iconst (v := 0) ok dX4_local_111 (by decide) ?_
      refine zg_sub (L' := [(0, va_rf l0), (1, va_rf l1), (2, va_rf l2), (3, va_rf l3), (4, .int l4), (5, .int l5), (6, va_rf l6), (7, .int l7), (8, .int l8), (9, .double v16)]) [1, 2, 3, 4, 5, 6, 7, 8, 9, 0] rfl ?_
      exact gt_f_X4_locall1_J112 hl ok tab fin hRm hb hR hk154 hE
    · refine zg_iconst (v := 1) ok dX4_local_107 (by decide) ?_
      refine zg_goto (tgt := 112) ok dX4_local_108 (by decide) ?_
      refine zg_sub (L' := [(0, va_rf l0), (1, va_rf l1), (2, va_rf l2), (3, va_rf l3), (4, .int l4), (5, .int l5), (6, va_rf l6), (7, .int l7), (8, .int l8), (9, .double v16)]) [1, 2, 3, 4, 5, 6, 7, 8, 9, 0] rfl ?_
      exact gt_f_X4_locall1_J112 hl ok tab fin hRm hb hR hk154 hE
theorem gt_f_X4_locall1_L81 {Xc : zw_X} {Q : Option Nat → zw_H → Prop} {X : String → Nat → zw_H → Prop} (hl : (zw_l Xc).stackTraces = false) (ok : zw_ok Xc cX4_local "MultipoleLine$Line" yX4_local.name 11) (tab : zw_tab Xc []) (fin : zw_fin Xc (Option.some (Jvm.ClassFile.FieldType.array Jvm.ClassFile.FieldType.double)) (zq_A Q) X 6 63) (hRm : zw_rm Xc = rm_X4_locall1) {kc ks : Nat} (hb : kc ≤ 6 ∧ ks ≤ 63) {l0 : Option Nat} {l1 : Option Nat} {l2 : Option Nat} {l3 : Option Nat} {l4 : Int32} {l5 : Int32} {l6 : Option Nat} {l7 : Int32} {k154 : zw_H → Prop} (hk154 : ∀  (h : zw_H), k154  h → zw_G Xc kc ks 11 h 154 [(0, va_rf l0), (1, va_rf l1), (2, va_rf l2), (3, va_rf l3), (4, .int l4), (5, .int l5)] [])  : ∀ (n9 : Nat) (l8 : Int32) (h : zw_H), zl2 (f_X4_locall1_B81 (zw_Zf Xc).2.2.2 Q X k154 l0 l1 l2 l3 l4 l5 l6 l7) n9 l8 h → zw_G Xc kc ks 11 h 81 [(0, va_rf l0), (1, va_rf l1), (2, va_rf l2), (3, va_rf l3), (4, .int l4), (5, .int l5), (6, va_rf l6), (7, .int l7), (8, .int l8)] [] := by
  intro n9
  induction n9 with
  | zero => intro l8 h hE; exact hE.elim
  | succ n9 ih => intro l8 h hE; exact gt_f_X4_locall1_B81 hl ok tab fin hRm hb ih hk154 hE
set_option maxHeartbeats 8000000 in
theorem gt_f_X4_locall1_B29 {Xc : zw_X} {Q : Option Nat → zw_H → Prop} {X : String → Nat → zw_H → Prop} (hl : (zw_l Xc).stackTraces = false) (ok : zw_ok Xc cX4_local "MultipoleLine$Line" yX4_local.name 11) (tab : zw_tab Xc []) (fin : zw_fin Xc (Option.some (Jvm.ClassFile.FieldType.array Jvm.ClassFile.FieldType.double)) (zq_A Q) X 6 63) (hRm : zw_rm Xc = rm_X4_locall1) {kc ks : Nat} (hb : kc ≤ 6 ∧ ks ≤ 63) {R : Int32 → zw_H → Prop} {l0 : Option Nat} {l1 : Option Nat} {l2 : Option Nat} {l3 : Option Nat} {l4 : Int32} (hR : ∀ (l5 : Int32) (h : zw_H), R l5 h → zw_G Xc kc ks 11 h 29 [(0, va_rf l0), (1, va_rf l1), (2, va_rf l2), (3, va_rf l3), (4, .int l4), (5, .int l5)] []) {k160 : zw_H → Prop} (hk160 : ∀  (h : zw_H), k160  h → zw_G Xc kc ks 11 h 160 [(2, va_rf l2)] [])  {l5 : Int32} {h : zw_H} (hE : f_X4_locall1_B29 (zw_Zf Xc).2.2.2 Q X k160 l0 l1 l2 l3 l4 R l5 h) : zw_G Xc kc ks 11 h 29 [(0, va_rf l0), (1, va_rf l1), (2, va_rf l2), (3, va_rf l3), (4, .int l4), (5, .int l5)] [] := by
  unfold f_X4_locall1_B29 at hE
  refine zg_iload ok dX4_local_29 5 rfl ?_
  refine zg_iload ok dX4_local_31 4 rfl ?_
  refine zg_icmp_ge (tgt := 160) ok dX4_local_33 (by decide) hE (fun hE => ?_) (fun hE => ?_)
  · refine zg_sub (L' := [(2, va_rf l2)]) [2] rfl ?_
    exact hk160 _ hE
  · refine zg_aload_n ok dX4_local_36 rfl 3 rfl ?_
    refine zg_iload ok dX4_local_37 5 rfl ?_
    refine zg_aaldB ok dX4_local_39 hE (fun v7 hE => ?_)
    refine zg_astore (L' := [(6, va_rf v7), (0, va_rf l0), (1, va_rf l1), (2, va_rf l2), (3, va_rf l3), (4, .int l4), (5, .int l5)]) ok dX4_local_40 (by decide) rfl ?_
    refine zg_aload ok dX4_local_42 0 rfl ?_
    refine zg_aload_n ok dX4_local_44 rfl 2 rfl ?_
    refine zg_getI ok lf_X4_119 dX4_local_45 hE (fun v8 hE => ?_)
    refine zg_callV (vs := [zI v8]) (rest := []) (rm := rm_X5_isFarFrom) ok hRm lk_X4_182 dX4_local_48 hE (fun hE => mt_X5_isFarFrom hl hE) rfl (Nat.le_of_ble_eq_true rfl) ⟨⟨Nat.le_of_ble_eq_true rfl, Nat.le_of_ble_eq_true rfl⟩, (by show kc + 0 ≤ 6; omega), (by show ks + 0 ≤ 63; omega)⟩ (zg_retI (fun v9 h3 hE => ?_)) (zg_xok ok tab fin ⟨(by show kc + 0 ≤ 6; omega), (by show ks + 0 ≤ 63; omega)⟩)
    refine zg_cost (kc2 := kc) (ks2 := ks) ⟨(by show kc + 0 = kc; omega), (by show ks + 0 = ks; omega)⟩ ?_
    refine zg_if_eq (tgt := 154) ok dX4_local_51 (by decide) hE (fun hE => ?_) (fun hE => ?_)
    · refine zg_sub (L' := [(0, va_rf l0), (1, va_rf l1), (2, va_rf l2), (3, va_rf l3), (4, .int l4), (5, .int l5)]) [1, 2, 3, 4, 5, 6] rfl ?_
      exact gt_f_X4_locall1_J154 hl ok tab fin hRm hb hR hk160 hE
    · refine zg_aload_n ok dX4_local_54 rfl 1 rfl ?_
      refine zg_aload ok dX4_local_55 0 rfl ?_
      refine zg_callV (vs := [zA v7]) (rest := []) (rm := rm_X4_bodiesIn) ok hRm lk_X4_185 dX4_local_57 hE (fun hE => mt_X4_bodiesIn hl hE) rfl (Nat.le_of_ble_eq_true rfl) ⟨⟨Nat.le_of_ble_eq_true rfl, Nat.le_of_ble_eq_true rfl⟩, (by show kc + 0 ≤ 6; omega), (by show ks + 0 ≤ 63; omega)⟩ (zg_retI (fun v11 h4 hE => ?_)) (zg_xok ok tab fin ⟨(by show kc + 0 ≤ 6; omega), (by show ks + 0 ≤ 63; omega)⟩)
      refine zg_cost (kc2 := kc) (ks2 := ks) ⟨(by show kc + 0 = kc; omega), (by show ks + 0 = ks; omega)⟩ ?_
      refine zg_if_ne (tgt := 66) ok dX4_local_60 (by decide) hE (fun hE => ?_) (fun hE => ?_)
      · refine zg_aload_n ok dX4_local_66 rfl 2 rfl ?_
        refine zg_getI ok lf_X4_125 dX4_local_67 hE (fun v12 hE => ?_)
        refine zg_aload ok dX4_local_70 0 rfl ?_
        refine zg_getI ok lf_X4_125 dX4_local_72 hE (fun v13 hE => ?_)
        refine zg_isub ok dX4_local_75 ?_
        refine zg_letI hE (fun v14 hE => ?_)
        refine zg_istoreR (L' := [(7, .int v14), (6, va_rf v7), (0, va_rf l0), (1, va_rf l1), (2, va_rf l2), (3, va_rf l3), (4, .int l4), (5, .int l5)]) ok dX4_local_76 (by decide) 0 rfl rfl rfl ?_
        refine zg_iconst (v := 0) ok dX4_local_78 (by decide) ?_
        refine zg_istore (L' := [(8, .int 0), (7, .int v14), (6, va_rf v7), (0, va_rf l0), (1, va_rf l1), (2, va_rf l2), (3, va_rf l3), (4, .int l4), (5, .int l5)]) ok dX4_local_79 (by decide) rfl ?_
        refine zg_sub (L' := [(0, va_rf l0), (1, va_rf l1), (2, va_rf l2), (3, va_rf l3), (4, .int l4), (5, .int l5), (6, va_rf v7), (7, .int v14), (8, .int 0)]) [3, 4, 5, 6, 7, 8, 2, 1, 0] rfl ?_
        refine gt_f_X4_locall1_L81 hl ok tab fin hRm ⟨(by omega), (by omega)⟩ ?_ _ _ _ hE
        · intro h8 hE
          exact gt_f_X4_locall1_J154 hl ok tab fin hRm hb hR hk160 hE
      · refine zg_goto (tgt := 154) ok dX4_local_63 (by decide) ?_
        refine zg_sub (L' := [(0, va_rf l0), (1, va_rf l1), (2, va_rf l2), (3, va_rf l3), (4, .int l4), (5, .int l5)]) [1, 2, 3, 4, 5, 6] rfl ?_
        exact gt_f_X4_locall1_J154 hl ok tab fin hRm hb hR hk160 hE
theorem gt_f_X4_locall1_L29 {Xc : zw_X} {Q : Option Nat → zw_H → Prop} {X : String → Nat → zw_H → Prop} (hl : (zw_l Xc).stackTraces = false) (ok : zw_ok Xc cX4_local "MultipoleLine$Line" yX4_local.name 11) (tab : zw_tab Xc []) (fin : zw_fin Xc (Option.some (Jvm.ClassFile.FieldType.array Jvm.ClassFile.FieldType.double)) (zq_A Q) X 6 63) (hRm : zw_rm Xc = rm_X4_locall1) {kc ks : Nat} (hb : kc ≤ 6 ∧ ks ≤ 63) {l0 : Option Nat} {l1 : Option Nat} {l2 : Option Nat} {l3 : Option Nat} {l4 : Int32} {k160 : zw_H → Prop} (hk160 : ∀  (h : zw_H), k160  h → zw_G Xc kc ks 11 h 160 [(2, va_rf l2)] [])  : ∀ (n9 : Nat) (l5 : Int32) (h : zw_H), zl2 (f_X4_locall1_B29 (zw_Zf Xc).2.2.2 Q X k160 l0 l1 l2 l3 l4) n9 l5 h → zw_G Xc kc ks 11 h 29 [(0, va_rf l0), (1, va_rf l1), (2, va_rf l2), (3, va_rf l3), (4, .int l4), (5, .int l5)] [] := by
  intro n9
  induction n9 with
  | zero => intro l5 h hE; exact hE.elim
  | succ n9 ih => intro l5 h hE; exact gt_f_X4_locall1_B29 hl ok tab fin hRm hb ih hk160 hE
set_option maxHeartbeats 8000000 in
theorem mt_X4_locall1 {l : Launch} (hl : l.stackTraces = false) {Z : zw_Z} {a0 : Option Nat} {a1 : Option Nat} {h : zw_H} {Q : Option Nat → zw_H → Prop} {X : String → Nat → zw_H → Prop} (hE : f_X4_locall1 Z.2.2.2 a0 a1 h Q X) : zw_Met l Z yX4_local (ws_ yX4_local cX4_local 11 (Option.some (Jvm.ClassFile.FieldType.array Jvm.ClassFile.FieldType.double))) rm_X4_locall1 [zA a0, zA a1] h (zq_A Q) X := by
  refine zg_start (own := "MultipoleLine$Line") (by decide +kernel) rfl (Nat.le_of_ble_eq_true rfl) hl (fun Xc ok tab fin hRm hXl hXZ => ?_)
  subst hXl
  subst hXZ
  unfold f_X4_locall1 at hE
  refine zg_aload_n ok dX4_local_0 rfl 0 rfl ?_
  refine zg_aload_n ok dX4_local_1 rfl 1 rfl ?_
  refine zg_callV (vs := [zA a1]) (rest := []) (rm := rm_X4_inheritsl1) ok hRm lk_X4_234 dX4_local_2 hE (fun hE => mt_X4_inheritsl1 hl hE) rfl (Nat.le_of_ble_eq_true rfl) ⟨⟨Nat.le_of_ble_eq_true rfl, Nat.le_of_ble_eq_true rfl⟩, Nat.le_of_ble_eq_true rfl, Nat.le_of_ble_eq_true rfl⟩ (zg_retA (fun v1 h1 hE => ?_)) (zg_xok ok tab fin ⟨Nat.le_of_ble_eq_true rfl, Nat.le_of_ble_eq_true rfl⟩)
  refine zg_cost (kc2 := 5) (ks2 := 47) ⟨rfl, rfl⟩ ?_
  refine zg_cloneD (b := 16) ok hRm q1893 ⟨⟨by decide, by decide⟩, Nat.le_of_ble_eq_true rfl, Nat.le_of_ble_eq_true rfl⟩ (Nat.le_of_ble_eq_true rfl) dX4_local_5 hE (fun v2 h2 hE => ?_)
  refine zg_cost (kc2 := 6) (ks2 := 63) ⟨rfl, rfl⟩ ?_
  refine zg_castA4 ok q1897 dX4_local_8 hE (fun hE => ?_)
  refine zg_astore_nR (L' := [(2, va_rf (some v2)), (0, va_rf a0), (1, va_rf a1)]) ok dX4_local_11 rfl (by decide) 1 rfl rfl rfl ?_
  refine zg_aload_n ok dX4_local_12 rfl 1 rfl ?_
  refine zg_getA ok lf_X4_20 dX4_local_13 hE (fun v3 hE => ?_)
  refine zg_aload_n ok dX4_local_16 rfl 2 rfl ?_
  refine zg_getI ok lf_X4_139 dX4_local_17 hE (fun v4 hE => ?_)
  refine zg_aaldBB ok dX4_local_20 hE (fun v5 hE => ?_)
  refine zg_astore_nR (L' := [(3, va_rf v5), (2, va_rf (some v2)), (0, va_rf a0), (1, va_rf a1)]) ok dX4_local_21 rfl (by decide) 0 rfl rfl rfl ?_
  refine zg_aload_n ok dX4_local_22 rfl 0 rfl ?_
  refine zg_alen ok dX4_local_23 hE (fun v6 hE => ?_)
  refine zg_istoreR (L' := [(4, .int v6), (3, va_rf v5), (2, va_rf (some v2)), (0, va_rf a0), (1, va_rf a1)]) ok dX4_local_24 (by decide) 0 rfl rfl rfl ?_
  refine zg_iconst (v := 0) ok dX4_local_26 (by decide) ?_
  refine zg_istore (L' := [(5, .int 0), (4, .int v6), (3, va_rf v5), (2, va_rf (some v2)), (0, va_rf a0), (1, va_rf a1)]) ok dX4_local_27 (by decide) rfl ?_
  refine zg_sub (L' := [(0, va_rf a0), (1, va_rf a1), (2, va_rf (some v2)), (3, va_rf v5), (4, .int v6), (5, .int 0)]) [4, 5, 3, 2, 1, 0] rfl ?_
  refine gt_f_X4_locall1_L29 hl ok tab fin hRm ⟨Nat.le_of_ble_eq_true rfl, Nat.le_of_ble_eq_true rfl⟩ ?_ _ _ _ hE
  · intro h9 hE
    refine zg_aload_n ok dX4_local_160 rfl 0 rfl ?_
    exact zg_aret ok fin (Or.inr ⟨_, rfl⟩) dX4_local_161 ⟨Nat.le_of_ble_eq_true rfl, Nat.le_of_ble_eq_true rfl⟩ hE
set_option maxHeartbeats 8000000 in
theorem gt_f_X4_inheritsl0_B71 {Xc : zw_X} {Q : Option Nat → zw_H → Prop} {X : String → Nat → zw_H → Prop} (hl : (zw_l Xc).stackTraces = false) (ok : zw_ok Xc cX4_inherits "MultipoleLine$Line" yX4_inherits.name 9) (tab : zw_tab Xc []) (fin : zw_fin Xc (Option.some (Jvm.ClassFile.FieldType.array Jvm.ClassFile.FieldType.double)) (zq_A Q) X 7 68) (hRm : zw_rm Xc = rm_X4_inheritsl0) {kc ks : Nat} (hb : kc ≤ 7 ∧ ks ≤ 68) {R : Int32 → zw_H → Prop} {l0 : Option Nat} {l2 : Option Nat} {l4 : Option Nat} {l5 : UInt64} {l7 : Int32} (hR : ∀ (l8 : Int32) (h : zw_H), R l8 h → zw_G Xc kc ks 9 h 71 [(0, va_rf l0), (2, va_rf l2), (4, va_rf l4), (5, .double l5), (7, .int l7), (8, .int l8)] []) {k119 : zw_H → Prop} (hk119 : ∀  (h : zw_H), k119  h → zw_G Xc kc ks 9 h 119 [(0, va_rf l0), (2, va_rf l2), (4, va_rf l4), (5, .double l5), (7, .int l7)] [])  {l8 : Int32} {h : zw_H} (hE : f_X4_inheritsl0_B71 (zw_Zf Xc).2.2.2 Q X k119 l0 l2 l4 l5 l7 R l8 h) : zw_G Xc kc ks 9 h 71 [(0, va_rf l0), (2, va_rf l2), (4, va_rf l4), (5, .double l5), (7, .int l7), (8, .int l8)] [] := by
  unfold f_X4_inheritsl0_B71 at hE
  refine zg_iload ok dX4_inherits_71 5 rfl ?_
  refine zg_aload_n ok dX4_inherits_73 rfl 0 rfl ?_
  refine zg_getI ok lf_X4_61 dX4_inherits_74 hE (fun v12 hE => ?_)
  refine zg_icmp_gt (tgt := 119) ok dX4_inherits_77 (by decide) hE (fun hE => ?_) (fun hE => ?_)
  · refine zg_sub (L' := [(0, va_rf l0), (2, va_rf l2), (4, va_rf l4), (5, .double l5), (7, .int l7)]) [0, 1, 2, 3, 4] rfl ?_
    exact hk119 _ hE
  · refine zg_aload_n ok dX4_inherits_80 rfl 1 rfl ?_
    refine zg_iload ok dX4_inherits_81 4 rfl ?_
    refine zg_dup2_11 ok dX4_inherits_83 rfl (zw_rfc _) ?_
    refine zg_dald ok dX4_inherits_84 hE (fun v13 hE => ?_)
    refine zg_iload ok dX4_inherits_85 5 rfl ?_
    refine zg_iload ok dX4_inherits_87 4 rfl ?_
    refine zg_callSN (vs := [zI l8, zI l7]) (rest := [.double v13, .int l7, va_rf l2]) (rm := rm_X1_choose) ok hRm lk_X4_132 dX4_inherits_89 hE (fun hE => mt_X1_choose hl hE) rfl (Nat.le_of_ble_eq_true rfl) ⟨⟨Nat.le_of_ble_eq_true rfl, Nat.le_of_ble_eq_true rfl⟩, (by show kc + 0 ≤ 7; omega), (by show ks + 0 ≤ 68; omega)⟩ (zg_retJ (fun v14 h4 hE => ?_)) (zg_xok ok tab fin ⟨(by show kc + 0 ≤ 7; omega), (by show ks + 0 ≤ 68; omega)⟩)
    refine zg_cost (kc2 := kc) (ks2 := ks) ⟨(by show kc + 0 = kc; omega), (by show ks + 0 = ks; omega)⟩ ?_
    refine zg_l2d ok dX4_inherits_92 ?_
    refine zg_aload ok dX4_inherits_93 2 rfl ?_
    refine zg_iload ok dX4_inherits_95 5 rfl ?_
    refine zg_dald ok dX4_inherits_97 hE (fun v15 hE => ?_)
    refine zg_dmulE ok dX4_inherits_98 hE (fun hE => ?_)
    refine zg_letD hE (fun v16 hE => ?_)
    refine zg_dconst1 ok dX4_inherits_99 ?_
    refine zg_dload ok dX4_inherits_100 3 rfl ?_
    refine zg_iload ok dX4_inherits_102 5 rfl ?_
    refine zg_iload ok dX4_inherits_104 4 rfl ?_
    refine zg_isub ok dX4_inherits_106 ?_
    refine zg_callSN (vs := [zD FP.dconst1, zD l5, zI (l8 - l7)]) (rest := [.double v16, .double v13, .int l7, va_rf l2]) (rm := rm_X1_power) ok hRm lk_X4_207 dX4_inherits_107 hE (fun hE => mt_X1_power hl hE) rfl (Nat.le_of_ble_eq_true rfl) ⟨⟨Nat.le_of_ble_eq_true rfl, Nat.le_of_ble_eq_true rfl⟩, (by show kc + 0 ≤ 7; omega), (by show ks + 0 ≤ 68; omega)⟩ (zg_retD (fun v17 h5 hE => ?_)) (zg_xok ok tab fin ⟨(by show kc + 0 ≤ 7; omega), (by show ks + 0 ≤ 68; omega)⟩)
    refine zg_cost (kc2 := kc) (ks2 := ks) ⟨(by show kc + 0 = kc; omega), (by show ks + 0 = ks; omega)⟩ ?_
    refine zg_dmulE ok dX4_inherits_110 hE (fun hE => ?_)
    refine zg_letD hE (fun v18 hE => ?_)
    refine zg_daddE ok dX4_inherits_111 hE (fun hE => ?_)
    refine zg_letD hE (fun v19 hE => ?_)
    refine zg_dast ok dX4_inherits_112 hE (fun h6 hE => ?_)
    refine zg_iincL (k := 5) (L' := fun v20 => [(8, .int v20), (0, va_rf l0), (2, va_rf l2), (4, va_rf l4), (5, .double l5), (7, .int l7)]) ok dX4_inherits_113 (by decide +kernel) hE rfl (by decide) (fun _ => rfl) (fun v20 hE => ?_)
    refine zg_goto (tgt := 71) ok dX4_inherits_116 (by decide) ?_
    refine zg_sub (L' := [(0, va_rf l0), (2, va_rf l2), (4, va_rf l4), (5, .double l5), (7, .int l7), (8, .int v20)]) [1, 2, 3, 4, 5, 0] rfl ?_
    exact hR _ _ hE
theorem gt_f_X4_inheritsl0_L71 {Xc : zw_X} {Q : Option Nat → zw_H → Prop} {X : String → Nat → zw_H → Prop} (hl : (zw_l Xc).stackTraces = false) (ok : zw_ok Xc cX4_inherits "MultipoleLine$Line" yX4_inherits.name 9) (tab : zw_tab Xc []) (fin : zw_fin Xc (Option.some (Jvm.ClassFile.FieldType.array Jvm.ClassFile.FieldType.double)) (zq_A Q) X 7 68) (hRm : zw_rm Xc = rm_X4_inheritsl0) {kc ks : Nat} (hb : kc ≤ 7 ∧ ks ≤ 68) {l0 : Option Nat} {l2 : Option Nat} {l4 : Option Nat} {l5 : UInt64} {l7 : Int32} {k119 : zw_H → Prop} (hk119 : ∀  (h : zw_H), k119  h → zw_G Xc kc ks 9 h 119 [(0, va_rf l0), (2, va_rf l2), (4, va_rf l4), (5, .double l5), (7, .int l7)] [])  : ∀ (n9 : Nat) (l8 : Int32) (h : zw_H), zl2 (f_X4_inheritsl0_B71 (zw_Zf Xc).2.2.2 Q X k119 l0 l2 l4 l5 l7) n9 l8 h → zw_G Xc kc ks 9 h 71 [(0, va_rf l0), (2, va_rf l2), (4, va_rf l4), (5, .double l5), (7, .int l7), (8, .int l8)] [] := by
  intro n9
  induction n9 with
  | zero => intro l8 h hE; exact hE.elim
  | succ n9 ih => intro l8 h hE; exact gt_f_X4_inheritsl0_B71 hl ok tab fin hRm hb ih hk119 hE
set_option maxHeartbeats 8000000 in
theorem gt_f_X4_inheritsl0_B58 {Xc : zw_X} {Q : Option Nat → zw_H → Prop} {X : String → Nat → zw_H → Prop} (hl : (zw_l Xc).stackTraces = false) (ok : zw_ok Xc cX4_inherits "MultipoleLine$Line" yX4_inherits.name 9) (tab : zw_tab Xc []) (fin : zw_fin Xc (Option.some (Jvm.ClassFile.FieldType.array Jvm.ClassFile.FieldType.double)) (zq_A Q) X 7 68) (hRm : zw_rm Xc = rm_X4_inheritsl0) {kc ks : Nat} (hb : kc ≤ 7 ∧ ks ≤ 68) {R : Int32 → zw_H → Prop} {l0 : Option Nat} {l2 : Option Nat} {l4 : Option Nat} {l5 : UInt64} (hR : ∀ (l7 : Int32) (h : zw_H), R l7 h → zw_G Xc kc ks 9 h 58 [(0, va_rf l0), (2, va_rf l2), (4, va_rf l4), (5, .double l5), (7, .int l7)] []) {k125 : zw_H → Prop} (hk125 : ∀  (h : zw_H), k125  h → zw_G Xc kc ks 9 h 125 [(2, va_rf l2)] [])  {l7 : Int32} {h : zw_H} (hE : f_X4_inheritsl0_B58 (zw_Zf Xc).2.2.2 Q X k125 l0 l2 l4 l5 R l7 h) : zw_G Xc kc ks 9 h 58 [(0, va_rf l0), (2, va_rf l2), (4, va_rf l4), (5, .double l5), (7, .int l7)] [] := by
  unfold f_X4_inheritsl0_B58 at hE
  refine zg_iload ok dX4_inherits_58 4 rfl ?_
  refine zg_aload_n ok dX4_inherits_60 rfl 0 rfl ?_
  refine zg_getI ok lf_X4_61 dX4_inherits_61 hE (fun v11 hE => ?_)
  refine zg_icmp_gt (tgt := 125) ok dX4_inherits_64 (by decide) hE (fun hE => ?_) (fun hE => ?_)
  · refine zg_sub (L' := [(2, va_rf l2)]) [1] rfl ?_
    exact hk125 _ hE
  · refine zg_iload ok dX4_inherits_67 4 rfl ?_
    refine zg_istore (L' := [(8, .int l7), (0, va_rf l0), (2, va_rf l2), (4, va_rf l4), (5, .double l5), (7, .int l7)]) ok dX4_inherits_69 (by decide) rfl ?_
    refine zg_sub (L' := [(0, va_rf l0), (2, va_rf l2), (4, va_rf l4), (5, .double l5), (7, .int l7), (8, .int l7)]) [1, 2, 3, 4, 5, 0] rfl ?_
    refine gt_f_X4_inheritsl0_L71 hl ok tab fin hRm ⟨(by omega), (by omega)⟩ ?_ _ _ _ hE
    · intro h7 hE
      refine zg_iincL (k := 4) (L' := fun v21 => [(7, .int v21), (0, va_rf l0), (2, va_rf l2), (4, va_rf l4), (5, .double l5)]) ok dX4_inherits_119 (by decide +kernel) hE rfl (by decide) (fun _ => rfl) (fun v21 hE => ?_)
      refine zg_goto (tgt := 58) ok dX4_inherits_122 (by decide) ?_
      refine zg_sub (L' := [(0, va_rf l0), (2, va_rf l2), (4, va_rf l4), (5, .double l5), (7, .int v21)]) [1, 2, 3, 4, 0] rfl ?_
      exact hR _ _ hE
theorem gt_f_X4_inheritsl0_L58 {Xc : zw_X} {Q : Option Nat → zw_H → Prop} {X : String → Nat → zw_H → Prop} (hl : (zw_l Xc).stackTraces = false) (ok : zw_ok Xc cX4_inherits "MultipoleLine$Line" yX4_inherits.name 9) (tab : zw_tab Xc []) (fin : zw_fin Xc (Option.some (Jvm.ClassFile.FieldType.array Jvm.ClassFile.FieldType.double)) (zq_A Q) X 7 68) (hRm : zw_rm Xc = rm_X4_inheritsl0) {kc ks : Nat} (hb : kc ≤ 7 ∧ ks ≤ 68) {l0 : Option Nat} {l2 : Option Nat} {l4 : Option Nat} {l5 : UInt64} {k125 : zw_H → Prop} (hk125 : ∀  (h : zw_H), k125  h → zw_G Xc kc ks 9 h 125 [(2, va_rf l2)] [])  : ∀ (n9 : Nat) (l7 : Int32) (h : zw_H), zl2 (f_X4_inheritsl0_B58 (zw_Zf Xc).2.2.2 Q X k125 l0 l2 l4 l5) n9 l7 h → zw_G Xc kc ks 9 h 58 [(0, va_rf l0), (2, va_rf l2), (4, va_rf l4), (5, .double l5), (7, .int l7)] [] := by
  intro n9
  induction n9 with
  | zero => intro l7 h hE; exact hE.elim
  | succ n9 ih => intro l7 h hE; exact gt_f_X4_inheritsl0_B58 hl ok tab fin hRm hb ih hk125 hE
set_option maxHeartbeats 8000000 in
theorem mt_X4_inheritsl0 {l : Launch} (hl : l.stackTraces = false) {Z : zw_Z} {a0 : Option Nat} {a1 : Option Nat} {h : zw_H} {Q : Option Nat → zw_H → Prop} {X : String → Nat → zw_H → Prop} (hE : f_X4_inheritsl0 Z.2.2.2 a0 a1 h Q X) : zw_Met l Z yX4_inherits (ws_ yX4_inherits cX4_inherits 9 (Option.some (Jvm.ClassFile.FieldType.array Jvm.ClassFile.FieldType.double))) rm_X4_inheritsl0 [zA a0, zA a1] h (zq_A Q) X := by
  refine zg_start (own := "MultipoleLine$Line") (by decide +kernel) rfl (Nat.le_of_ble_eq_true rfl) hl (fun Xc ok tab fin hRm hXl hXZ => ?_)
  subst hXl
  subst hXZ
  unfold f_X4_inheritsl0 at hE
  refine zg_aload_n ok dX4_inherits_0 rfl 0 rfl ?_
  refine zg_getI ok lf_X4_61 dX4_inherits_1 hE (fun v1 hE => ?_)
  refine zg_iconst (v := 1) ok dX4_inherits_4 (by decide) ?_
  refine zg_iadd ok dX4_inherits_5 ?_
  refine zg_newD (b := 5) ok (by rw [hRm]; exact ⟨Nat.le_of_ble_eq_true rfl, Nat.le_of_ble_eq_true rfl⟩) (Nat.le_of_ble_eq_true rfl) dX4_inherits_6 hE (fun v2 h1 hE => ?_)
  refine zg_cost (kc2 := 1) (ks2 := 5) ⟨rfl, rfl⟩ ?_
  refine zg_astore_nR (L' := [(2, va_rf (some v2)), (0, va_rf a0), (1, va_rf a1)]) ok dX4_inherits_8 rfl (by decide) 1 rfl rfl rfl ?_
  refine zg_aload_n ok dX4_inherits_9 rfl 2 rfl ?_
  refine zg_getI ok lf_X4_139 dX4_inherits_10 hE (fun v3 hE => ?_)
  refine zg_iconst (v := 2) ok dX4_inherits_13 (by decide) ?_
  refine zg_icmp_ne (tgt := 19) ok dX4_inherits_14 (by decide) hE (fun hE => ?_) (fun hE => ?_)
  · refine zg_aload_n ok dX4_inherits_19 rfl 1 rfl ?_
    refine zg_aload_n ok dX4_inherits_20 rfl 2 rfl ?_
    refine zg_getI ok lf_X4_139 dX4_inherits_21 hE (fun v4 hE => ?_)
    refine zg_iconst (v := 1) ok dX4_inherits_24 (by decide) ?_
    refine zg_isub ok dX4_inherits_25 ?_
    refine zg_aload_n ok dX4_inherits_26 rfl 2 rfl ?_
    refine zg_getI ok lf_X4_119 dX4_inherits_27 hE (fun v5 hE => ?_)
    refine zg_iconst (v := 2) ok dX4_inherits_30 (by decide) ?_
    refine zg_idivE ok dX4_inherits_31 hE (fun hE => ?_)
    refine zg_callV (vs := [zI (v4 - 1), zI (v5 / 2)]) (rest := []) (rm := rm_X4_box) ok hRm lk_X4_142 dX4_inherits_32 hE (fun hE => mt_X4_box hl hE) rfl (Nat.le_of_ble_eq_true rfl) ⟨⟨Nat.le_of_ble_eq_true rfl, Nat.le_of_ble_eq_true rfl⟩, Nat.le_of_ble_eq_true rfl, Nat.le_of_ble_eq_true rfl⟩ (zg_retA (fun v6 h2 hE => ?_)) (zg_xok ok tab fin ⟨Nat.le_of_ble_eq_true rfl, Nat.le_of_ble_eq_true rfl⟩)
    refine zg_cost (kc2 := 1) (ks2 := 5) ⟨rfl, rfl⟩ ?_
    refine zg_astore_nR (L' := [(3, va_rf v6), (2, va_rf (some v2)), (0, va_rf a0), (1, va_rf a1)]) ok dX4_inherits_35 rfl (by decide) 0 rfl rfl rfl ?_
    refine zg_aload_n ok dX4_inherits_36 rfl 2 rfl ?_
    refine zg_aload_n ok dX4_inherits_37 rfl 0 rfl ?_
    refine zg_callV (vs := [zA v6]) (rest := []) (rm := rm_X4_locall1) ok hRm lk_X4_230 dX4_inherits_38 hE (fun hE => mt_X4_locall1 hl hE) rfl (Nat.le_of_ble_eq_true rfl) ⟨⟨Nat.le_of_ble_eq_true rfl, Nat.le_of_ble_eq_true rfl⟩, Nat.le_of_ble_eq_true rfl, Nat.le_of_ble_eq_true rfl⟩ (zg_retA (fun v7 h3 hE => ?_)) (zg_xok ok tab fin ⟨Nat.le_of_ble_eq_true rfl, Nat.le_of_ble_eq_true rfl⟩)
    refine zg_cost (kc2 := 7) (ks2 := 68) ⟨rfl, rfl⟩ ?_
    refine zg_astoreR (L' := [(4, va_rf v7), (3, va_rf v6), (2, va_rf (some v2)), (0, va_rf a0), (1, va_rf a1)]) ok dX4_inherits_41 (by decide) 0 rfl rfl rfl ?_
    refine zg_aload_n ok dX4_inherits_43 rfl 4 rfl ?_
    refine zg_getI ok lf_X4_125 dX4_inherits_44 hE (fun v8 hE => ?_)
    refine zg_aload_n ok dX4_inherits_47 rfl 1 rfl ?_
    refine zg_getI ok lf_X4_125 dX4_inherits_48 hE (fun v9 hE => ?_)
    refine zg_isub ok dX4_inherits_51 ?_
    refine zg_i2d ok dX4_inherits_52 ?_
    refine zg_letD hE (fun v10 hE => ?_)
    refine zg_dstoreR (L' := [(5, .double v10), (4, va_rf v7), (3, va_rf v6), (2, va_rf (some v2)), (0, va_rf a0), (1, va_rf a1)]) ok dX4_inherits_53 (by decide) 0 rfl rfl rfl ?_
    refine zg_iconst (v := 0) ok dX4_inherits_55 (by decide) ?_
    refine zg_istore (L' := [(7, .int 0), (5, .double v10), (4, va_rf v7), (3, va_rf v6), (2, va_rf (some v2)), (0, va_rf a0), (1, va_rf a1)]) ok dX4_inherits_56 (by decide) rfl ?_
    refine zg_sub (L' := [(0, va_rf a0), (2, va_rf (some v2)), (4, va_rf v7), (5, .double v10), (7, .int 0)]) [5, 4, 2, 1, 0] rfl ?_
    refine gt_f_X4_inheritsl0_L58 hl ok tab fin hRm ⟨Nat.le_of_ble_eq_true rfl, Nat.le_of_ble_eq_true rfl⟩ ?_ _ _ _ hE
    · intro h8 hE
      refine zg_aload_n ok dX4_inherits_125 rfl 0 rfl ?_
      exact zg_aret ok fin (Or.inr ⟨_, rfl⟩) dX4_inherits_126 ⟨Nat.le_of_ble_eq_true rfl, Nat.le_of_ble_eq_true rfl⟩ hE
  · refine zg_aload_n ok dX4_inherits_17 rfl 0 rfl ?_
    exact zg_aret ok fin (Or.inr ⟨_, rfl⟩) dX4_inherits_18 ⟨Nat.le_of_ble_eq_true rfl, Nat.le_of_ble_eq_true rfl⟩ hE
set_option maxHeartbeats 8000000 in
theorem gt_f_X4_locall0_J154 {Xc : zw_X} {Q : Option Nat → zw_H → Prop} {X : String → Nat → zw_H → Prop} (hl : (zw_l Xc).stackTraces = false) (ok : zw_ok Xc cX4_local "MultipoleLine$Line" yX4_local.name 11) (tab : zw_tab Xc []) (fin : zw_fin Xc (Option.some (Jvm.ClassFile.FieldType.array Jvm.ClassFile.FieldType.double)) (zq_A Q) X 8 84) (hRm : zw_rm Xc = rm_X4_locall0) {kc ks : Nat} (hb : kc ≤ 8 ∧ ks ≤ 84) {R : Int32 → zw_H → Prop} {l0 : Option Nat} {l1 : Option Nat} {l2 : Option Nat} {l3 : Option Nat} {l4 : Int32} (hR : ∀ (l5 : Int32) (h : zw_H), R l5 h → zw_G Xc kc ks 11 h 29 [(0, va_rf l0), (1, va_rf l1), (2, va_rf l2), (3, va_rf l3), (4, .int l4), (5, .int l5)] []) {k160 : zw_H → Prop} (hk160 : ∀  (h : zw_H), k160  h → zw_G Xc kc ks 11 h 160 [(2, va_rf l2)] [])  {l5 : Int32}  {h : zw_H} (hE : f_X4_locall0_J154 (zw_Zf Xc).2.2.2 Q X R k160 l0 l1 l2 l3 l4 l5 h) : zw_G Xc kc ks 11 h 154 [(0, va_rf l0), (1, va_rf l1), (2, va_rf l2), (3, va_rf l3), (4, .int l4), (5, .int l5)] [] := by
  unfold f_X4_locall0_J154 at hE
  refine zg_iincL (k := 5) (L' := fun v10 => [(5, .int v10), (0, va_rf l0), (1, va_rf l1), (2, va_rf l2), (3, va_rf l3), (4, .int l4)]) ok dX4_local_154 (by decide +kernel) hE rfl (by decide) (fun _ => rfl) (fun v10 hE => ?_)
  refine zg_goto (tgt := 29) ok dX4_local_157 (by decide) ?_
  refine zg_sub (L' := [(0, va_rf l0), (1, va_rf l1), (2, va_rf l2), (3, va_rf l3), (4, .int l4), (5, .int v10)]) [1, 2, 3, 4, 5, 0] rfl ?_
  exact hR _ _ hE
set_option maxHeartbeats 8000000 in
theorem gt_f_X4_locall0_J148 {Xc : zw_X} {Q : Option Nat → zw_H → Prop} {X : String → Nat → zw_H → Prop} (hl : (zw_l Xc).stackTraces = false) (ok : zw_ok Xc cX4_local "MultipoleLine$Line" yX4_local.name 11) (tab : zw_tab Xc []) (fin : zw_fin Xc (Option.some (Jvm.ClassFile.FieldType.array Jvm.ClassFile.FieldType.double)) (zq_A Q) X 8 84) (hRm : zw_rm Xc = rm_X4_locall0) {kc ks : Nat} (hb : kc ≤ 8 ∧ ks ≤ 84) {R : Int32 → zw_H → Prop} {l0 : Option Nat} {l1 : Option Nat} {l2 : Option Nat} {l3 : Option Nat} {l4 : Int32} {l5 : Int32} {l6 : Option Nat} {l7 : Int32} (hR : ∀ (l8 : Int32) (h : zw_H), R l8 h → zw_G Xc kc ks 11 h 81 [(0, va_rf l0), (1, va_rf l1), (2, va_rf l2), (3, va_rf l3), (4, .int l4), (5, .int l5), (6, va_rf l6), (7, .int l7), (8, .int l8)] []) {k154 : zw_H → Prop} (hk154 : ∀  (h : zw_H), k154  h → zw_G Xc kc ks 11 h 154 [(0, va_rf l0), (1, va_rf l1), (2, va_rf l2), (3, va_rf l3), (4, .int l4), (5, .int l5)] [])  {l8 : Int32}  {h : zw_H} (hE : f_X4_locall0_J148 (zw_Zf Xc).2.2.2 Q X R k154 l0 l1 l2 l3 l4 l5 l6 l7 l8 h) : zw_G Xc kc ks 11 h 148 [(0, va_rf l0), (1, va_rf l1), (2, va_rf l2), (3, va_rf l3), (4, .int l4), (5, .int l5), (6, va_rf l6), (7, .int l7), (8, .int l8)] [] := by
  unfold f_X4_locall0_J148 at hE
  refine zg_iincL (k := 8) (L' := fun v19 => [(8, .int v19), (0, va_rf l0), (1, va_rf l1), (2, va_rf l2), (3, va_rf l3), (4, .int l4), (5, .int l5), (6, va_rf l6), (7, .int l7)]) ok dX4_local_148 (by decide +kernel) hE rfl (by decide) (fun _ => rfl) (fun v19 hE => ?_)
  refine zg_goto (tgt := 81) ok dX4_local_151 (by decide) ?_
  refine zg_sub (L' := [(0, va_rf l0), (1, va_rf l1), (2, va_rf l2), (3, va_rf l3), (4, .int l4), (5, .int l5), (6, va_rf l6), (7, .int l7), (8, .int v19)]) [1, 2, 3, 4, 5, 6, 7, 8, 0] rfl ?_
  exact hR _ _ hE
set_option maxHeartbeats 8000000 in
theorem gt_f_X4_locall0_J124 {Xc : zw_X} {Q : Option Nat → zw_H → Prop} {X : String → Nat → zw_H → Prop} (hl : (zw_l Xc).stackTraces = false) (ok : zw_ok Xc cX4_local "MultipoleLine$Line" yX4_local.name 11) (tab : zw_tab Xc []) (fin : zw_fin Xc (Option.some (Jvm.ClassFile.FieldType.array Jvm.ClassFile.FieldType.double)) (zq_A Q) X 8 84) (hRm : zw_rm Xc = rm_X4_locall0) {kc ks : Nat} (hb : kc ≤ 8 ∧ ks ≤ 84) {R : Int32 → zw_H → Prop} {l0 : Option Nat} {l1 : Option Nat} {l2 : Option Nat} {l3 : Option Nat} {l4 : Int32} {l5 : Int32} {l6 : Option Nat} {l7 : Int32} (hR : ∀ (l8 : Int32) (h : zw_H), R l8 h → zw_G Xc kc ks 11 h 81 [(0, va_rf l0), (1, va_rf l1), (2, va_rf l2), (3, va_rf l3), (4, .int l4), (5, .int l5), (6, va_rf l6), (7, .int l7), (8, .int l8)] []) {k154 : zw_H → Prop} (hk154 : ∀  (h : zw_H), k154  h → zw_G Xc kc ks 11 h 154 [(0, va_rf l0), (1, va_rf l1), (2, va_rf l2), (3, va_rf l3), (4, .int l4), (5, .int l5)] [])  {l8 : Int32} {l9 : UInt64} {s0 : Int32} {s1 : Int32} {h : zw_H} (hE : f_X4_locall0_J124 (zw_Zf Xc).2.2.2 Q X R k154 l0 l1 l2 l3 l4 l5 l6 l7 l8 l9 s0 s1 h) : zw_G Xc kc ks 11 h 124 [(0, va_rf l0), (1, va_rf l1), (2, va_rf l2), (3, va_rf l3), (4, .int l4), (5, .int l5), (6, va_rf l6), (7, .int l7), (8, .int l8), (9, .double l9)] [.int s0, .int s1] := by
  unfold f_X4_locall0_J124 at hE
  refine zg_icmp_ne (tgt := 139) ok dX4_local_124 (by decide) hE (fun hE => ?_) (fun hE => ?_)
  · refine zg_aload_n ok dX4_local_139 rfl 2 rfl ?_
    refine zg_iload ok dX4_local_140 8 rfl ?_
    refine zg_dup2_11 ok dX4_local_142 rfl (zw_rfc _) ?_
    refine zg_dald ok dX4_local_143 hE (fun v17 hE => ?_)
    refine zg_dload ok dX4_local_144 9 rfl ?_
    refine zg_daddE ok dX4_local_146 hE (fun hE => ?_)
    refine zg_letD hE (fun v18 hE => ?_)
    refine zg_dast ok dX4_local_147 hE (fun h6 hE => ?_)
    refine zg_sub (L' := [(0, va_rf l0), (1, va_rf l1), (2, va_rf l2), (3, va_rf l3), (4, .int l4), (5, .int l5), (6, va_rf l6), (7, .int l7), (8, .int l8)]) [0, 1, 2, 3, 4, 5, 6, 7, 8] rfl ?_
    exact gt_f_X4_locall0_J148 hl ok tab fin hRm hb hR hk154 hE
  · refine zg_aload_n ok dX4_local_127 rfl 2 rfl ?_
    refine zg_iload ok dX4_local_128 8 rfl ?_
    refine zg_dup2_11 ok dX4_local_130 rfl (zw_rfc _) ?_
    refine zg_dald ok dX4_local_131 hE (fun v20 hE => ?_)
    refine zg_dload ok dX4_local_132 9 rfl ?_
    refine zg_dsubE ok dX4_local_134 hE (fun hE => ?_)
    refine zg_letD hE (fun v21 hE => ?_)
    refine zg_dast ok dX4_local_135 hE (fun h7 hE => ?_)
    refine zg_goto (tgt := 148) ok dX4_local_136 (by decide) ?_
    refine zg_sub (L' := [(0, va_rf l0), (1, va_rf l1), (2, va_rf l2), (3, va_rf l3), (4, .int l4), (5, .int l5), (6, va_rf l6), (7, .int l7), (8, .int l8)]) [0, 1, 2, 3, 4, 5, 6, 7, 8] rfl ?_
    exact gt_f_X4_locall0_J148 hl ok tab fin hRm hb hR hk154 hE
set_option maxHeartbeats 8000000 in
theorem gt_f_X4_locall0_J112 {Xc : zw_X} {Q : Option Nat → zw_H → Prop} {X : String → Nat → zw_H → Prop} (hl : (zw_l Xc).stackTraces = false) (ok : zw_ok Xc cX4_local "MultipoleLine$Line" yX4_local.name 11) (tab : zw_tab Xc []) (fin : zw_fin Xc (Option.some (Jvm.ClassFile.FieldType.array Jvm.ClassFile.FieldType.double)) (zq_A Q) X 8 84) (hRm : zw_rm Xc = rm_X4_locall0) {kc ks : Nat} (hb : kc ≤ 8 ∧ ks ≤ 84) {R : Int32 → zw_H → Prop} {l0 : Option Nat} {l1 : Option Nat} {l2 : Option Nat} {l3 : Option Nat} {l4 : Int32} {l5 : Int32} {l6 : Option Nat} {l7 : Int32} (hR : ∀ (l8 : Int32) (h : zw_H), R l8 h → zw_G Xc kc ks 11 h 81 [(0, va_rf l0), (1, va_rf l1), (2, va_rf l2), (3, va_rf l3), (4, .int l4), (5, .int l5), (6, va_rf l6), (7, .int l7), (8, .int l8)] []) {k154 : zw_H → Prop} (hk154 : ∀  (h : zw_H), k154  h → zw_G Xc kc ks 11 h 154 [(0, va_rf l0), (1, va_rf l1), (2, va_rf l2), (3, va_rf l3), (4, .int l4), (5, .int l5)] [])  {l8 : Int32} {l9 : UInt64} {s0 : Int32} {h : zw_H} (hE : f_X4_locall0_J112 (zw_Zf Xc).2.2.2 Q X R k154 l0 l1 l2 l3 l4 l5 l6 l7 l8 l9 s0 h) : zw_G Xc kc ks 11 h 112 [(0, va_rf l0), (1, va_rf l1), (2, va_rf l2), (3, va_rf l3), (4, .int l4), (5, .int l5), (6, va_rf l6), (7, .int l7), (8, .int l8), (9, .double l9)] [.int s0] := by
  unfold f_X4_locall0_J112 at hE
  refine zg_iload ok dX4_local_112 8 rfl ?_
  refine zg_iconst (v := 2) ok dX4_local_114 (by decide) ?_
  refine zg_iremE ok dX4_local_115 hE (fun hE => ?_)
  refine zg_if_ne (tgt := 123) ok dX4_local_116 (by decide) hE (fun hE => ?_) (fun hE => ?_)
  · refine zg_iconst (v := 0) ok dX4_local_123 (by decide) ?_
    exact gt_f_X4_locall0_J124 hl ok tab fin hRm hb hR hk154 hE
  · refine zg_iconst (v := 1) ok dX4_local_119 (by decide) ?_
    refine zg_goto (tgt := 124) ok dX4_local_120 (by decide) ?_
    exact gt_f_X4_locall0_J124 hl ok tab fin hRm hb hR hk154 hE
set_option maxHeartbeats 8000000 in
theorem gt_f_X4_locall0_B81 {Xc : zw_X} {Q : Option Nat → zw_H → Prop} {X : String → Nat → zw_H → Prop} (hl : (zw_l Xc).stackTraces = false) (ok : zw_ok Xc cX4_local "MultipoleLine$Line" yX4_local.name 11) (tab : zw_tab Xc []) (fin : zw_fin Xc (Option.some (Jvm.ClassFile.FieldType.array Jvm.ClassFile.FieldType.double)) (zq_A Q) X 8 84) (hRm : zw_rm Xc = rm_X4_locall0) {kc ks : Nat} (hb : kc ≤ 8 ∧ ks ≤ 84) {R : Int32 → zw_H → Prop} {l0 : Option Nat} {l1 : Option Nat} {l2 : Option Nat} {l3 : Option Nat} {l4 : Int32} {l5 : Int32} {l6 : Option Nat} {l7 : Int32} (hR : ∀ (l8 : Int32) (h : zw_H), R l8 h → zw_G Xc kc ks 11 h 81 [(0, va_rf l0), (1, va_rf l1), (2, va_rf l2), (3, va_rf l3), (4, .int l4), (5, .int l5), (6, va_rf l6), (7, .int l7), (8, .int l8)] []) {k154 : zw_H → Prop} (hk154 : ∀  (h : zw_H), k154  h → zw_G Xc kc ks 11 h 154 [(0, va_rf l0), (1, va_rf l1), (2, va_rf l2), (3, va_rf l3), (4, .int l4), (5, .int l5)] [])  {l8 : Int32} {h : zw_H} (hE : f_X4_locall0_B81 (zw_Zf Xc).2.2.2 Q X k154 l0 l1 l2 l3 l4 l5 l6 l7 R l8 h) : zw_G Xc kc ks 11 h 81 [(0, va_rf l0), (1, va_rf l1), (2, va_rf l2), (3, va_rf l3), (4, .int l4), (5, .int l5), (6, va_rf l6), (7, .int l7), (8, .int l8)] [] := by
  unfold f_X4_locall0_B81 at hE
  refine zg_iload ok dX4_local_81 8 rfl ?_
  refine zg_aload_n ok dX4_local_83 rfl 0 rfl ?_
  refine zg_getI ok lf_X4_61 dX4_local_84 hE (fun v15 hE => ?_)
  refine zg_icmp_gt (tgt := 154) ok dX4_local_87 (by decide) hE (fun hE => ?_) (fun hE => ?_)
  · refine zg_sub (L' := [(0, va_rf l0), (1, va_rf l1), (2, va_rf l2), (3, va_rf l3), (4, .int l4), (5, .int l5)]) [0, 1, 2, 3, 4, 5] rfl ?_
    exact hk154 _ hE
  · refine zg_aload_n ok dX4_local_90 rfl 0 rfl ?_
    refine zg_aload ok dX4_local_91 6 rfl ?_
    refine zg_iload ok dX4_local_93 7 rfl ?_
    refine zg_iload ok dX4_local_95 8 rfl ?_
    refine zg_callV (vs := [zA l6, zI l7, zI l8]) (rest := []) (rm := rm_X4_part) ok hRm lk_X4_243 dX4_local_97 hE (fun hE => mt_X4_part hl hE) rfl (Nat.le_of_ble_eq_true rfl) ⟨⟨Nat.le_of_ble_eq_true rfl, Nat.le_of_ble_eq_true rfl⟩, (by show kc + 0 ≤ 8; omega), (by show ks + 0 ≤ 84; omega)⟩ (zg_retD (fun v16 h5 hE => ?_)) (zg_xok ok tab fin ⟨(by show kc + 0 ≤ 8; omega), (by show ks + 0 ≤ 84; omega)⟩)
    refine zg_cost (kc2 := kc) (ks2 := ks) ⟨(by show kc + 0 = kc; omega), (by show ks + 0 = ks; omega)⟩ ?_
    refine zg_dstore (L' := [(9, .double v16), (0, va_rf l0), (1, va_rf l1), (2, va_rf l2), (3, va_rf l3), (4, .int l4), (5, .int l5), (6, va_rf l6), (7, .int l7), (8, .int l8)]) ok dX4_local_100 (by decide) rfl ?_
    refine zg_iload ok dX4_local_102 8 rfl ?_
    refine zg_if_ge (tgt := 111) ok dX4_local_104 (by decide) hE (fun hE => ?_) (fun hE => ?_)
    · refine zg_iconst (v := 0) ok dX4_local_111 (by decide) ?_
      refine zg_sub (L' := [(0, va_rf l0), (1, va_rf l1), (2, va_rf l2), (3, va_rf l3), (4, .int l4), (5, .int l5), (6, va_rf l6), (7, .int l7), (8, .int l8), (9, .double v16)]) [1, 2, 3, 4, 5, 6, 7, 8, 9, 0] rfl ?_
      exact gt_f_X4_locall0_J112 hl ok tab fin hRm hb hR hk154 hE
    · refine zg_iconst (v := 1) ok dX4_local_107 (by decide) ?_
      refine zg_goto (tgt := 112) ok dX4_local_108 (by decide) ?_
      refine zg_sub (L' := [(0, va_rf l0), (1, va_rf l1), (2, va_rf l2), (3, va_rf l3), (4, .int l4), (5, .int l5), (6, va_rf l6), (7, .int l7), (8, .int l8), (9, .double v16)]) [1, 2, 3, 4, 5, 6, 7, 8, 9, 0] rfl ?_
      exact gt_f_X4_locall0_J112 hl ok tab fin hRm hb hR hk154 hE
theorem gt_f_X4_locall0_L81 {Xc : zw_X} {Q : Option Nat → zw_H → Prop} {X : String → Nat → zw_H → Prop} (hl : (zw_l Xc).stackTraces = false) (ok : zw_ok Xc cX4_local "MultipoleLine$Line" yX4_local.name 11) (tab : zw_tab Xc []) (fin : zw_fin Xc (Option.some (Jvm.ClassFile.FieldType.array Jvm.ClassFile.FieldType.double)) (zq_A Q) X 8 84) (hRm : zw_rm Xc = rm_X4_locall0) {kc ks : Nat} (hb : kc ≤ 8 ∧ ks ≤ 84) {l0 : Option Nat} {l1 : Option Nat} {l2 : Option Nat} {l3 : Option Nat} {l4 : Int32} {l5 : Int32} {l6 : Option Nat} {l7 : Int32} {k154 : zw_H → Prop} (hk154 : ∀  (h : zw_H), k154  h → zw_G Xc kc ks 11 h 154 [(0, va_rf l0), (1, va_rf l1), (2, va_rf l2), (3, va_rf l3), (4, .int l4), (5, .int l5)] [])  : ∀ (n9 : Nat) (l8 : Int32) (h : zw_H), zl2 (f_X4_locall0_B81 (zw_Zf Xc).2.2.2 Q X k154 l0 l1 l2 l3 l4 l5 l6 l7) n9 l8 h → zw_G Xc kc ks 11 h 81 [(0, va_rf l0), (1, va_rf l1), (2, va_rf l2), (3, va_rf l3), (4, .int l4), (5, .int l5), (6, va_rf l6), (7, .int l7), (8, .int l8)] [] := by
  intro n9
  induction n9 with
  | zero => intro l8 h hE; exact hE.elim
  | succ n9 ih => intro l8 h hE; exact gt_f_X4_locall0_B81 hl ok tab fin hRm hb ih hk154 hE
set_option maxHeartbeats 8000000 in
theorem gt_f_X4_locall0_B29 {Xc : zw_X} {Q : Option Nat → zw_H → Prop} {X : String → Nat → zw_H → Prop} (hl : (zw_l Xc).stackTraces = false) (ok : zw_ok Xc cX4_local "MultipoleLine$Line" yX4_local.name 11) (tab : zw_tab Xc []) (fin : zw_fin Xc (Option.some (Jvm.ClassFile.FieldType.array Jvm.ClassFile.FieldType.double)) (zq_A Q) X 8 84) (hRm : zw_rm Xc = rm_X4_locall0) {kc ks : Nat} (hb : kc ≤ 8 ∧ ks ≤ 84) {R : Int32 → zw_H → Prop} {l0 : Option Nat} {l1 : Option Nat} {l2 : Option Nat} {l3 : Option Nat} {l4 : Int32} (hR : ∀ (l5 : Int32) (h : zw_H), R l5 h → zw_G Xc kc ks 11 h 29 [(0, va_rf l0), (1, va_rf l1), (2, va_rf l2), (3, va_rf l3), (4, .int l4), (5, .int l5)] []) {k160 : zw_H → Prop} (hk160 : ∀  (h : zw_H), k160  h → zw_G Xc kc ks 11 h 160 [(2, va_rf l2)] [])  {l5 : Int32} {h : zw_H} (hE : f_X4_locall0_B29 (zw_Zf Xc).2.2.2 Q X k160 l0 l1 l2 l3 l4 R l5 h) : zw_G Xc kc ks 11 h 29 [(0, va_rf l0), (1, va_rf l1), (2, va_rf l2), (3, va_rf l3), (4, .int l4), (5, .int l5)] [] := by
  unfold f_X4_locall0_B29 at hE
  refine zg_iload ok dX4_local_29 5 rfl ?_
  refine zg_iload ok dX4_local_31 4 rfl ?_
  refine zg_icmp_ge (tgt := 160) ok dX4_local_33 (by decide) hE (fun hE => ?_) (fun hE => ?_)
  · refine zg_sub (L' := [(2, va_rf l2)]) [2] rfl ?_
    exact hk160 _ hE
  · refine zg_aload_n ok dX4_local_36 rfl 3 rfl ?_
    refine zg_iload ok dX4_local_37 5 rfl ?_
    refine zg_aaldB ok dX4_local_39 hE (fun v7 hE => ?_)
    refine zg_astore (L' := [(6, va_rf v7), (0, va_rf l0), (1, va_rf l1), (2, va_rf l2), (3, va_rf l3), (4, .int l4), (5, .int l5)]) ok dX4_local_40 (by decide) rfl ?_
    refine zg_aload ok dX4_local_42 0 rfl ?_
    refine zg_aload_n ok dX4_local_44 rfl 2 rfl ?_
    refine zg_getI ok lf_X4_119 dX4_local_45 hE (fun v8 hE => ?_)
    refine zg_callV (vs := [zI v8]) (rest := []) (rm := rm_X5_isFarFrom) ok hRm lk_X4_182 dX4_local_48 hE (fun hE => mt_X5_isFarFrom hl hE) rfl (Nat.le_of_ble_eq_true rfl) ⟨⟨Nat.le_of_ble_eq_true rfl, Nat.le_of_ble_eq_true rfl⟩, (by show kc + 0 ≤ 8; omega), (by show ks + 0 ≤ 84; omega)⟩ (zg_retI (fun v9 h3 hE => ?_)) (zg_xok ok tab fin ⟨(by show kc + 0 ≤ 8; omega), (by show ks + 0 ≤ 84; omega)⟩)
    refine zg_cost (kc2 := kc) (ks2 := ks) ⟨(by show kc + 0 = kc; omega), (by show ks + 0 = ks; omega)⟩ ?_
    refine zg_if_eq (tgt := 154) ok dX4_local_51 (by decide) hE (fun hE => ?_) (fun hE => ?_)
    · refine zg_sub (L' := [(0, va_rf l0), (1, va_rf l1), (2, va_rf l2), (3, va_rf l3), (4, .int l4), (5, .int l5)]) [1, 2, 3, 4, 5, 6] rfl ?_
      exact gt_f_X4_locall0_J154 hl ok tab fin hRm hb hR hk160 hE
    · refine zg_aload_n ok dX4_local_54 rfl 1 rfl ?_
      refine zg_aload ok dX4_local_55 0 rfl ?_
      refine zg_callV (vs := [zA v7]) (rest := []) (rm := rm_X4_bodiesIn) ok hRm lk_X4_185 dX4_local_57 hE (fun hE => mt_X4_bodiesIn hl hE) rfl (Nat.le_of_ble_eq_true rfl) ⟨⟨Nat.le_of_ble_eq_true rfl, Nat.le_of_ble_eq_true rfl⟩, (by show kc + 0 ≤ 8; omega), (by show ks + 0 ≤ 84; omega)⟩ (zg_retI (fun v11 h4 hE => ?_)) (zg_xok ok tab fin ⟨(by show kc + 0 ≤ 8; omega), (by show ks + 0 ≤ 84; omega)⟩)
      refine zg_cost (kc2 := kc) (ks2 := ks) ⟨(by show kc + 0 = kc; omega), (by show ks + 0 = ks; omega)⟩ ?_
      refine zg_if_ne (tgt := 66) ok dX4_local_60 (by decide) hE (fun hE => ?_) (fun hE => ?_)
      · refine zg_aload_n ok dX4_local_66 rfl 2 rfl ?_
        refine zg_getI ok lf_X4_125 dX4_local_67 hE (fun v12 hE => ?_)
        refine zg_aload ok dX4_local_70 0 rfl ?_
        refine zg_getI ok lf_X4_125 dX4_local_72 hE (fun v13 hE => ?_)
        refine zg_isub ok dX4_local_75 ?_
        refine zg_letI hE (fun v14 hE => ?_)
        refine zg_istoreR (L' := [(7, .int v14), (6, va_rf v7), (0, va_rf l0), (1, va_rf l1), (2, va_rf l2), (3, va_rf l3), (4, .int l4), (5, .int l5)]) ok dX4_local_76 (by decide) 0 rfl rfl rfl ?_
        refine zg_iconst (v := 0) ok dX4_local_78 (by decide) ?_
        refine zg_istore (L' := [(8, .int 0), (7, .int v14), (6, va_rf v7), (0, va_rf l0), (1, va_rf l1), (2, va_rf l2), (3, va_rf l3), (4, .int l4), (5, .int l5)]) ok dX4_local_79 (by decide) rfl ?_
        refine zg_sub (L' := [(0, va_rf l0), (1, va_rf l1), (2, va_rf l2), (3, va_rf l3), (4, .int l4), (5, .int l5), (6, va_rf v7), (7, .int v14), (8, .int 0)]) [3, 4, 5, 6, 7, 8, 2, 1, 0] rfl ?_
        refine gt_f_X4_locall0_L81 hl ok tab fin hRm ⟨(by omega), (by omega)⟩ ?_ _ _ _ hE
        · intro h8 hE
          exact gt_f_X4_locall0_J154 hl ok tab fin hRm hb hR hk160 hE
      · refine zg_goto (tgt := 154) ok dX4_local_63 (by decide) ?_
        refine zg_sub (L' := [(0, va_rf l0), (1, va_rf l1), (2, va_rf l2), (3, va_rf l3), (4, .int l4), (5, .int l5)]) [1, 2, 3, 4, 5, 6] rfl ?_
        exact gt_f_X4_locall0_J154 hl ok tab fin hRm hb hR hk160 hE
theorem gt_f_X4_locall0_L29 {Xc : zw_X} {Q : Option Nat → zw_H → Prop} {X : String → Nat → zw_H → Prop} (hl : (zw_l Xc).stackTraces = false) (ok : zw_ok Xc cX4_local "MultipoleLine$Line" yX4_local.name 11) (tab : zw_tab Xc []) (fin : zw_fin Xc (Option.some (Jvm.ClassFile.FieldType.array Jvm.ClassFile.FieldType.double)) (zq_A Q) X 8 84) (hRm : zw_rm Xc = rm_X4_locall0) {kc ks : Nat} (hb : kc ≤ 8 ∧ ks ≤ 84) {l0 : Option Nat} {l1 : Option Nat} {l2 : Option Nat} {l3 : Option Nat} {l4 : Int32} {k160 : zw_H → Prop} (hk160 : ∀  (h : zw_H), k160  h → zw_G Xc kc ks 11 h 160 [(2, va_rf l2)] [])  : ∀ (n9 : Nat) (l5 : Int32) (h : zw_H), zl2 (f_X4_locall0_B29 (zw_Zf Xc).2.2.2 Q X k160 l0 l1 l2 l3 l4) n9 l5 h → zw_G Xc kc ks 11 h 29 [(0, va_rf l0), (1, va_rf l1), (2, va_rf l2), (3, va_rf l3), (4, .int l4), (5, .int l5)] [] := by
  intro n9
  induction n9 with
  | zero => intro l5 h hE; exact hE.elim
  | succ n9 ih => intro l5 h hE; exact gt_f_X4_locall0_B29 hl ok tab fin hRm hb ih hk160 hE
set_option maxHeartbeats 8000000 in
theorem mt_X4_locall0 {l : Launch} (hl : l.stackTraces = false) {Z : zw_Z} {a0 : Option Nat} {a1 : Option Nat} {h : zw_H} {Q : Option Nat → zw_H → Prop} {X : String → Nat → zw_H → Prop} (hE : f_X4_locall0 Z.2.2.2 a0 a1 h Q X) : zw_Met l Z yX4_local (ws_ yX4_local cX4_local 11 (Option.some (Jvm.ClassFile.FieldType.array Jvm.ClassFile.FieldType.double))) rm_X4_locall0 [zA a0, zA a1] h (zq_A Q) X := by
  refine zg_start (own := "MultipoleLine$Line") (by decide +kernel) rfl (Nat.le_of_ble_eq_true rfl) hl (fun Xc ok tab fin hRm hXl hXZ => ?_)
  subst hXl
  subst hXZ
  unfold f_X4_locall0 at hE
  refine zg_aload_n ok dX4_local_0 rfl 0 rfl ?_
  refine zg_aload_n ok dX4_local_1 rfl 1 rfl ?_
  refine zg_callV (vs := [zA a1]) (rest := []) (rm := rm_X4_inheritsl0) ok hRm lk_X4_234 dX4_local_2 hE (fun hE => mt_X4_inheritsl0 hl hE) rfl (Nat.le_of_ble_eq_true rfl) ⟨⟨Nat.le_of_ble_eq_true rfl, Nat.le_of_ble_eq_true rfl⟩, Nat.le_of_ble_eq_true rfl, Nat.le_of_ble_eq_true rfl⟩ (zg_retA (fun v1 h1 hE => ?_)) (zg_xok ok tab fin ⟨Nat.le_of_ble_eq_true rfl, Nat.le_of_ble_eq_true rfl⟩)
  refine zg_cost (kc2 := 7) (ks2 := 68) ⟨rfl, rfl⟩ ?_
  refine zg_cloneD (b := 16) ok hRm q1893 ⟨⟨by decide, by decide⟩, Nat.le_of_ble_eq_true rfl, Nat.le_of_ble_eq_true rfl⟩ (Nat.le_of_ble_eq_true rfl) dX4_local_5 hE (fun v2 h2 hE => ?_)
  refine zg_cost (kc2 := 8) (ks2 := 84) ⟨rfl, rfl⟩ ?_
  refine zg_castA4 ok q1897 dX4_local_8 hE (fun hE => ?_)
  refine zg_astore_nR (L' := [(2, va_rf (some v2)), (0, va_rf a0), (1, va_rf a1)]) ok dX4_local_11 rfl (by decide) 1 rfl rfl rfl ?_
  refine zg_aload_n ok dX4_local_12 rfl 1 rfl ?_
  refine zg_getA ok lf_X4_20 dX4_local_13 hE (fun v3 hE => ?_)
  refine zg_aload_n ok dX4_local_16 rfl 2 rfl ?_
  refine zg_getI ok lf_X4_139 dX4_local_17 hE (fun v4 hE => ?_)
  refine zg_aaldBB ok dX4_local_20 hE (fun v5 hE => ?_)
  refine zg_astore_nR (L' := [(3, va_rf v5), (2, va_rf (some v2)), (0, va_rf a0), (1, va_rf a1)]) ok dX4_local_21 rfl (by decide) 0 rfl rfl rfl ?_
  refine zg_aload_n ok dX4_local_22 rfl 0 rfl ?_
  refine zg_alen ok dX4_local_23 hE (fun v6 hE => ?_)
  refine zg_istoreR (L' := [(4, .int v6), (3, va_rf v5), (2, va_rf (some v2)), (0, va_rf a0), (1, va_rf a1)]) ok dX4_local_24 (by decide) 0 rfl rfl rfl ?_
  refine zg_iconst (v := 0) ok dX4_local_26 (by decide) ?_
  refine zg_istore (L' := [(5, .int 0), (4, .int v6), (3, va_rf v5), (2, va_rf (some v2)), (0, va_rf a0), (1, va_rf a1)]) ok dX4_local_27 (by decide) rfl ?_
  refine zg_sub (L' := [(0, va_rf a0), (1, va_rf a1), (2, va_rf (some v2)), (3, va_rf v5), (4, .int v6), (5, .int 0)]) [4, 5, 3, 2, 1, 0] rfl ?_
  refine gt_f_X4_locall0_L29 hl ok tab fin hRm ⟨Nat.le_of_ble_eq_true rfl, Nat.le_of_ble_eq_true rfl⟩ ?_ _ _ _ hE
  · intro h9 hE
    refine zg_aload_n ok dX4_local_160 rfl 0 rfl ?_
    exact zg_aret ok fin (Or.inr ⟨_, rfl⟩) dX4_local_161 ⟨Nat.le_of_ble_eq_true rfl, Nat.le_of_ble_eq_true rfl⟩ hE
set_option maxHeartbeats 8000000 in
theorem mt_X1_localEntry {l : Launch} (hl : l.stackTraces = false) {Z : zw_Z} {a0 : Option Nat} {a1 : Int32} {a2 : Int32} {a3 : Int32} {h : zw_H} {Q : UInt64 → zw_H → Prop} {X : String → Nat → zw_H → Prop} (hE : f_X1_localEntry Z.2.2.2 a0 a1 a2 a3 h Q X) : zw_Met l Z yX1_localEntry (ws_ yX1_localEntry cX1_localEntry 6 (Option.some Jvm.ClassFile.FieldType.double)) rm_X1_localEntry [zA a0, zI a1, zI a2, zI a3] h (zq_D Q) X := by
  refine zg_start (own := "MultipoleLine") (by decide +kernel) rfl (Nat.le_of_ble_eq_true rfl) hl (fun Xc ok tab fin hRm hXl hXZ => ?_)
  subst hXl
  subst hXZ
  unfold f_X1_localEntry at hE
  refine zg_aload_n ok dX1_localEntry_0 rfl 0 rfl ?_
  refine zg_callV (vs := []) (rest := []) (rm := rm_X1_loaded) ok hRm lk_X1_76 dX1_localEntry_1 hE (fun hE => mt_X1_loaded hl hE) rfl (Nat.le_of_ble_eq_true rfl) ⟨⟨Nat.le_of_ble_eq_true rfl, Nat.le_of_ble_eq_true rfl⟩, Nat.le_of_ble_eq_true rfl, Nat.le_of_ble_eq_true rfl⟩ (zg_retA (fun v1 h1 hE => ?_)) (zg_xok ok tab fin ⟨Nat.le_of_ble_eq_true rfl, Nat.le_of_ble_eq_true rfl⟩)
  refine zg_cost (kc2 := 1) (ks2 := 6) ⟨rfl, rfl⟩ ?_
  refine zg_astore (L' := [(4, va_rf v1), (0, va_rf a0), (1, .int a1), (2, .int a2), (3, .int a3)]) ok dX1_localEntry_4 (by decide) rfl ?_
  refine zg_iload_n ok dX1_localEntry_6 rfl 2 rfl ?_
  refine zg_iconst (v := 2) ok dX1_localEntry_7 (by decide) ?_
  refine zg_isub ok dX1_localEntry_8 ?_
  refine zg_aload ok dX1_localEntry_9 0 rfl ?_
  refine zg_getI ok lf_X1_101 dX1_localEntry_11 hE (fun v2 hE => ?_)
  refine zg_iconst (v := 2) ok dX1_localEntry_14 (by decide) ?_
  refine zg_isub ok dX1_localEntry_15 ?_
  refine zg_iconst (v := 1) ok dX1_localEntry_16 (by decide) ?_
  refine zg_iadd ok dX1_localEntry_17 ?_
  refine zg_callS (vs := [zI (a1 - 2), zI ((v2 - 2) + 1)]) (rest := []) (rm := rm_X1_checkIndex) ok hRm lk_X1_84 dX1_localEntry_18 hE (fun hE => mt_X1_checkIndex hl hE) rfl (Nat.le_of_ble_eq_true rfl) ⟨⟨Nat.le_of_ble_eq_true rfl, Nat.le_of_ble_eq_true rfl⟩, Nat.le_of_ble_eq_true rfl, Nat.le_of_ble_eq_true rfl⟩ (zg_retV (fun h2 hE => ?_)) (zg_xok ok tab fin ⟨Nat.le_of_ble_eq_true rfl, Nat.le_of_ble_eq_true rfl⟩)
  refine zg_cost (kc2 := 2) (ks2 := 12) ⟨rfl, rfl⟩ ?_
  refine zg_aload_n ok dX1_localEntry_21 rfl 1 rfl ?_
  refine zg_iload_n ok dX1_localEntry_22 rfl 2 rfl ?_
  refine zg_iload_n ok dX1_localEntry_23 rfl 3 rfl ?_
  refine zg_callV (vs := [zI a1, zI a2]) (rest := []) (rm := rm_X1_boxOf) ok hRm lk_X1_196 dX1_localEntry_24 hE (fun hE => mt_X1_boxOf hl hE) rfl (Nat.le_of_ble_eq_true rfl) ⟨⟨Nat.le_of_ble_eq_true rfl, Nat.le_of_ble_eq_true rfl⟩, Nat.le_of_ble_eq_true rfl, Nat.le_of_ble_eq_true rfl⟩ (zg_retA (fun v3 h3 hE => ?_)) (zg_xok ok tab fin ⟨Nat.le_of_ble_eq_true rfl, Nat.le_of_ble_eq_true rfl⟩)
  refine zg_cost (kc2 := 5) (ks2 := 30) ⟨rfl, rfl⟩ ?_
  refine zg_astoreR (L' := [(5, va_rf v3), (4, va_rf v1), (0, va_rf a0), (1, .int a1), (2, .int a2), (3, .int a3)]) ok dX1_localEntry_27 (by decide) 0 rfl rfl rfl ?_
  refine zg_iload_n ok dX1_localEntry_29 rfl 5 rfl ?_
  refine zg_i2l ok dX1_localEntry_30 ?_
  refine zg_lconst (v := 0) ok dX1_localEntry_31 (by decide) ?_
  refine zg_aload ok dX1_localEntry_32 1 rfl ?_
  refine zg_getI ok lf_X1_315 dX1_localEntry_34 hE (fun v4 hE => ?_)
  refine zg_i2l ok dX1_localEntry_37 ?_
  refine zg_callS (vs := [zJ a3.toInt64, zJ 0, zJ v4.toInt64]) (rest := []) (rm := rm_X1_in) ok hRm lk_X1_58 dX1_localEntry_38 hE (fun hE => mt_X1_in hl hE) rfl (Nat.le_of_ble_eq_true rfl) ⟨⟨Nat.le_of_ble_eq_true rfl, Nat.le_of_ble_eq_true rfl⟩, Nat.le_of_ble_eq_true rfl, Nat.le_of_ble_eq_true rfl⟩ (zg_retI (fun v5 h4 hE => ?_)) (zg_xok ok tab fin ⟨Nat.le_of_ble_eq_true rfl, Nat.le_of_ble_eq_true rfl⟩)
  refine zg_cost (kc2 := 5) (ks2 := 30) ⟨rfl, rfl⟩ ?_
  refine zg_callS (vs := [zI v5]) (rest := []) (rm := rm_X1_checkArgument) ok hRm lk_X1_98 dX1_localEntry_41 hE (fun hE => mt_X1_checkArgument hl hE) rfl (Nat.le_of_ble_eq_true rfl) ⟨⟨Nat.le_of_ble_eq_true rfl, Nat.le_of_ble_eq_true rfl⟩, Nat.le_of_ble_eq_true rfl, Nat.le_of_ble_eq_true rfl⟩ (zg_retV (fun h5 hE => ?_)) (zg_xok ok tab fin ⟨Nat.le_of_ble_eq_true rfl, Nat.le_of_ble_eq_true rfl⟩)
  refine zg_cost (kc2 := 6) (ks2 := 36) ⟨rfl, rfl⟩ ?_
  refine zg_aload ok dX1_localEntry_44 1 rfl ?_
  refine zg_aload ok dX1_localEntry_46 0 rfl ?_
  refine zg_callV (vs := [zA v3]) (rest := []) (rm := rm_X4_locall0) ok hRm lk_X1_327 dX1_localEntry_48 hE (fun hE => mt_X4_locall0 hl hE) rfl (Nat.le_of_ble_eq_true rfl) ⟨⟨Nat.le_of_ble_eq_true rfl, Nat.le_of_ble_eq_true rfl⟩, Nat.le_of_ble_eq_true rfl, Nat.le_of_ble_eq_true rfl⟩ (zg_retA (fun v6 h6 hE => ?_)) (zg_xok ok tab fin ⟨Nat.le_of_ble_eq_true rfl, Nat.le_of_ble_eq_true rfl⟩)
  refine zg_cost (kc2 := 14) (ks2 := 120) ⟨rfl, rfl⟩ ?_
  refine zg_iload_n ok dX1_localEntry_51 rfl 5 rfl ?_
  refine zg_dald ok dX1_localEntry_52 hE (fun v7 hE => ?_)
  exact zg_dret ok fin dX1_localEntry_53 ⟨Nat.le_of_ble_eq_true rfl, Nat.le_of_ble_eq_true rfl⟩ hE
set_option maxHeartbeats 8000000 in
theorem gt_f_X4_localSum_B27 {Xc : zw_X} {Q : UInt64 → zw_H → Prop} {X : String → Nat → zw_H → Prop} (hl : (zw_l Xc).stackTraces = false) (ok : zw_ok Xc cX4_localSum "MultipoleLine$Line" yX4_localSum.name 9) (tab : zw_tab Xc []) (fin : zw_fin Xc (Option.some Jvm.ClassFile.FieldType.double) (zq_D Q) X 8 84) (hRm : zw_rm Xc = rm_X4_localSum) {kc ks : Nat} (hb : kc ≤ 8 ∧ ks ≤ 84) {R : UInt64 → Int32 → zw_H → Prop} {l0 : Option Nat} {l3 : Option Nat} {l6 : UInt64} (hR : ∀ (l4 : UInt64) (l8 : Int32) (h : zw_H), R l4 l8 h → zw_G Xc kc ks 9 h 27 [(0, va_rf l0), (3, va_rf l3), (6, .double l6), (4, .double l4), (8, .int l8)] []) {k60 : UInt64 → zw_H → Prop} (hk60 : ∀ (l4 : UInt64) (h : zw_H), k60 l4 h → zw_G Xc kc ks 9 h 60 [(4, .double l4)] [])  {l4 : UInt64} {l8 : Int32} {h : zw_H} (hE : f_X4_localSum_B27 (zw_Zf Xc).2.2.2 Q X k60 l0 l3 l6 R l4 l8 h) : zw_G Xc kc ks 9 h 27 [(0, va_rf l0), (3, va_rf l3), (6, .double l6), (4, .double l4), (8, .int l8)] [] := by
  unfold f_X4_localSum_B27 at hE
  refine zg_iload ok dX4_localSum_27 4 rfl ?_
  refine zg_aload_n ok dX4_localSum_29 rfl 0 rfl ?_
  refine zg_getI ok lf_X4_61 dX4_localSum_30 hE (fun v5 hE => ?_)
  refine zg_icmp_gt (tgt := 60) ok dX4_localSum_33 (by decide) hE (fun hE => ?_) (fun hE => ?_)
  · refine zg_sub (L' := [(4, .double l4)]) [3] rfl ?_
    exact hk60 _ _ hE
  · refine zg_dload ok dX4_localSum_36 3 rfl ?_
    refine zg_aload_n ok dX4_localSum_38 rfl 1 rfl ?_
    refine zg_iload ok dX4_localSum_39 4 rfl ?_
    refine zg_dald ok dX4_localSum_41 hE (fun v6 hE => ?_)
    refine zg_dconst1 ok dX4_localSum_42 ?_
    refine zg_dload ok dX4_localSum_43 2 rfl ?_
    refine zg_iload ok dX4_localSum_45 4 rfl ?_
    refine zg_callSN (vs := [zD FP.dconst1, zD l6, zI l8]) (rest := [.double v6, .double l4]) (rm := rm_X1_power) ok hRm lk_X4_207 dX4_localSum_47 hE (fun hE => mt_X1_power hl hE) rfl (Nat.le_of_ble_eq_true rfl) ⟨⟨Nat.le_of_ble_eq_true rfl, Nat.le_of_ble_eq_true rfl⟩, (by show kc + 0 ≤ 8; omega), (by show ks + 0 ≤ 84; omega)⟩ (zg_retD (fun v7 h3 hE => ?_)) (zg_xok ok tab fin ⟨(by show kc + 0 ≤ 8; omega), (by show ks + 0 ≤ 84; omega)⟩)
    refine zg_cost (kc2 := kc) (ks2 := ks) ⟨(by show kc + 0 = kc; omega), (by show ks + 0 = ks; omega)⟩ ?_
    refine zg_dmulE ok dX4_localSum_50 hE (fun hE => ?_)
    refine zg_letD hE (fun v8 hE => ?_)
    refine zg_daddE ok dX4_localSum_51 hE (fun hE => ?_)
    refine zg_letD hE (fun v9 hE => ?_)
    refine zg_dstoreR (L' := [(4, .double v9), (0, va_rf l0), (3, va_rf l3), (6, .double l6), (8, .int l8)]) ok dX4_localSum_52 (by decide) 1 rfl rfl rfl ?_
    refine zg_iincL (k := 4) (L' := fun v10 => [(8, .int v10), (4, .double v9), (0, va_rf l0), (3, va_rf l3), (6, .double l6)]) ok dX4_localSum_54 (by decide +kernel) hE rfl (by decide) (fun _ => rfl) (fun v10 hE => ?_)
    refine zg_goto (tgt := 27) ok dX4_localSum_57 (by decide) ?_
    refine zg_sub (L' := [(0, va_rf l0), (3, va_rf l3), (6, .double l6), (4, .double v9), (8, .int v10)]) [2, 3, 4, 1, 0] rfl ?_
    exact hR _ _ _ hE
theorem gt_f_X4_localSum_L27 {Xc : zw_X} {Q : UInt64 → zw_H → Prop} {X : String → Nat → zw_H → Prop} (hl : (zw_l Xc).stackTraces = false) (ok : zw_ok Xc cX4_localSum "MultipoleLine$Line" yX4_localSum.name 9) (tab : zw_tab Xc []) (fin : zw_fin Xc (Option.some Jvm.ClassFile.FieldType.double) (zq_D Q) X 8 84) (hRm : zw_rm Xc = rm_X4_localSum) {kc ks : Nat} (hb : kc ≤ 8 ∧ ks ≤ 84) {l0 : Option Nat} {l3 : Option Nat} {l6 : UInt64} {k60 : UInt64 → zw_H → Prop} (hk60 : ∀ (l4 : UInt64) (h : zw_H), k60 l4 h → zw_G Xc kc ks 9 h 60 [(4, .double l4)] [])  : ∀ (n9 : Nat) (l4 : UInt64) (l8 : Int32) (h : zw_H), zl3 (f_X4_localSum_B27 (zw_Zf Xc).2.2.2 Q X k60 l0 l3 l6) n9 l4 l8 h → zw_G Xc kc ks 9 h 27 [(0, va_rf l0), (3, va_rf l3), (6, .double l6), (4, .double l4), (8, .int l8)] [] := by
  intro n9
  induction n9 with
  | zero => intro l4 l8 h hE; exact hE.elim
  | succ n9 ih => intro l4 l8 h hE; exact gt_f_X4_localSum_B27 hl ok tab fin hRm hb ih hk60 hE
set_option maxHeartbeats 8000000 in
theorem mt_X4_localSum {l : Launch} (hl : l.stackTraces = false) {Z : zw_Z} {a0 : Option Nat} {a1 : Int32} {h : zw_H} {Q : UInt64 → zw_H → Prop} {X : String → Nat → zw_H → Prop} (hE : f_X4_localSum Z.2.2.2 a0 a1 h Q X) : zw_Met l Z yX4_localSum (ws_ yX4_localSum cX4_localSum 9 (Option.some Jvm.ClassFile.FieldType.double)) rm_X4_localSum [zA a0, zI a1] h (zq_D Q) X := by
  refine zg_start (own := "MultipoleLine$Line") (by decide +kernel) rfl (Nat.le_of_ble_eq_true rfl) hl (fun Xc ok tab fin hRm hXl hXZ => ?_)
  subst hXl
  subst hXZ
  unfold f_X4_localSum at hE
  refine zg_aload_n ok dX4_localSum_0 rfl 0 rfl ?_
  refine zg_iload_n ok dX4_localSum_1 rfl 1 rfl ?_
  refine zg_callV (vs := [zI a1]) (rest := []) (rm := rm_X4_leaf) ok hRm lk_X4_115 dX4_localSum_2 hE (fun hE => mt_X4_leaf hl hE) rfl (Nat.le_of_ble_eq_true rfl) ⟨⟨Nat.le_of_ble_eq_true rfl, Nat.le_of_ble_eq_true rfl⟩, Nat.le_of_ble_eq_true rfl, Nat.le_of_ble_eq_true rfl⟩ (zg_retA (fun v1 h1 hE => ?_)) (zg_xok ok tab fin ⟨Nat.le_of_ble_eq_true rfl, Nat.le_of_ble_eq_true rfl⟩)
  refine zg_cost (kc2 := 0) (ks2 := 0) ⟨rfl, rfl⟩ ?_
  refine zg_astore_n (L' := [(2, va_rf v1), (0, va_rf a0), (1, .int a1)]) ok dX4_localSum_5 rfl (by decide) rfl ?_
  refine zg_aload_n ok dX4_localSum_6 rfl 1 rfl ?_
  refine zg_aload_n ok dX4_localSum_7 rfl 0 rfl ?_
  refine zg_callV (vs := [zA v1]) (rest := []) (rm := rm_X4_locall0) ok hRm lk_X4_230 dX4_localSum_8 hE (fun hE => mt_X4_locall0 hl hE) rfl (Nat.le_of_ble_eq_true rfl) ⟨⟨Nat.le_of_ble_eq_true rfl, Nat.le_of_ble_eq_true rfl⟩, Nat.le_of_ble_eq_true rfl, Nat.le_of_ble_eq_true rfl⟩ (zg_retA (fun v2 h2 hE => ?_)) (zg_xok ok tab fin ⟨Nat.le_of_ble_eq_true rfl, Nat.le_of_ble_eq_true rfl⟩)
  refine zg_cost (kc2 := 8) (ks2 := 84) ⟨rfl, rfl⟩ ?_
  refine zg_astore_nR (L' := [(3, va_rf v2), (2, va_rf v1), (0, va_rf a0), (1, .int a1)]) ok dX4_localSum_11 rfl (by decide) 0 rfl rfl rfl ?_
  refine zg_dconst0 ok dX4_localSum_12 ?_
  refine zg_dstoreR (L' := [(4, .double FP.dconst0), (3, va_rf v2), (2, va_rf v1), (0, va_rf a0), (1, .int a1)]) ok dX4_localSum_13 (by decide) 0 rfl rfl rfl ?_
  refine zg_iload_n ok dX4_localSum_15 rfl 4 rfl ?_
  refine zg_aload_n ok dX4_localSum_16 rfl 2 rfl ?_
  refine zg_getI ok lf_X4_125 dX4_localSum_17 hE (fun v3 hE => ?_)
  refine zg_isub ok dX4_localSum_20 ?_
  refine zg_i2d ok dX4_localSum_21 ?_
  refine zg_letD hE (fun v4 hE => ?_)
  refine zg_dstore (L' := [(6, .double v4), (4, .double FP.dconst0), (3, va_rf v2), (2, va_rf v1), (0, va_rf a0), (1, .int a1)]) ok dX4_localSum_22 (by decide) rfl ?_
  refine zg_iconst (v := 0) ok dX4_localSum_24 (by decide) ?_
  refine zg_istore (L' := [(8, .int 0), (6, .double v4), (4, .double FP.dconst0), (3, va_rf v2), (2, va_rf v1), (0, va_rf a0), (1, .int a1)]) ok dX4_localSum_25 (by decide) rfl ?_
  refine zg_sub (L' := [(0, va_rf a0), (3, va_rf v2), (6, .double v4), (4, .double FP.dconst0), (8, .int 0)]) [5, 3, 1, 2, 0] rfl ?_
  refine gt_f_X4_localSum_L27 hl ok tab fin hRm ⟨Nat.le_of_ble_eq_true rfl, Nat.le_of_ble_eq_true rfl⟩ ?_ _ _ _ _ hE
  · intro v11 h4 hE
    refine zg_dload ok dX4_localSum_60 0 rfl ?_
    exact zg_dret ok fin dX4_localSum_62 ⟨Nat.le_of_ble_eq_true rfl, Nat.le_of_ble_eq_true rfl⟩ hE
set_option maxHeartbeats 8000000 in
theorem mt_X1_localSum {l : Launch} (hl : l.stackTraces = false) {Z : zw_Z} {a0 : Option Nat} {a1 : Int32} {h : zw_H} {Q : UInt64 → zw_H → Prop} {X : String → Nat → zw_H → Prop} (hE : f_X1_localSum Z.2.2.2 a0 a1 h Q X) : zw_Met l Z yX1_localSum (ws_ yX1_localSum cX1_localSum 2 (Option.some Jvm.ClassFile.FieldType.double)) rm_X1_localSum [zA a0, zI a1] h (zq_D Q) X := by
  refine zg_start (own := "MultipoleLine") (by decide +kernel) rfl (Nat.le_of_ble_eq_true rfl) hl (fun Xc ok tab fin hRm hXl hXZ => ?_)
  subst hXl
  subst hXZ
  unfold f_X1_localSum at hE
  refine zg_aload_n ok dX1_localSum_0 rfl 0 rfl ?_
  refine zg_iload_n ok dX1_localSum_1 rfl 1 rfl ?_
  refine zg_callV (vs := [zI a1]) (rest := []) (rm := rm_X1_at) ok hRm lk_X1_193 dX1_localSum_2 hE (fun hE => mt_X1_at hl hE) rfl (Nat.le_of_ble_eq_true rfl) ⟨⟨Nat.le_of_ble_eq_true rfl, Nat.le_of_ble_eq_true rfl⟩, Nat.le_of_ble_eq_true rfl, Nat.le_of_ble_eq_true rfl⟩ (zg_retA (fun v1 h1 hE => ?_)) (zg_xok ok tab fin ⟨Nat.le_of_ble_eq_true rfl, Nat.le_of_ble_eq_true rfl⟩)
  refine zg_cost (kc2 := 2) (ks2 := 12) ⟨rfl, rfl⟩ ?_
  refine zg_iload_n ok dX1_localSum_5 rfl 1 rfl ?_
  refine zg_callV (vs := [zI a1]) (rest := []) (rm := rm_X4_localSum) ok hRm lk_X1_331 dX1_localSum_6 hE (fun hE => mt_X4_localSum hl hE) rfl (Nat.le_of_ble_eq_true rfl) ⟨⟨Nat.le_of_ble_eq_true rfl, Nat.le_of_ble_eq_true rfl⟩, Nat.le_of_ble_eq_true rfl, Nat.le_of_ble_eq_true rfl⟩ (zg_retD (fun v2 h2 hE => ?_)) (zg_xok ok tab fin ⟨Nat.le_of_ble_eq_true rfl, Nat.le_of_ble_eq_true rfl⟩)
  refine zg_cost (kc2 := 10) (ks2 := 96) ⟨rfl, rfl⟩ ?_
  exact zg_dret ok fin dX1_localSum_9 ⟨Nat.le_of_ble_eq_true rfl, Nat.le_of_ble_eq_true rfl⟩ hE
set_option maxHeartbeats 8000000 in
theorem gt_f_X4_pull_J92 {Xc : zw_X} {Q : UInt64 → zw_H → Prop} {X : String → Nat → zw_H → Prop} (hl : (zw_l Xc).stackTraces = false) (ok : zw_ok Xc cX4_pull "MultipoleLine$Line" yX4_pull.name 10) (tab : zw_tab Xc []) (fin : zw_fin Xc (Option.some Jvm.ClassFile.FieldType.double) (zq_D Q) X 0 0) (hRm : zw_rm Xc = rm_X4_pull) {kc ks : Nat} (hb : kc ≤ 0 ∧ ks ≤ 0) {R : UInt64 → Int32 → zw_H → Prop} {l0 : Option Nat} {l1 : Int32} {l2 : Int32} (hR : ∀ (l3 : UInt64) (l5 : Int32) (h : zw_H), R l3 l5 h → zw_G Xc kc ks 10 h 5 [(0, va_rf l0), (1, .int l1), (2, .int l2), (3, .double l3), (5, .int l5)] []) {k98 : UInt64 → zw_H → Prop} (hk98 : ∀ (l3 : UInt64) (h : zw_H), k98 l3 h → zw_G Xc kc ks 10 h 98 [(3, .double l3)] [])  {l3 : UInt64} {l5 : Int32}  {h : zw_H} (hE : f_X4_pull_J92 (zw_Zf Xc).2.2.2 Q X R k98 l0 l1 l2 l3 l5 h) : zw_G Xc kc ks 10 h 92 [(0, va_rf l0), (1, .int l1), (2, .int l2), (3, .double l3), (5, .int l5)] [] := by
  unfold f_X4_pull_J92 at hE
  refine zg_iincL (k := 4) (L' := fun v4 => [(5, .int v4), (0, va_rf l0), (1, .int l1), (2, .int l2), (3, .double l3)]) ok dX4_pull_92 (by decide +kernel) hE rfl (by decide) (fun _ => rfl) (fun v4 hE => ?_)
  refine zg_goto (tgt := 5) ok dX4_pull_95 (by decide) ?_
  refine zg_sub (L' := [(0, va_rf l0), (1, .int l1), (2, .int l2), (3, .double l3), (5, .int v4)]) [1, 2, 3, 4, 0] rfl ?_
  exact hR _ _ _ hE
set_option maxHeartbeats 8000000 in
theorem gt_f_X4_pull_J91 {Xc : zw_X} {Q : UInt64 → zw_H → Prop} {X : String → Nat → zw_H → Prop} (hl : (zw_l Xc).stackTraces = false) (ok : zw_ok Xc cX4_pull "MultipoleLine$Line" yX4_pull.name 10) (tab : zw_tab Xc []) (fin : zw_fin Xc (Option.some Jvm.ClassFile.FieldType.double) (zq_D Q) X 0 0) (hRm : zw_rm Xc = rm_X4_pull) {kc ks : Nat} (hb : kc ≤ 0 ∧ ks ≤ 0) {R : UInt64 → Int32 → zw_H → Prop} {l0 : Option Nat} {l1 : Int32} {l2 : Int32} (hR : ∀ (l3 : UInt64) (l5 : Int32) (h : zw_H), R l3 l5 h → zw_G Xc kc ks 10 h 5 [(0, va_rf l0), (1, .int l1), (2, .int l2), (3, .double l3), (5, .int l5)] []) {k98 : UInt64 → zw_H → Prop} (hk98 : ∀ (l3 : UInt64) (h : zw_H), k98 l3 h → zw_G Xc kc ks 10 h 98 [(3, .double l3)] [])  {l5 : Int32} {s0 : UInt64} {h : zw_H} (hE : f_X4_pull_J91 (zw_Zf Xc).2.2.2 Q X R k98 l0 l1 l2 l5 s0 h) : zw_G Xc kc ks 10 h 91 [(0, va_rf l0), (1, .int l1), (2, .int l2), (5, .int l5)] [.double s0] := by
  unfold f_X4_pull_J91 at hE
  refine zg_dstore_n (L' := [(3, .double s0), (0, va_rf l0), (1, .int l1), (2, .int l2), (5, .int l5)]) ok dX4_pull_91 rfl (by decide) rfl ?_
  refine zg_sub (L' := [(0, va_rf l0), (1, .int l1), (2, .int l2), (3, .double s0), (5, .int l5)]) [1, 2, 3, 0, 4] rfl ?_
  exact gt_f_X4_pull_J92 hl ok tab fin hRm hb hR hk98 hE
set_option maxHeartbeats 8000000 in
theorem gt_f_X4_pull_J48 {Xc : zw_X} {Q : UInt64 → zw_H → Prop} {X : String → Nat → zw_H → Prop} (hl : (zw_l Xc).stackTraces = false) (ok : zw_ok Xc cX4_pull "MultipoleLine$Line" yX4_pull.name 10) (tab : zw_tab Xc []) (fin : zw_fin Xc (Option.some Jvm.ClassFile.FieldType.double) (zq_D Q) X 0 0) (hRm : zw_rm Xc = rm_X4_pull) {kc ks : Nat} (hb : kc ≤ 0 ∧ ks ≤ 0) {R : UInt64 → Int32 → zw_H → Prop} {l0 : Option Nat} {l1 : Int32} {l2 : Int32} (hR : ∀ (l3 : UInt64) (l5 : Int32) (h : zw_H), R l3 l5 h → zw_G Xc kc ks 10 h 5 [(0, va_rf l0), (1, .int l1), (2, .int l2), (3, .double l3), (5, .int l5)] []) {k98 : UInt64 → zw_H → Prop} (hk98 : ∀ (l3 : UInt64) (h : zw_H), k98 l3 h → zw_G Xc kc ks 10 h 98 [(3, .double l3)] [])  {l3 : UInt64} {l5 : Int32} {l6 : Option Nat}  {h : zw_H} (hE : f_X4_pull_J48 (zw_Zf Xc).2.2.2 Q X R k98 l0 l1 l2 l3 l5 l6 h) : zw_G Xc kc ks 10 h 48 [(0, va_rf l0), (1, .int l1), (2, .int l2), (3, .double l3), (5, .int l5), (6, va_rf l6)] [] := by
  unfold f_X4_pull_J48 at hE
  refine zg_aload ok dX4_pull_48 5 rfl ?_
  refine zg_iload_n ok dX4_pull_50 rfl 1 rfl ?_
  rcases od_some hE with ⟨a9, hr9, hE⟩ | ⟨a9, hr9, hE⟩
  · refine zg_callU (vs := [zI l1]) (rest := []) (rm := rm_X7_distance) ok hRm lk_X4_197_6 dX4_pull_51 hE (fun hE => mt_X7_distance hl hE) rfl (Nat.le_of_ble_eq_true rfl) ⟨⟨Nat.le_of_ble_eq_true rfl, Nat.le_of_ble_eq_true rfl⟩, (by show kc + 0 ≤ 0; omega), (by show ks + 0 ≤ 0; omega)⟩ (zg_retI (fun v5 h3 hE => ?_)) (zg_xok ok tab fin ⟨(by show kc + 0 ≤ 0; omega), (by show ks + 0 ≤ 0; omega)⟩)
    refine zg_wide (kc2 := kc) (ks2 := ks) (by show kc ≤ kc; omega) (by show ks ≤ ks; omega) ?_
    refine zg_istoreR (L' := [(7, .int v5), (0, va_rf l0), (1, .int l1), (2, .int l2), (3, .double l3), (5, .int l5), (6, va_rf l6)]) ok dX4_pull_54 (by decide) 5 rfl rfl rfl ?_
    refine zg_aload ok dX4_pull_56 6 rfl ?_
    refine zg_getI ok lf_X4_89 dX4_pull_58 hE (fun v6 hE => ?_)
    refine zg_i2d ok dX4_pull_61 ?_
    refine zg_iload ok dX4_pull_62 0 rfl ?_
    refine zg_iload ok dX4_pull_64 0 rfl ?_
    refine zg_imul ok dX4_pull_66 ?_
    refine zg_i2d ok dX4_pull_67 ?_
    refine zg_ddivE ok dX4_pull_68 hE (fun hE => ?_)
    refine zg_letD hE (fun v7 hE => ?_)
    refine zg_dstore (L' := [(8, .double v7), (7, .int v5), (0, va_rf l0), (1, .int l1), (2, .int l2), (3, .double l3), (5, .int l5), (6, va_rf l6)]) ok dX4_pull_69 (by decide) rfl ?_
    refine zg_aload ok dX4_pull_71 7 rfl ?_
    refine zg_getI ok lf_X4_86 dX4_pull_73 hE (fun v8 hE => ?_)
    refine zg_iload_n ok dX4_pull_76 rfl 3 rfl ?_
    refine zg_icmp_le (tgt := 87) ok dX4_pull_77 (by decide) hE (fun hE => ?_) (fun hE => ?_)
    · refine zg_dload_n ok dX4_pull_87 rfl 5 rfl ?_
      refine zg_dload ok dX4_pull_88 0 rfl ?_
      refine zg_dsubE ok dX4_pull_90 hE (fun hE => ?_)
      refine zg_letD hE (fun v9 hE => ?_)
      refine zg_sub (L' := [(0, va_rf l0), (1, .int l1), (2, .int l2), (5, .int l5)]) [2, 3, 4, 6] rfl ?_
      exact gt_f_X4_pull_J91 hl ok tab fin hRm hb hR hk98 hE
    · refine zg_dload_n ok dX4_pull_80 rfl 5 rfl ?_
      refine zg_dload ok dX4_pull_81 0 rfl ?_
      refine zg_daddE ok dX4_pull_83 hE (fun hE => ?_)
      refine zg_letD hE (fun v10 hE => ?_)
      refine zg_goto (tgt := 91) ok dX4_pull_84 (by decide) ?_
      refine zg_sub (L' := [(0, va_rf l0), (1, .int l1), (2, .int l2), (5, .int l5)]) [2, 3, 4, 6] rfl ?_
      exact gt_f_X4_pull_J91 hl ok tab fin hRm hb hR hk98 hE
  · refine zg_callU (vs := [zI l1]) (rest := []) (rm := rm_X7_distance) ok hRm lk_X4_197_7 dX4_pull_51 hE (fun hE => mt_X7_distance hl hE) rfl (Nat.le_of_ble_eq_true rfl) ⟨⟨Nat.le_of_ble_eq_true rfl, Nat.le_of_ble_eq_true rfl⟩, (by show kc + 0 ≤ 0; omega), (by show ks + 0 ≤ 0; omega)⟩ (zg_retI (fun v5 h3 hE => ?_)) (zg_xok ok tab fin ⟨(by show kc + 0 ≤ 0; omega), (by show ks + 0 ≤ 0; omega)⟩)
    refine zg_wide (kc2 := kc) (ks2 := ks) (by show kc ≤ kc; omega) (by show ks ≤ ks; omega) ?_
    refine zg_istoreR (L' := [(7, .int v5), (0, va_rf l0), (1, .int l1), (2, .int l2), (3, .double l3), (5, .int l5), (6, va_rf l6)]) ok dX4_pull_54 (by decide) 5 rfl rfl rfl ?_
    refine zg_aload ok dX4_pull_56 6 rfl ?_
    refine zg_getI ok lf_X4_89 dX4_pull_58 hE (fun v6 hE => ?_)
    refine zg_i2d ok dX4_pull_61 ?_
    refine zg_iload ok dX4_pull_62 0 rfl ?_
    refine zg_iload ok dX4_pull_64 0 rfl ?_
    refine zg_imul ok dX4_pull_66 ?_
    refine zg_i2d ok dX4_pull_67 ?_
    refine zg_ddivE ok dX4_pull_68 hE (fun hE => ?_)
    refine zg_letD hE (fun v7 hE => ?_)
    refine zg_dstore (L' := [(8, .double v7), (7, .int v5), (0, va_rf l0), (1, .int l1), (2, .int l2), (3, .double l3), (5, .int l5), (6, va_rf l6)]) ok dX4_pull_69 (by decide) rfl ?_
    refine zg_aload ok dX4_pull_71 7 rfl ?_
    refine zg_getI ok lf_X4_86 dX4_pull_73 hE (fun v8 hE => ?_)
    refine zg_iload_n ok dX4_pull_76 rfl 3 rfl ?_
    refine zg_icmp_le (tgt := 87) ok dX4_pull_77 (by decide) hE (fun hE => ?_) (fun hE => ?_)
    · refine zg_dload_n ok dX4_pull_87 rfl 5 rfl ?_
      refine zg_dload ok dX4_pull_88 0 rfl ?_
      refine zg_dsubE ok dX4_pull_90 hE (fun hE => ?_)
      refine zg_letD hE (fun v9 hE => ?_)
      refine zg_sub (L' := [(0, va_rf l0), (1, .int l1), (2, .int l2), (5, .int l5)]) [2, 3, 4, 6] rfl ?_
      exact gt_f_X4_pull_J91 hl ok tab fin hRm hb hR hk98 hE
    · refine zg_dload_n ok dX4_pull_80 rfl 5 rfl ?_
      refine zg_dload ok dX4_pull_81 0 rfl ?_
      refine zg_daddE ok dX4_pull_83 hE (fun hE => ?_)
      refine zg_letD hE (fun v10 hE => ?_)
      refine zg_goto (tgt := 91) ok dX4_pull_84 (by decide) ?_
      refine zg_sub (L' := [(0, va_rf l0), (1, .int l1), (2, .int l2), (5, .int l5)]) [2, 3, 4, 6] rfl ?_
      exact gt_f_X4_pull_J91 hl ok tab fin hRm hb hR hk98 hE
set_option maxHeartbeats 8000000 in
theorem gt_f_X4_pull_B5 {Xc : zw_X} {Q : UInt64 → zw_H → Prop} {X : String → Nat → zw_H → Prop} (hl : (zw_l Xc).stackTraces = false) (ok : zw_ok Xc cX4_pull "MultipoleLine$Line" yX4_pull.name 10) (tab : zw_tab Xc []) (fin : zw_fin Xc (Option.some Jvm.ClassFile.FieldType.double) (zq_D Q) X 0 0) (hRm : zw_rm Xc = rm_X4_pull) {kc ks : Nat} (hb : kc ≤ 0 ∧ ks ≤ 0) {R : UInt64 → Int32 → zw_H → Prop} {l0 : Option Nat} {l1 : Int32} {l2 : Int32} (hR : ∀ (l3 : UInt64) (l5 : Int32) (h : zw_H), R l3 l5 h → zw_G Xc kc ks 10 h 5 [(0, va_rf l0), (1, .int l1), (2, .int l2), (3, .double l3), (5, .int l5)] []) {k98 : UInt64 → zw_H → Prop} (hk98 : ∀ (l3 : UInt64) (h : zw_H), k98 l3 h → zw_G Xc kc ks 10 h 98 [(3, .double l3)] [])  {l3 : UInt64} {l5 : Int32} {h : zw_H} (hE : f_X4_pull_B5 (zw_Zf Xc).2.2.2 Q X k98 l0 l1 l2 R l3 l5 h) : zw_G Xc kc ks 10 h 5 [(0, va_rf l0), (1, .int l1), (2, .int l2), (3, .double l3), (5, .int l5)] [] := by
  unfold f_X4_pull_B5 at hE
  refine zg_iload ok dX4_pull_5 4 rfl ?_
  refine zg_aload_n ok dX4_pull_7 rfl 0 rfl ?_
  refine zg_callV (vs := []) (rest := [.int l5]) (rm := rm_X4_size) ok hRm lk_X4_37 dX4_pull_8 hE (fun hE => mt_X4_size hl hE) rfl (Nat.le_of_ble_eq_true rfl) ⟨⟨Nat.le_of_ble_eq_true rfl, Nat.le_of_ble_eq_true rfl⟩, (by show kc + 0 ≤ 0; omega), (by show ks + 0 ≤ 0; omega)⟩ (zg_retI (fun v1 h1 hE => ?_)) (zg_xok ok tab fin ⟨(by show kc + 0 ≤ 0; omega), (by show ks + 0 ≤ 0; omega)⟩)
  refine zg_cost (kc2 := kc) (ks2 := ks) ⟨(by show kc + 0 = kc; omega), (by show ks + 0 = ks; omega)⟩ ?_
  refine zg_icmp_ge (tgt := 98) ok dX4_pull_11 (by decide) hE (fun hE => ?_) (fun hE => ?_)
  · refine zg_sub (L' := [(3, .double l3)]) [3] rfl ?_
    exact hk98 _ _ hE
  · refine zg_aload_n ok dX4_pull_14 rfl 0 rfl ?_
    refine zg_iload ok dX4_pull_15 4 rfl ?_
    refine zg_callV (vs := [zI l5]) (rest := []) (rm := rm_X4_at) ok hRm lk_X4_41 dX4_pull_17 hE (fun hE => mt_X4_at hl hE) rfl (Nat.le_of_ble_eq_true rfl) ⟨⟨Nat.le_of_ble_eq_true rfl, Nat.le_of_ble_eq_true rfl⟩, (by show kc + 0 ≤ 0; omega), (by show ks + 0 ≤ 0; omega)⟩ (zg_retA (fun v2 h2 hE => ?_)) (zg_xok ok tab fin ⟨(by show kc + 0 ≤ 0; omega), (by show ks + 0 ≤ 0; omega)⟩)
    refine zg_cost (kc2 := kc) (ks2 := ks) ⟨(by show kc + 0 = kc; omega), (by show ks + 0 = ks; omega)⟩ ?_
    refine zg_astore (L' := [(6, va_rf v2), (0, va_rf l0), (1, .int l1), (2, .int l2), (3, .double l3), (5, .int l5)]) ok dX4_pull_20 (by decide) rfl ?_
    refine zg_aload ok dX4_pull_22 0 rfl ?_
    refine zg_getI ok lf_X4_86 dX4_pull_24 hE (fun v3 hE => ?_)
    refine zg_iload_n ok dX4_pull_27 rfl 2 rfl ?_
    refine zg_icmp_eq (tgt := 92) ok dX4_pull_28 (by decide) hE (fun hE => ?_) (fun hE => ?_)
    · refine zg_sub (L' := [(0, va_rf l0), (1, .int l1), (2, .int l2), (3, .double l3), (5, .int l5)]) [1, 2, 3, 4, 5] rfl ?_
      exact gt_f_X4_pull_J92 hl ok tab fin hRm hb hR hk98 hE
    · refine zg_iload_n ok dX4_pull_31 rfl 3 rfl ?_
      refine zg_if_eq (tgt := 48) ok dX4_pull_32 (by decide) hE (fun hE => ?_) (fun hE => ?_)
      · refine zg_sub (L' := [(0, va_rf l0), (1, .int l1), (2, .int l2), (3, .double l3), (5, .int l5), (6, va_rf v2)]) [1, 2, 3, 4, 5, 0] rfl ?_
        exact gt_f_X4_pull_J48 hl ok tab fin hRm hb hR hk98 hE
      · refine zg_aload_n ok dX4_pull_35 rfl 1 rfl ?_
        refine zg_aload ok dX4_pull_36 0 rfl ?_
        refine zg_iload_n ok dX4_pull_38 rfl 2 rfl ?_
        refine zg_callV (vs := [zA v2, zI l1]) (rest := []) (rm := rm_X4_isNear) ok hRm lk_X4_161 dX4_pull_39 hE (fun hE => mt_X4_isNear hl hE) rfl (Nat.le_of_ble_eq_true rfl) ⟨⟨Nat.le_of_ble_eq_true rfl, Nat.le_of_ble_eq_true rfl⟩, (by show kc + 0 ≤ 0; omega), (by show ks + 0 ≤ 0; omega)⟩ (zg_retI (fun v11 h4 hE => ?_)) (zg_xok ok tab fin ⟨(by show kc + 0 ≤ 0; omega), (by show ks + 0 ≤ 0; omega)⟩)
        refine zg_cost (kc2 := kc) (ks2 := ks) ⟨(by show kc + 0 = kc; omega), (by show ks + 0 = ks; omega)⟩ ?_
        refine zg_if_ne (tgt := 48) ok dX4_pull_42 (by decide) hE (fun hE => ?_) (fun hE => ?_)
        · refine zg_sub (L' := [(0, va_rf l0), (1, .int l1), (2, .int l2), (3, .double l3), (5, .int l5), (6, va_rf v2)]) [1, 2, 3, 4, 5, 0] rfl ?_
          exact gt_f_X4_pull_J48 hl ok tab fin hRm hb hR hk98 hE
        · refine zg_goto (tgt := 92) ok dX4_pull_45 (by decide) ?_
          refine zg_sub (L' := [(0, va_rf l0), (1, .int l1), (2, .int l2), (3, .double l3), (5, .int l5)]) [1, 2, 3, 4, 5] rfl ?_
          exact gt_f_X4_pull_J92 hl ok tab fin hRm hb hR hk98 hE
theorem gt_f_X4_pull_L5 {Xc : zw_X} {Q : UInt64 → zw_H → Prop} {X : String → Nat → zw_H → Prop} (hl : (zw_l Xc).stackTraces = false) (ok : zw_ok Xc cX4_pull "MultipoleLine$Line" yX4_pull.name 10) (tab : zw_tab Xc []) (fin : zw_fin Xc (Option.some Jvm.ClassFile.FieldType.double) (zq_D Q) X 0 0) (hRm : zw_rm Xc = rm_X4_pull) {kc ks : Nat} (hb : kc ≤ 0 ∧ ks ≤ 0) {l0 : Option Nat} {l1 : Int32} {l2 : Int32} {k98 : UInt64 → zw_H → Prop} (hk98 : ∀ (l3 : UInt64) (h : zw_H), k98 l3 h → zw_G Xc kc ks 10 h 98 [(3, .double l3)] [])  : ∀ (n9 : Nat) (l3 : UInt64) (l5 : Int32) (h : zw_H), zl3 (f_X4_pull_B5 (zw_Zf Xc).2.2.2 Q X k98 l0 l1 l2) n9 l3 l5 h → zw_G Xc kc ks 10 h 5 [(0, va_rf l0), (1, .int l1), (2, .int l2), (3, .double l3), (5, .int l5)] [] := by
  intro n9
  induction n9 with
  | zero => intro l3 l5 h hE; exact hE.elim
  | succ n9 ih => intro l3 l5 h hE; exact gt_f_X4_pull_B5 hl ok tab fin hRm hb ih hk98 hE
set_option maxHeartbeats 8000000 in
theorem mt_X4_pull {l : Launch} (hl : l.stackTraces = false) {Z : zw_Z} {a0 : Option Nat} {a1 : Int32} {a2 : Int32} {h : zw_H} {Q : UInt64 → zw_H → Prop} {X : String → Nat → zw_H → Prop} (hE : f_X4_pull Z.2.2.2 a0 a1 a2 h Q X) : zw_Met l Z yX4_pull (ws_ yX4_pull cX4_pull 10 (Option.some Jvm.ClassFile.FieldType.double)) rm_X4_pull [zA a0, zI a1, zI a2] h (zq_D Q) X := by
  refine zg_start (own := "MultipoleLine$Line") (by decide +kernel) rfl (Nat.le_of_ble_eq_true rfl) hl (fun Xc ok tab fin hRm hXl hXZ => ?_)
  subst hXl
  subst hXZ
  unfold f_X4_pull at hE
  refine zg_dconst0 ok dX4_pull_0 ?_
  refine zg_dstore_n (L' := [(3, .double FP.dconst0), (0, va_rf a0), (1, .int a1), (2, .int a2)]) ok dX4_pull_1 rfl (by decide) rfl ?_
  refine zg_iconst (v := 0) ok dX4_pull_2 (by decide) ?_
  refine zg_istore (L' := [(5, .int 0), (3, .double FP.dconst0), (0, va_rf a0), (1, .int a1), (2, .int a2)]) ok dX4_pull_3 (by decide) rfl ?_
  refine zg_sub (L' := [(0, va_rf a0), (1, .int a1), (2, .int a2), (3, .double FP.dconst0), (5, .int 0)]) [2, 3, 4, 1, 0] rfl ?_
  refine gt_f_X4_pull_L5 hl ok tab fin hRm ⟨Nat.le_of_ble_eq_true rfl, Nat.le_of_ble_eq_true rfl⟩ ?_ _ _ _ _ hE
  · intro v12 h5 hE
    refine zg_dload_n ok dX4_pull_98 rfl 0 rfl ?_
    exact zg_dret ok fin dX4_pull_99 ⟨Nat.le_of_ble_eq_true rfl, Nat.le_of_ble_eq_true rfl⟩ hE
set_option maxHeartbeats 8000000 in
theorem mt_X1_pullPlain {l : Launch} (hl : l.stackTraces = false) {Z : zw_Z} {a0 : Option Nat} {a1 : Int32} {h : zw_H} {Q : UInt64 → zw_H → Prop} {X : String → Nat → zw_H → Prop} (hE : f_X1_pullPlain Z.2.2.2 a0 a1 h Q X) : zw_Met l Z yX1_pullPlain (ws_ yX1_pullPlain cX1_pullPlain 2 (Option.some Jvm.ClassFile.FieldType.double)) rm_X1_pullPlain [zA a0, zI a1] h (zq_D Q) X := by
  refine zg_start (own := "MultipoleLine") (by decide +kernel) rfl (Nat.le_of_ble_eq_true rfl) hl (fun Xc ok tab fin hRm hXl hXZ => ?_)
  subst hXl
  subst hXZ
  unfold f_X1_pullPlain at hE
  refine zg_aload_n ok dX1_pullPlain_0 rfl 0 rfl ?_
  refine zg_iload_n ok dX1_pullPlain_1 rfl 1 rfl ?_
  refine zg_callV (vs := [zI a1]) (rest := []) (rm := rm_X1_at) ok hRm lk_X1_193 dX1_pullPlain_2 hE (fun hE => mt_X1_at hl hE) rfl (Nat.le_of_ble_eq_true rfl) ⟨⟨Nat.le_of_ble_eq_true rfl, Nat.le_of_ble_eq_true rfl⟩, Nat.le_of_ble_eq_true rfl, Nat.le_of_ble_eq_true rfl⟩ (zg_retA (fun v1 h1 hE => ?_)) (zg_xok ok tab fin ⟨Nat.le_of_ble_eq_true rfl, Nat.le_of_ble_eq_true rfl⟩)
  refine zg_cost (kc2 := 2) (ks2 := 12) ⟨rfl, rfl⟩ ?_
  refine zg_iload_n ok dX1_pullPlain_5 rfl 1 rfl ?_
  refine zg_iconst (v := 0) ok dX1_pullPlain_6 (by decide) ?_
  refine zg_callV (vs := [zI a1, zI 0]) (rest := []) (rm := rm_X4_pull) ok hRm lk_X1_334 dX1_pullPlain_7 hE (fun hE => mt_X4_pull hl hE) rfl (Nat.le_of_ble_eq_true rfl) ⟨⟨Nat.le_of_ble_eq_true rfl, Nat.le_of_ble_eq_true rfl⟩, Nat.le_of_ble_eq_true rfl, Nat.le_of_ble_eq_true rfl⟩ (zg_retD (fun v2 h2 hE => ?_)) (zg_xok ok tab fin ⟨Nat.le_of_ble_eq_true rfl, Nat.le_of_ble_eq_true rfl⟩)
  refine zg_cost (kc2 := 2) (ks2 := 12) ⟨rfl, rfl⟩ ?_
  exact zg_dret ok fin dX1_pullPlain_10 ⟨Nat.le_of_ble_eq_true rfl, Nat.le_of_ble_eq_true rfl⟩ hE
set_option maxHeartbeats 8000000 in
theorem gt_f_X4_pullFar_B47 {Xc : zw_X} {Q : UInt64 → zw_H → Prop} {X : String → Nat → zw_H → Prop} (hl : (zw_l Xc).stackTraces = false) (ok : zw_ok Xc cX4_pullFar "MultipoleLine$Line" yX4_pullFar.name 13) (tab : zw_tab Xc []) (fin : zw_fin Xc (Option.some Jvm.ClassFile.FieldType.double) (zq_D Q) X 0 0) (hRm : zw_rm Xc = rm_X4_pullFar) {kc ks : Nat} (hb : kc ≤ 0 ∧ ks ≤ 0) {R : UInt64 → UInt64 → Int32 → zw_H → Prop} {l0 : Option Nat} {l1 : Int32} {l2 : Int32} {l3 : UInt64} {l5 : Int32} {l6 : UInt64} (hR : ∀ (l8 : UInt64) (l10 : UInt64) (l12 : Int32) (h : zw_H), R l8 l10 l12 h → zw_G Xc kc ks 13 h 47 [(0, va_rf l0), (1, .int l1), (2, .int l2), (3, .double l3), (5, .int l5), (6, .double l6), (8, .double l8), (10, .double l10), (12, .int l12)] []) {k97 : UInt64 → zw_H → Prop} (hk97 : ∀ (l8 : UInt64) (h : zw_H), k97 l8 h → zw_G Xc kc ks 13 h 97 [(0, va_rf l0), (1, .int l1), (2, .int l2), (3, .double l3), (5, .int l5), (6, .double l6), (8, .double l8)] [])  {l8 : UInt64} {l10 : UInt64} {l12 : Int32} {h : zw_H} (hE : f_X4_pullFar_B47 (zw_Zf Xc).2.2.2 Q X k97 l0 l1 l2 l3 l5 l6 R l8 l10 l12 h) : zw_G Xc kc ks 13 h 47 [(0, va_rf l0), (1, .int l1), (2, .int l2), (3, .double l3), (5, .int l5), (6, .double l6), (8, .double l8), (10, .double l10), (12, .int l12)] [] := by
  unfold f_X4_pullFar_B47 at hE
  refine zg_iload ok dX4_pullFar_47 8 rfl ?_
  refine zg_aload_n ok dX4_pullFar_49 rfl 0 rfl ?_
  refine zg_getI ok lf_X4_61 dX4_pullFar_50 hE (fun v7 hE => ?_)
  refine zg_icmp_gt (tgt := 97) ok dX4_pullFar_53 (by decide) hE (fun hE => ?_) (fun hE => ?_)
  · refine zg_sub (L' := [(0, va_rf l0), (1, .int l1), (2, .int l2), (3, .double l3), (5, .int l5), (6, .double l6), (8, .double l8)]) [0, 1, 2, 3, 4, 5, 6] rfl ?_
    exact hk97 _ _ hE
  · refine zg_dload ok dX4_pullFar_56 6 rfl ?_
    refine zg_iload ok dX4_pullFar_58 8 rfl ?_
    refine zg_iconst (v := 1) ok dX4_pullFar_60 (by decide) ?_
    refine zg_iadd ok dX4_pullFar_61 ?_
    refine zg_i2l ok dX4_pullFar_62 ?_
    refine zg_aload_n ok dX4_pullFar_63 rfl 0 rfl ?_
    refine zg_aload_n ok dX4_pullFar_64 rfl 0 rfl ?_
    refine zg_getA ok lf_X4_26 dX4_pullFar_65 hE (fun v8 hE => ?_)
    refine zg_iload ok dX4_pullFar_68 4 rfl ?_
    refine zg_aaldB ok dX4_pullFar_70 hE (fun v9 hE => ?_)
    refine zg_iload ok dX4_pullFar_71 8 rfl ?_
    refine zg_callV (vs := [zA v9, zI l12]) (rest := [.long ((l12 + 1).toInt64), .double l8]) (rm := rm_X4_moment) ok hRm lk_X4_106 dX4_pullFar_73 hE (fun hE => mt_X4_moment hl hE) rfl (Nat.le_of_ble_eq_true rfl) ⟨⟨Nat.le_of_ble_eq_true rfl, Nat.le_of_ble_eq_true rfl⟩, (by show kc + 0 ≤ 0; omega), (by show ks + 0 ≤ 0; omega)⟩ (zg_retJ (fun v10 h3 hE => ?_)) (zg_xok ok tab fin ⟨(by show kc + 0 ≤ 0; omega), (by show ks + 0 ≤ 0; omega)⟩)
    refine zg_cost (kc2 := kc) (ks2 := ks) ⟨(by show kc + 0 = kc; omega), (by show ks + 0 = ks; omega)⟩ ?_
    refine zg_lmul ok dX4_pullFar_76 ?_
    refine zg_l2d ok dX4_pullFar_77 ?_
    refine zg_dload ok dX4_pullFar_78 7 rfl ?_
    refine zg_ddivE ok dX4_pullFar_80 hE (fun hE => ?_)
    refine zg_letD hE (fun v11 hE => ?_)
    refine zg_daddE ok dX4_pullFar_81 hE (fun hE => ?_)
    refine zg_letD hE (fun v12 hE => ?_)
    refine zg_dstore (L' := [(8, .double v12), (0, va_rf l0), (1, .int l1), (2, .int l2), (3, .double l3), (5, .int l5), (6, .double l6), (10, .double l10), (12, .int l12)]) ok dX4_pullFar_82 (by decide) rfl ?_
    refine zg_dload ok dX4_pullFar_84 7 rfl ?_
    refine zg_dload ok dX4_pullFar_86 6 rfl ?_
    refine zg_dmulE ok dX4_pullFar_88 hE (fun hE => ?_)
    refine zg_letD hE (fun v13 hE => ?_)
    refine zg_dstore (L' := [(10, .double v13), (8, .double v12), (0, va_rf l0), (1, .int l1), (2, .int l2), (3, .double l3), (5, .int l5), (6, .double l6), (12, .int l12)]) ok dX4_pullFar_89 (by decide) rfl ?_
    refine zg_iincL (k := 8) (L' := fun v14 => [(12, .int v14), (10, .double v13), (8, .double v12), (0, va_rf l0), (1, .int l1), (2, .int l2), (3, .double l3), (5, .int l5), (6, .double l6)]) ok dX4_pullFar_91 (by decide +kernel) hE rfl (by decide) (fun _ => rfl) (fun v14 hE => ?_)
    refine zg_goto (tgt := 47) ok dX4_pullFar_94 (by decide) ?_
    refine zg_sub (L' := [(0, va_rf l0), (1, .int l1), (2, .int l2), (3, .double l3), (5, .int l5), (6, .double l6), (8, .double v12), (10, .double v13), (12, .int v14)]) [3, 4, 5, 6, 7, 8, 2, 1, 0] rfl ?_
    exact hR _ _ _ _ hE
theorem gt_f_X4_pullFar_L47 {Xc : zw_X} {Q : UInt64 → zw_H → Prop} {X : String → Nat → zw_H → Prop} (hl : (zw_l Xc).stackTraces = false) (ok : zw_ok Xc cX4_pullFar "MultipoleLine$Line" yX4_pullFar.name 13) (tab : zw_tab Xc []) (fin : zw_fin Xc (Option.some Jvm.ClassFile.FieldType.double) (zq_D Q) X 0 0) (hRm : zw_rm Xc = rm_X4_pullFar) {kc ks : Nat} (hb : kc ≤ 0 ∧ ks ≤ 0) {l0 : Option Nat} {l1 : Int32} {l2 : Int32} {l3 : UInt64} {l5 : Int32} {l6 : UInt64} {k97 : UInt64 → zw_H → Prop} (hk97 : ∀ (l8 : UInt64) (h : zw_H), k97 l8 h → zw_G Xc kc ks 13 h 97 [(0, va_rf l0), (1, .int l1), (2, .int l2), (3, .double l3), (5, .int l5), (6, .double l6), (8, .double l8)] [])  : ∀ (n9 : Nat) (l8 : UInt64) (l10 : UInt64) (l12 : Int32) (h : zw_H), zl4 (f_X4_pullFar_B47 (zw_Zf Xc).2.2.2 Q X k97 l0 l1 l2 l3 l5 l6) n9 l8 l10 l12 h → zw_G Xc kc ks 13 h 47 [(0, va_rf l0), (1, .int l1), (2, .int l2), (3, .double l3), (5, .int l5), (6, .double l6), (8, .double l8), (10, .double l10), (12, .int l12)] [] := by
  intro n9
  induction n9 with
  | zero => intro l8 l10 l12 h hE; exact hE.elim
  | succ n9 ih => intro l8 l10 l12 h hE; exact gt_f_X4_pullFar_B47 hl ok tab fin hRm hb ih hk97 hE
set_option maxHeartbeats 8000000 in
theorem gt_f_X4_pullFar_J115 {Xc : zw_X} {Q : UInt64 → zw_H → Prop} {X : String → Nat → zw_H → Prop} (hl : (zw_l Xc).stackTraces = false) (ok : zw_ok Xc cX4_pullFar "MultipoleLine$Line" yX4_pullFar.name 13) (tab : zw_tab Xc []) (fin : zw_fin Xc (Option.some Jvm.ClassFile.FieldType.double) (zq_D Q) X 0 0) (hRm : zw_rm Xc = rm_X4_pullFar) {kc ks : Nat} (hb : kc ≤ 0 ∧ ks ≤ 0) {R : UInt64 → Int32 → zw_H → Prop} {l0 : Option Nat} {l1 : Int32} {l2 : Int32} (hR : ∀ (l3 : UInt64) (l5 : Int32) (h : zw_H), R l3 l5 h → zw_G Xc kc ks 13 h 11 [(0, va_rf l0), (1, .int l1), (2, .int l2), (3, .double l3), (5, .int l5)] []) {k122 : UInt64 → zw_H → Prop} (hk122 : ∀ (l3 : UInt64) (h : zw_H), k122 l3 h → zw_G Xc kc ks 13 h 122 [(3, .double l3)] [])  {l5 : Int32} {s0 : UInt64} {h : zw_H} (hE : f_X4_pullFar_J115 (zw_Zf Xc).2.2.2 Q X R k122 l0 l1 l2 l5 s0 h) : zw_G Xc kc ks 13 h 115 [(0, va_rf l0), (1, .int l1), (2, .int l2), (5, .int l5)] [.double s0] := by
  unfold f_X4_pullFar_J115 at hE
  refine zg_dstore_n (L' := [(3, .double s0), (0, va_rf l0), (1, .int l1), (2, .int l2), (5, .int l5)]) ok dX4_pullFar_115 rfl (by decide) rfl ?_
  refine zg_iincL (k := 4) (L' := fun v17 => [(5, .int v17), (3, .double s0), (0, va_rf l0), (1, .int l1), (2, .int l2)]) ok dX4_pullFar_116 (by decide +kernel) hE rfl (by decide) (fun _ => rfl) (fun v17 hE => ?_)
  refine zg_goto (tgt := 11) ok dX4_pullFar_119 (by decide) ?_
  refine zg_sub (L' := [(0, va_rf l0), (1, .int l1), (2, .int l2), (3, .double s0), (5, .int v17)]) [2, 3, 4, 1, 0] rfl ?_
  exact hR _ _ _ hE
set_option maxHeartbeats 8000000 in
theorem gt_f_X4_pullFar_B11 {Xc : zw_X} {Q : UInt64 → zw_H → Prop} {X : String → Nat → zw_H → Prop} (hl : (zw_l Xc).stackTraces = false) (ok : zw_ok Xc cX4_pullFar "MultipoleLine$Line" yX4_pullFar.name 13) (tab : zw_tab Xc []) (fin : zw_fin Xc (Option.some Jvm.ClassFile.FieldType.double) (zq_D Q) X 0 0) (hRm : zw_rm Xc = rm_X4_pullFar) {kc ks : Nat} (hb : kc ≤ 0 ∧ ks ≤ 0) {R : UInt64 → Int32 → zw_H → Prop} {l0 : Option Nat} {l1 : Int32} {l2 : Int32} (hR : ∀ (l3 : UInt64) (l5 : Int32) (h : zw_H), R l3 l5 h → zw_G Xc kc ks 13 h 11 [(0, va_rf l0), (1, .int l1), (2, .int l2), (3, .double l3), (5, .int l5)] []) {k122 : UInt64 → zw_H → Prop} (hk122 : ∀ (l3 : UInt64) (h : zw_H), k122 l3 h → zw_G Xc kc ks 13 h 122 [(3, .double l3)] [])  {l3 : UInt64} {l5 : Int32} {h : zw_H} (hE : f_X4_pullFar_B11 (zw_Zf Xc).2.2.2 Q X k122 l0 l1 l2 R l3 l5 h) : zw_G Xc kc ks 13 h 11 [(0, va_rf l0), (1, .int l1), (2, .int l2), (3, .double l3), (5, .int l5)] [] := by
  unfold f_X4_pullFar_B11 at hE
  refine zg_iload ok dX4_pullFar_11 4 rfl ?_
  refine zg_iload_n ok dX4_pullFar_13 rfl 2 rfl ?_
  refine zg_icmp_ge (tgt := 122) ok dX4_pullFar_14 (by decide) hE (fun hE => ?_) (fun hE => ?_)
  · refine zg_sub (L' := [(3, .double l3)]) [3] rfl ?_
    exact hk122 _ _ hE
  · refine zg_iload_n ok dX4_pullFar_17 rfl 1 rfl ?_
    refine zg_aload_n ok dX4_pullFar_18 rfl 0 rfl ?_
    refine zg_getA ok lf_X4_26 dX4_pullFar_19 hE (fun v2 hE => ?_)
    refine zg_iload ok dX4_pullFar_22 4 rfl ?_
    refine zg_aaldB ok dX4_pullFar_24 hE (fun v3 hE => ?_)
    refine zg_getI ok lf_X4_125 dX4_pullFar_25 hE (fun v4 hE => ?_)
    refine zg_isub ok dX4_pullFar_28 ?_
    refine zg_i2d ok dX4_pullFar_29 ?_
    refine zg_letD hE (fun v5 hE => ?_)
    refine zg_dstore (L' := [(6, .double v5), (0, va_rf l0), (1, .int l1), (2, .int l2), (3, .double l3), (5, .int l5)]) ok dX4_pullFar_30 (by decide) rfl ?_
    refine zg_dconst0 ok dX4_pullFar_32 ?_
    refine zg_dstore (L' := [(8, .double FP.dconst0), (6, .double v5), (0, va_rf l0), (1, .int l1), (2, .int l2), (3, .double l3), (5, .int l5)]) ok dX4_pullFar_33 (by decide) rfl ?_
    refine zg_dconst1 ok dX4_pullFar_35 ?_
    refine zg_dload ok dX4_pullFar_36 1 rfl ?_
    refine zg_iconst (v := 2) ok dX4_pullFar_38 (by decide) ?_
    refine zg_callSN (vs := [zD FP.dconst1, zD v5, zI 2]) (rest := []) (rm := rm_X1_power) ok hRm lk_X4_207 dX4_pullFar_39 hE (fun hE => mt_X1_power hl hE) rfl (Nat.le_of_ble_eq_true rfl) ⟨⟨Nat.le_of_ble_eq_true rfl, Nat.le_of_ble_eq_true rfl⟩, (by show kc + 0 ≤ 0; omega), (by show ks + 0 ≤ 0; omega)⟩ (zg_retD (fun v6 h2 hE => ?_)) (zg_xok ok tab fin ⟨(by show kc + 0 ≤ 0; omega), (by show ks + 0 ≤ 0; omega)⟩)
    refine zg_cost (kc2 := kc) (ks2 := ks) ⟨(by show kc + 0 = kc; omega), (by show ks + 0 = ks; omega)⟩ ?_
    refine zg_dstore (L' := [(10, .double v6), (8, .double FP.dconst0), (6, .double v5), (0, va_rf l0), (1, .int l1), (2, .int l2), (3, .double l3), (5, .int l5)]) ok dX4_pullFar_42 (by decide) rfl ?_
    refine zg_iconst (v := 0) ok dX4_pullFar_44 (by decide) ?_
    refine zg_istore (L' := [(12, .int 0), (10, .double v6), (8, .double FP.dconst0), (6, .double v5), (0, va_rf l0), (1, .int l1), (2, .int l2), (3, .double l3), (5, .int l5)]) ok dX4_pullFar_45 (by decide) rfl ?_
    refine zg_sub (L' := [(0, va_rf l0), (1, .int l1), (2, .int l2), (3, .double l3), (5, .int l5), (6, .double v5), (8, .double FP.dconst0), (10, .double v6), (12, .int 0)]) [4, 5, 6, 7, 8, 3, 2, 1, 0] rfl ?_
    refine gt_f_X4_pullFar_L47 hl ok tab fin hRm ⟨(by omega), (by omega)⟩ ?_ _ _ _ _ _ hE
    · intro v15 h4 hE
      refine zg_dload ok dX4_pullFar_97 5 rfl ?_
      refine zg_dconst0 ok dX4_pullFar_99 ?_
      refine zg_dcmp ok dX4_pullFar_100 ?_
      refine zg_if_le (tgt := 111) ok dX4_pullFar_101 (by decide) hE (fun hE => ?_) (fun hE => ?_)
      · refine zg_dload_n ok dX4_pullFar_111 rfl 3 rfl ?_
        refine zg_dload ok dX4_pullFar_112 6 rfl ?_
        refine zg_daddE ok dX4_pullFar_114 hE (fun hE => ?_)
        refine zg_letD hE (fun v16 hE => ?_)
        refine zg_sub (L' := [(0, va_rf l0), (1, .int l1), (2, .int l2), (5, .int l5)]) [0, 1, 2, 4] rfl ?_
        exact gt_f_X4_pullFar_J115 hl ok tab fin hRm hb hR hk122 hE
      · refine zg_dload_n ok dX4_pullFar_104 rfl 3 rfl ?_
        refine zg_dload ok dX4_pullFar_105 6 rfl ?_
        refine zg_dsubE ok dX4_pullFar_107 hE (fun hE => ?_)
        refine zg_letD hE (fun v18 hE => ?_)
        refine zg_goto (tgt := 115) ok dX4_pullFar_108 (by decide) ?_
        refine zg_sub (L' := [(0, va_rf l0), (1, .int l1), (2, .int l2), (5, .int l5)]) [0, 1, 2, 4] rfl ?_
        exact gt_f_X4_pullFar_J115 hl ok tab fin hRm hb hR hk122 hE
theorem gt_f_X4_pullFar_L11 {Xc : zw_X} {Q : UInt64 → zw_H → Prop} {X : String → Nat → zw_H → Prop} (hl : (zw_l Xc).stackTraces = false) (ok : zw_ok Xc cX4_pullFar "MultipoleLine$Line" yX4_pullFar.name 13) (tab : zw_tab Xc []) (fin : zw_fin Xc (Option.some Jvm.ClassFile.FieldType.double) (zq_D Q) X 0 0) (hRm : zw_rm Xc = rm_X4_pullFar) {kc ks : Nat} (hb : kc ≤ 0 ∧ ks ≤ 0) {l0 : Option Nat} {l1 : Int32} {l2 : Int32} {k122 : UInt64 → zw_H → Prop} (hk122 : ∀ (l3 : UInt64) (h : zw_H), k122 l3 h → zw_G Xc kc ks 13 h 122 [(3, .double l3)] [])  : ∀ (n9 : Nat) (l3 : UInt64) (l5 : Int32) (h : zw_H), zl3 (f_X4_pullFar_B11 (zw_Zf Xc).2.2.2 Q X k122 l0 l1 l2) n9 l3 l5 h → zw_G Xc kc ks 13 h 11 [(0, va_rf l0), (1, .int l1), (2, .int l2), (3, .double l3), (5, .int l5)] [] := by
  intro n9
  induction n9 with
  | zero => intro l3 l5 h hE; exact hE.elim
  | succ n9 ih => intro l3 l5 h hE; exact gt_f_X4_pullFar_B11 hl ok tab fin hRm hb ih hk122 hE
set_option maxHeartbeats 8000000 in
theorem mt_X4_pullFar {l : Launch} (hl : l.stackTraces = false) {Z : zw_Z} {a0 : Option Nat} {a1 : Int32} {h : zw_H} {Q : UInt64 → zw_H → Prop} {X : String → Nat → zw_H → Prop} (hE : f_X4_pullFar Z.2.2.2 a0 a1 h Q X) : zw_Met l Z yX4_pullFar (ws_ yX4_pullFar cX4_pullFar 13 (Option.some Jvm.ClassFile.FieldType.double)) rm_X4_pullFar [zA a0, zI a1] h (zq_D Q) X := by
  refine zg_start (own := "MultipoleLine$Line") (by decide +kernel) rfl (Nat.le_of_ble_eq_true rfl) hl (fun Xc ok tab fin hRm hXl hXZ => ?_)
  subst hXl
  subst hXZ
  unfold f_X4_pullFar at hE
  refine zg_aload_n ok dX4_pullFar_0 rfl 0 rfl ?_
  refine zg_iload_n ok dX4_pullFar_1 rfl 1 rfl ?_
  refine zg_callV (vs := [zI a1]) (rest := []) (rm := rm_X4_laysFar) ok hRm lk_X4_195 dX4_pullFar_2 hE (fun hE => mt_X4_laysFar hl hE) rfl (Nat.le_of_ble_eq_true rfl) ⟨⟨Nat.le_of_ble_eq_true rfl, Nat.le_of_ble_eq_true rfl⟩, Nat.le_of_ble_eq_true rfl, Nat.le_of_ble_eq_true rfl⟩ (zg_retI (fun v1 h1 hE => ?_)) (zg_xok ok tab fin ⟨Nat.le_of_ble_eq_true rfl, Nat.le_of_ble_eq_true rfl⟩)
  refine zg_cost (kc2 := 0) (ks2 := 0) ⟨rfl, rfl⟩ ?_
  refine zg_istore_n (L' := [(2, .int v1), (0, va_rf a0), (1, .int a1)]) ok dX4_pullFar_5 rfl (by decide) rfl ?_
  refine zg_dconst0 ok dX4_pullFar_6 ?_
  refine zg_dstore_n (L' := [(3, .double FP.dconst0), (2, .int v1), (0, va_rf a0), (1, .int a1)]) ok dX4_pullFar_7 rfl (by decide) rfl ?_
  refine zg_iconst (v := 0) ok dX4_pullFar_8 (by decide) ?_
  refine zg_istore (L' := [(5, .int 0), (3, .double FP.dconst0), (2, .int v1), (0, va_rf a0), (1, .int a1)]) ok dX4_pullFar_9 (by decide) rfl ?_
  refine zg_sub (L' := [(0, va_rf a0), (1, .int a1), (2, .int v1), (3, .double FP.dconst0), (5, .int 0)]) [3, 4, 2, 1, 0] rfl ?_
  refine gt_f_X4_pullFar_L11 hl ok tab fin hRm ⟨Nat.le_of_ble_eq_true rfl, Nat.le_of_ble_eq_true rfl⟩ ?_ _ _ _ _ hE
  · intro v19 h5 hE
    refine zg_dload_n ok dX4_pullFar_122 rfl 0 rfl ?_
    exact zg_dret ok fin dX4_pullFar_123 ⟨Nat.le_of_ble_eq_true rfl, Nat.le_of_ble_eq_true rfl⟩ hE
set_option maxHeartbeats 8000000 in
theorem mt_X1_pullFar {l : Launch} (hl : l.stackTraces = false) {Z : zw_Z} {a0 : Option Nat} {a1 : Int32} {h : zw_H} {Q : UInt64 → zw_H → Prop} {X : String → Nat → zw_H → Prop} (hE : f_X1_pullFar Z.2.2.2 a0 a1 h Q X) : zw_Met l Z yX1_pullFar (ws_ yX1_pullFar cX1_pullFar 2 (Option.some Jvm.ClassFile.FieldType.double)) rm_X1_pullFar [zA a0, zI a1] h (zq_D Q) X := by
  refine zg_start (own := "MultipoleLine") (by decide +kernel) rfl (Nat.le_of_ble_eq_true rfl) hl (fun Xc ok tab fin hRm hXl hXZ => ?_)
  subst hXl
  subst hXZ
  unfold f_X1_pullFar at hE
  refine zg_aload_n ok dX1_pullFar_0 rfl 0 rfl ?_
  refine zg_iload_n ok dX1_pullFar_1 rfl 1 rfl ?_
  refine zg_callV (vs := [zI a1]) (rest := []) (rm := rm_X1_at) ok hRm lk_X1_193 dX1_pullFar_2 hE (fun hE => mt_X1_at hl hE) rfl (Nat.le_of_ble_eq_true rfl) ⟨⟨Nat.le_of_ble_eq_true rfl, Nat.le_of_ble_eq_true rfl⟩, Nat.le_of_ble_eq_true rfl, Nat.le_of_ble_eq_true rfl⟩ (zg_retA (fun v1 h1 hE => ?_)) (zg_xok ok tab fin ⟨Nat.le_of_ble_eq_true rfl, Nat.le_of_ble_eq_true rfl⟩)
  refine zg_cost (kc2 := 2) (ks2 := 12) ⟨rfl, rfl⟩ ?_
  refine zg_iload_n ok dX1_pullFar_5 rfl 1 rfl ?_
  refine zg_callV (vs := [zI a1]) (rest := []) (rm := rm_X4_pullFar) ok hRm lk_X1_337 dX1_pullFar_6 hE (fun hE => mt_X4_pullFar hl hE) rfl (Nat.le_of_ble_eq_true rfl) ⟨⟨Nat.le_of_ble_eq_true rfl, Nat.le_of_ble_eq_true rfl⟩, Nat.le_of_ble_eq_true rfl, Nat.le_of_ble_eq_true rfl⟩ (zg_retD (fun v2 h2 hE => ?_)) (zg_xok ok tab fin ⟨Nat.le_of_ble_eq_true rfl, Nat.le_of_ble_eq_true rfl⟩)
  refine zg_cost (kc2 := 2) (ks2 := 12) ⟨rfl, rfl⟩ ?_
  exact zg_dret ok fin dX1_pullFar_9 ⟨Nat.le_of_ble_eq_true rfl, Nat.le_of_ble_eq_true rfl⟩ hE
set_option maxHeartbeats 8000000 in
theorem mt_X4_pull_2 {l : Launch} (hl : l.stackTraces = false) {Z : zw_Z} {a0 : Option Nat} {a1 : Int32} {h : zw_H} {Q : UInt64 → zw_H → Prop} {X : String → Nat → zw_H → Prop} (hE : f_X4_pull_2 Z.2.2.2 a0 a1 h Q X) : zw_Met l Z yX4_pull_2 (ws_ yX4_pull_2 cX4_pull_2 2 (Option.some Jvm.ClassFile.FieldType.double)) rm_X4_pull_2 [zA a0, zI a1] h (zq_D Q) X := by
  refine zg_start (own := "MultipoleLine$Line") (by decide +kernel) rfl (Nat.le_of_ble_eq_true rfl) hl (fun Xc ok tab fin hRm hXl hXZ => ?_)
  subst hXl
  subst hXZ
  unfold f_X4_pull_2 at hE
  refine zg_aload_n ok dX4_pull_2_0 rfl 0 rfl ?_
  refine zg_iload_n ok dX4_pull_2_1 rfl 1 rfl ?_
  refine zg_iconst (v := 1) ok dX4_pull_2_2 (by decide) ?_
  refine zg_callV (vs := [zI a1, zI 1]) (rest := []) (rm := rm_X4_pull) ok hRm lk_X4_247 dX4_pull_2_3 hE (fun hE => mt_X4_pull hl hE) rfl (Nat.le_of_ble_eq_true rfl) ⟨⟨Nat.le_of_ble_eq_true rfl, Nat.le_of_ble_eq_true rfl⟩, Nat.le_of_ble_eq_true rfl, Nat.le_of_ble_eq_true rfl⟩ (zg_retD (fun v1 h1 hE => ?_)) (zg_xok ok tab fin ⟨Nat.le_of_ble_eq_true rfl, Nat.le_of_ble_eq_true rfl⟩)
  refine zg_cost (kc2 := 0) (ks2 := 0) ⟨rfl, rfl⟩ ?_
  refine zg_aload_n ok dX4_pull_2_6 rfl 0 rfl ?_
  refine zg_iload_n ok dX4_pull_2_7 rfl 1 rfl ?_
  refine zg_callV (vs := [zI a1]) (rest := [.double v1]) (rm := rm_X4_pullFar) ok hRm lk_X4_250 dX4_pull_2_8 hE (fun hE => mt_X4_pullFar hl hE) rfl (Nat.le_of_ble_eq_true rfl) ⟨⟨Nat.le_of_ble_eq_true rfl, Nat.le_of_ble_eq_true rfl⟩, Nat.le_of_ble_eq_true rfl, Nat.le_of_ble_eq_true rfl⟩ (zg_retD (fun v2 h2 hE => ?_)) (zg_xok ok tab fin ⟨Nat.le_of_ble_eq_true rfl, Nat.le_of_ble_eq_true rfl⟩)
  refine zg_cost (kc2 := 0) (ks2 := 0) ⟨rfl, rfl⟩ ?_
  refine zg_daddE ok dX4_pull_2_11 hE (fun hE => ?_)
  refine zg_letD hE (fun v3 hE => ?_)
  exact zg_dret ok fin dX4_pull_2_12 ⟨Nat.le_of_ble_eq_true rfl, Nat.le_of_ble_eq_true rfl⟩ hE
set_option maxHeartbeats 8000000 in
theorem mt_X1_pull {l : Launch} (hl : l.stackTraces = false) {Z : zw_Z} {a0 : Option Nat} {a1 : Int32} {h : zw_H} {Q : UInt64 → zw_H → Prop} {X : String → Nat → zw_H → Prop} (hE : f_X1_pull Z.2.2.2 a0 a1 h Q X) : zw_Met l Z yX1_pull (ws_ yX1_pull cX1_pull 2 (Option.some Jvm.ClassFile.FieldType.double)) rm_X1_pull [zA a0, zI a1] h (zq_D Q) X := by
  refine zg_start (own := "MultipoleLine") (by decide +kernel) rfl (Nat.le_of_ble_eq_true rfl) hl (fun Xc ok tab fin hRm hXl hXZ => ?_)
  subst hXl
  subst hXZ
  unfold f_X1_pull at hE
  refine zg_aload_n ok dX1_pull_0 rfl 0 rfl ?_
  refine zg_iload_n ok dX1_pull_1 rfl 1 rfl ?_
  refine zg_callV (vs := [zI a1]) (rest := []) (rm := rm_X1_at) ok hRm lk_X1_193 dX1_pull_2 hE (fun hE => mt_X1_at hl hE) rfl (Nat.le_of_ble_eq_true rfl) ⟨⟨Nat.le_of_ble_eq_true rfl, Nat.le_of_ble_eq_true rfl⟩, Nat.le_of_ble_eq_true rfl, Nat.le_of_ble_eq_true rfl⟩ (zg_retA (fun v1 h1 hE => ?_)) (zg_xok ok tab fin ⟨Nat.le_of_ble_eq_true rfl, Nat.le_of_ble_eq_true rfl⟩)
  refine zg_cost (kc2 := 2) (ks2 := 12) ⟨rfl, rfl⟩ ?_
  refine zg_iload_n ok dX1_pull_5 rfl 1 rfl ?_
  refine zg_callV (vs := [zI a1]) (rest := []) (rm := rm_X4_pull_2) ok hRm lk_X1_340 dX1_pull_6 hE (fun hE => mt_X4_pull_2 hl hE) rfl (Nat.le_of_ble_eq_true rfl) ⟨⟨Nat.le_of_ble_eq_true rfl, Nat.le_of_ble_eq_true rfl⟩, Nat.le_of_ble_eq_true rfl, Nat.le_of_ble_eq_true rfl⟩ (zg_retD (fun v2 h2 hE => ?_)) (zg_xok ok tab fin ⟨Nat.le_of_ble_eq_true rfl, Nat.le_of_ble_eq_true rfl⟩)
  refine zg_cost (kc2 := 2) (ks2 := 12) ⟨rfl, rfl⟩ ?_
  exact zg_dret ok fin dX1_pull_9 ⟨Nat.le_of_ble_eq_true rfl, Nat.le_of_ble_eq_true rfl⟩ hE
set_option maxHeartbeats 8000000 in
theorem gt_f_X4_goes_J76 {Xc : zw_X} {Q : Int32 → zw_H → Prop} {X : String → Nat → zw_H → Prop} (hl : (zw_l Xc).stackTraces = false) (ok : zw_ok Xc cX4_goes "MultipoleLine$Line" yX4_goes.name 6) (tab : zw_tab Xc []) (fin : zw_fin Xc (Option.some Jvm.ClassFile.FieldType.int) (zq_I Q) X 0 0) (hRm : zw_rm Xc = rm_X4_goes)   {s0 : Int32} {h : zw_H} (hE : f_X4_goes_J76 (zw_Zf Xc).2.2.2 Q X  s0 h) : zw_G Xc 0 0 6 h 76 [] [.int s0] := by
  unfold f_X4_goes_J76 at hE
  refine zg_callSN (vs := [zI s0]) (rest := []) (rm := rm_X1_flag) ok hRm lk_X4_82 dX4_goes_76 hE (fun hE => mt_X1_flag hl hE) rfl (Nat.le_of_ble_eq_true rfl) ⟨⟨Nat.le_of_ble_eq_true rfl, Nat.le_of_ble_eq_true rfl⟩, Nat.le_of_ble_eq_true rfl, Nat.le_of_ble_eq_true rfl⟩ (zg_retI (fun v8 h2 hE => ?_)) (zg_xok ok tab fin ⟨Nat.le_of_ble_eq_true rfl, Nat.le_of_ble_eq_true rfl⟩)
  refine zg_cost (kc2 := 0) (ks2 := 0) ⟨rfl, rfl⟩ ?_
  refine zg_ineg ok dX4_goes_79 ?_
  refine zg_goto (tgt := 84) ok dX4_goes_80 (by decide) ?_
  exact zg_iret ok fin dX4_goes_84 ⟨Nat.le_of_ble_eq_true rfl, Nat.le_of_ble_eq_true rfl⟩ hE
set_option maxHeartbeats 8000000 in
theorem gt_f_X4_goes_J51 {Xc : zw_X} {Q : Int32 → zw_H → Prop} {X : String → Nat → zw_H → Prop} (hl : (zw_l Xc).stackTraces = false) (ok : zw_ok Xc cX4_goes "MultipoleLine$Line" yX4_goes.name 6) (tab : zw_tab Xc []) (fin : zw_fin Xc (Option.some Jvm.ClassFile.FieldType.int) (zq_I Q) X 0 0) (hRm : zw_rm Xc = rm_X4_goes)   {s0 : Int32} {h : zw_H} (hE : f_X4_goes_J51 (zw_Zf Xc).2.2.2 Q X  s0 h) : zw_G Xc 0 0 6 h 51 [] [.int s0] := by
  unfold f_X4_goes_J51 at hE
  refine zg_callSN (vs := [zI s0]) (rest := []) (rm := rm_X1_flag) ok hRm lk_X4_82 dX4_goes_51 hE (fun hE => mt_X1_flag hl hE) rfl (Nat.le_of_ble_eq_true rfl) ⟨⟨Nat.le_of_ble_eq_true rfl, Nat.le_of_ble_eq_true rfl⟩, Nat.le_of_ble_eq_true rfl, Nat.le_of_ble_eq_true rfl⟩ (zg_retI (fun v10 h3 hE => ?_)) (zg_xok ok tab fin ⟨Nat.le_of_ble_eq_true rfl, Nat.le_of_ble_eq_true rfl⟩)
  refine zg_cost (kc2 := 0) (ks2 := 0) ⟨rfl, rfl⟩ ?_
  exact zg_iret ok fin dX4_goes_54 ⟨Nat.le_of_ble_eq_true rfl, Nat.le_of_ble_eq_true rfl⟩ hE
set_option maxHeartbeats 8000000 in
theorem mt_X4_goes {l : Launch} (hl : l.stackTraces = false) {Z : zw_Z} {a0 : Option Nat} {a1 : Option Nat} {h : zw_H} {Q : Int32 → zw_H → Prop} {X : String → Nat → zw_H → Prop} (hE : f_X4_goes Z.2.2.2 a0 a1 h Q X) : zw_Met l Z yX4_goes (ws_ yX4_goes cX4_goes 6 (Option.some Jvm.ClassFile.FieldType.int)) rm_X4_goes [zA a0, zA a1] h (zq_I Q) X := by
  refine zg_start (own := "MultipoleLine$Line") (by decide +kernel) rfl (Nat.le_of_ble_eq_true rfl) hl (fun Xc ok tab fin hRm hXl hXZ => ?_)
  subst hXl
  subst hXZ
  unfold f_X4_goes at hE
  refine zg_aload_n ok dX4_goes_0 rfl 1 rfl ?_
  refine zg_getI ok lf_X4_78 dX4_goes_1 hE (fun v1 hE => ?_)
  refine zg_if_ne (tgt := 9) ok dX4_goes_4 (by decide) hE (fun hE => ?_) (fun hE => ?_)
  · refine zg_aload_n ok dX4_goes_9 rfl 0 rfl ?_
    refine zg_aload_n ok dX4_goes_10 rfl 1 rfl ?_
    refine zg_getI ok lf_X4_86 dX4_goes_11 hE (fun v2 hE => ?_)
    refine zg_callV (vs := [zI v2]) (rest := []) (rm := rm_X4_pull_2) ok hRm lk_X4_253 dX4_goes_14 hE (fun hE => mt_X4_pull_2 hl hE) rfl (Nat.le_of_ble_eq_true rfl) ⟨⟨Nat.le_of_ble_eq_true rfl, Nat.le_of_ble_eq_true rfl⟩, Nat.le_of_ble_eq_true rfl, Nat.le_of_ble_eq_true rfl⟩ (zg_retD (fun v3 h1 hE => ?_)) (zg_xok ok tab fin ⟨Nat.le_of_ble_eq_true rfl, Nat.le_of_ble_eq_true rfl⟩)
    refine zg_cost (kc2 := 0) (ks2 := 0) ⟨rfl, rfl⟩ ?_
    refine zg_dstore_nR (L' := [(2, .double v3), (0, va_rf a0), (1, va_rf a1)]) ok dX4_goes_17 rfl (by decide) 1 rfl rfl rfl ?_
    refine zg_aload_n ok dX4_goes_18 rfl 1 rfl ?_
    refine zg_getI ok lf_X4_64 dX4_goes_19 hE (fun v4 hE => ?_)
    refine zg_i2d ok dX4_goes_22 ?_
    refine zg_ldc2d (v := (4652007308841189376 : UInt64)) ok q1961 dX4_goes_23 ?_
    refine zg_ddivE ok dX4_goes_26 hE (fun hE => ?_)
    refine zg_letD hE (fun v5 hE => ?_)
    refine zg_dstore (L' := [(4, .double v5), (2, .double v3), (0, va_rf a0), (1, va_rf a1)]) ok dX4_goes_27 (by decide) rfl ?_
    refine zg_dload_n ok dX4_goes_29 rfl 1 rfl ?_
    refine zg_dload ok dX4_goes_30 0 rfl ?_
    refine zg_dcmp ok dX4_goes_32 ?_
    refine zg_if_le (tgt := 55) ok dX4_goes_33 (by decide) hE (fun hE => ?_) (fun hE => ?_)
    · refine zg_dload_n ok dX4_goes_55 rfl 1 rfl ?_
      refine zg_dconst0 ok dX4_goes_56 ?_
      refine zg_dload ok dX4_goes_57 0 rfl ?_
      refine zg_dsubE ok dX4_goes_59 hE (fun hE => ?_)
      refine zg_letD hE (fun v6 hE => ?_)
      refine zg_dcmp ok dX4_goes_60 ?_
      refine zg_if_ge (tgt := 83) ok dX4_goes_61 (by decide) hE (fun hE => ?_) (fun hE => ?_)
      · refine zg_iconst (v := 0) ok dX4_goes_83 (by decide) ?_
        exact zg_iret ok fin dX4_goes_84 ⟨Nat.le_of_ble_eq_true rfl, Nat.le_of_ble_eq_true rfl⟩ hE
      · refine zg_aload_n ok dX4_goes_64 rfl 3 rfl ?_
        refine zg_getI ok lf_X4_86 dX4_goes_65 hE (fun v7 hE => ?_)
        refine zg_if_le (tgt := 75) ok dX4_goes_68 (by decide) hE (fun hE => ?_) (fun hE => ?_)
        · refine zg_iconst (v := 0) ok dX4_goes_75 (by decide) ?_
          refine zg_sub (L' := []) [] rfl ?_
          exact gt_f_X4_goes_J76 hl ok tab fin hRm  hE
        · refine zg_iconst (v := 1) ok dX4_goes_71 (by decide) ?_
          refine zg_goto (tgt := 76) ok dX4_goes_72 (by decide) ?_
          refine zg_sub (L' := []) [] rfl ?_
          exact gt_f_X4_goes_J76 hl ok tab fin hRm  hE
    · refine zg_aload_n ok dX4_goes_36 rfl 3 rfl ?_
      refine zg_getI ok lf_X4_86 dX4_goes_37 hE (fun v9 hE => ?_)
      refine zg_sipush (v := 255) ok dX4_goes_40 (by decide) ?_
      refine zg_icmp_ge (tgt := 50) ok dX4_goes_43 (by decide) hE (fun hE => ?_) (fun hE => ?_)
      · refine zg_iconst (v := 0) ok dX4_goes_50 (by decide) ?_
        refine zg_sub (L' := []) [] rfl ?_
        exact gt_f_X4_goes_J51 hl ok tab fin hRm  hE
      · refine zg_iconst (v := 1) ok dX4_goes_46 (by decide) ?_
        refine zg_goto (tgt := 51) ok dX4_goes_47 (by decide) ?_
        refine zg_sub (L' := []) [] rfl ?_
        exact gt_f_X4_goes_J51 hl ok tab fin hRm  hE
  · refine zg_iconst (v := 0) ok dX4_goes_7 (by decide) ?_
    exact zg_iret ok fin dX4_goes_8 ⟨Nat.le_of_ble_eq_true rfl, Nat.le_of_ble_eq_true rfl⟩ hE
set_option maxHeartbeats 8000000 in
theorem mt_X1_willMove {l : Launch} (hl : l.stackTraces = false) {Z : zw_Z} {a0 : Option Nat} {a1 : Int32} {h : zw_H} {Q : Int32 → zw_H → Prop} {X : String → Nat → zw_H → Prop} (hE : f_X1_willMove Z.2.2.2 a0 a1 h Q X) : zw_Met l Z yX1_willMove (ws_ yX1_willMove cX1_willMove 3 (Option.some Jvm.ClassFile.FieldType.int)) rm_X1_willMove [zA a0, zI a1] h (zq_I Q) X := by
  refine zg_start (own := "MultipoleLine") (by decide +kernel) rfl (Nat.le_of_ble_eq_true rfl) hl (fun Xc ok tab fin hRm hXl hXZ => ?_)
  subst hXl
  subst hXZ
  unfold f_X1_willMove at hE
  refine zg_aload_n ok dX1_willMove_0 rfl 0 rfl ?_
  refine zg_iload_n ok dX1_willMove_1 rfl 1 rfl ?_
  refine zg_callV (vs := [zI a1]) (rest := []) (rm := rm_X1_bodyOf) ok hRm lk_X1_174 dX1_willMove_2 hE (fun hE => mt_X1_bodyOf hl hE) rfl (Nat.le_of_ble_eq_true rfl) ⟨⟨Nat.le_of_ble_eq_true rfl, Nat.le_of_ble_eq_true rfl⟩, Nat.le_of_ble_eq_true rfl, Nat.le_of_ble_eq_true rfl⟩ (zg_retA (fun v1 h1 hE => ?_)) (zg_xok ok tab fin ⟨Nat.le_of_ble_eq_true rfl, Nat.le_of_ble_eq_true rfl⟩)
  refine zg_cost (kc2 := 2) (ks2 := 12) ⟨rfl, rfl⟩ ?_
  refine zg_astore_n (L' := [(2, va_rf v1), (0, va_rf a0), (1, .int a1)]) ok dX1_willMove_5 rfl (by decide) rfl ?_
  refine zg_aload_n ok dX1_willMove_6 rfl 1 rfl ?_
  refine zg_getA ok lf_X1_68 dX1_willMove_7 hE (fun v2 hE => ?_)
  refine zg_aload_n ok dX1_willMove_10 rfl 0 rfl ?_
  refine zg_callV (vs := [zA v1]) (rest := []) (rm := rm_X4_goes) ok hRm lk_X1_342 dX1_willMove_11 hE (fun hE => mt_X4_goes hl hE) rfl (Nat.le_of_ble_eq_true rfl) ⟨⟨Nat.le_of_ble_eq_true rfl, Nat.le_of_ble_eq_true rfl⟩, Nat.le_of_ble_eq_true rfl, Nat.le_of_ble_eq_true rfl⟩ (zg_retI (fun v3 h2 hE => ?_)) (zg_xok ok tab fin ⟨Nat.le_of_ble_eq_true rfl, Nat.le_of_ble_eq_true rfl⟩)
  refine zg_cost (kc2 := 2) (ks2 := 12) ⟨rfl, rfl⟩ ?_
  exact zg_iret ok fin dX1_willMove_14 ⟨Nat.le_of_ble_eq_true rfl, Nat.le_of_ble_eq_true rfl⟩ hE
set_option maxHeartbeats 8000000 in
theorem mt_X1_checkSteps {l : Launch} (hl : l.stackTraces = false) {Z : zw_Z} {a0 : Int32} {a1 : Int32} {h : zw_H} {Q : zw_H → Prop} {X : String → Nat → zw_H → Prop} (hE : f_X1_checkSteps Z.2.2.2 a0 a1 h Q X) : zw_Met l Z yX1_checkSteps (ws_ yX1_checkSteps cX1_checkSteps 2 (Option.none : Option Jvm.ClassFile.FieldType)) rm_X1_checkSteps [zI a0, zI a1] h (zq_V Q) X := by
  refine zg_start (own := "MultipoleLine") (by decide +kernel) rfl (Nat.le_of_ble_eq_true rfl) hl (fun Xc ok tab fin hRm hXl hXZ => ?_)
  subst hXl
  subst hXZ
  unfold f_X1_checkSteps at hE
  refine zg_iload_n ok dX1_checkSteps_0 rfl 0 rfl ?_
  refine zg_i2l ok dX1_checkSteps_1 ?_
  refine zg_iload_n ok dX1_checkSteps_2 rfl 1 rfl ?_
  refine zg_i2l ok dX1_checkSteps_3 ?_
  refine zg_ldc2 (v := (50 : Int64)) ok q1972 dX1_checkSteps_4 ?_
  refine zg_callS (vs := [zJ a0.toInt64, zJ a1.toInt64, zJ (50 : Int64)]) (rest := []) (rm := rm_X1_in) ok hRm lk_X1_58 dX1_checkSteps_7 hE (fun hE => mt_X1_in hl hE) rfl (Nat.le_of_ble_eq_true rfl) ⟨⟨Nat.le_of_ble_eq_true rfl, Nat.le_of_ble_eq_true rfl⟩, Nat.le_of_ble_eq_true rfl, Nat.le_of_ble_eq_true rfl⟩ (zg_retI (fun v1 h1 hE => ?_)) (zg_xok ok tab fin ⟨Nat.le_of_ble_eq_true rfl, Nat.le_of_ble_eq_true rfl⟩)
  refine zg_cost (kc2 := 0) (ks2 := 0) ⟨rfl, rfl⟩ ?_
  refine zg_callS (vs := [zI v1]) (rest := []) (rm := rm_X1_checkArgument) ok hRm lk_X1_98 dX1_checkSteps_10 hE (fun hE => mt_X1_checkArgument hl hE) rfl (Nat.le_of_ble_eq_true rfl) ⟨⟨Nat.le_of_ble_eq_true rfl, Nat.le_of_ble_eq_true rfl⟩, Nat.le_of_ble_eq_true rfl, Nat.le_of_ble_eq_true rfl⟩ (zg_retV (fun h2 hE => ?_)) (zg_xok ok tab fin ⟨Nat.le_of_ble_eq_true rfl, Nat.le_of_ble_eq_true rfl⟩)
  refine zg_cost (kc2 := 1) (ks2 := 6) ⟨rfl, rfl⟩ ?_
  exact zg_vret ok fin dX1_checkSteps_13 ⟨Nat.le_of_ble_eq_true rfl, Nat.le_of_ble_eq_true rfl⟩ hE
set_option maxHeartbeats 8000000 in
theorem mt_X8_same {l : Launch} (hl : l.stackTraces = false) {Z : zw_Z} {a0 : Option Nat} {h : zw_H} {Q : Option Nat → zw_H → Prop} {X : String → Nat → zw_H → Prop} (hE : f_X8_same Z.2.2.2 a0 h Q X) : zw_Met l Z yX8_same (ws_ yX8_same cX8_same 1 (Option.some (Jvm.ClassFile.FieldType.object "MultipoleLine$Body"))) rm_X8_same [zA a0] h (zq_A Q) X := by
  refine zg_start (own := "MultipoleLine$Fixed") (by decide +kernel) rfl (Nat.le_of_ble_eq_true rfl) hl (fun Xc ok tab fin hRm hXl hXZ => ?_)
  subst hXl
  subst hXZ
  unfold f_X8_same at hE
  refine zg_new ok ln_X8_7 (by rw [hRm]; exact ⟨Nat.le_of_ble_eq_true rfl, Nat.le_of_ble_eq_true rfl⟩) dX8_same_0 hE (fun v1 h1 hE => ?_)
  refine zg_cost (kc2 := 1) (ks2 := 4) ⟨rfl, rfl⟩ ?_
  refine zg_dup ok dX8_same_3 (zw_rfc _) ?_
  refine zg_callI (vs := []) (rest := [va_rf (some v1)]) (rm := rm_X8_init) ok hRm lk_X8_9 dX8_same_4 (by simp) hE (fun hE => mt_X8_init hl hE) rfl (Nat.le_of_ble_eq_true rfl) ⟨⟨Nat.le_of_ble_eq_true rfl, Nat.le_of_ble_eq_true rfl⟩, Nat.le_of_ble_eq_true rfl, Nat.le_of_ble_eq_true rfl⟩ (zg_retV (fun h2 hE => ?_)) (zg_xok ok tab fin ⟨Nat.le_of_ble_eq_true rfl, Nat.le_of_ble_eq_true rfl⟩)
  refine zg_cost (kc2 := 1) (ks2 := 4) ⟨rfl, rfl⟩ ?_
  exact zg_aret ok fin (Or.inl ⟨_, rfl⟩) dX8_same_7 ⟨Nat.le_of_ble_eq_true rfl, Nat.le_of_ble_eq_true rfl⟩ hE
set_option maxHeartbeats 8000000 in
theorem mt_X9_same {l : Launch} (hl : l.stackTraces = false) {Z : zw_Z} {a0 : Option Nat} {h : zw_H} {Q : Option Nat → zw_H → Prop} {X : String → Nat → zw_H → Prop} (hE : f_X9_same Z.2.2.2 a0 h Q X) : zw_Met l Z yX9_same (ws_ yX9_same cX9_same 1 (Option.some (Jvm.ClassFile.FieldType.object "MultipoleLine$Body"))) rm_X9_same [zA a0] h (zq_A Q) X := by
  refine zg_start (own := "MultipoleLine$Free") (by decide +kernel) rfl (Nat.le_of_ble_eq_true rfl) hl (fun Xc ok tab fin hRm hXl hXZ => ?_)
  subst hXl
  subst hXZ
  unfold f_X9_same at hE
  refine zg_new ok ln_X9_7 (by rw [hRm]; exact ⟨Nat.le_of_ble_eq_true rfl, Nat.le_of_ble_eq_true rfl⟩) dX9_same_0 hE (fun v1 h1 hE => ?_)
  refine zg_cost (kc2 := 1) (ks2 := 4) ⟨rfl, rfl⟩ ?_
  refine zg_dup ok dX9_same_3 (zw_rfc _) ?_
  refine zg_callI (vs := []) (rest := [va_rf (some v1)]) (rm := rm_X9_init) ok hRm lk_X9_9 dX9_same_4 (by simp) hE (fun hE => mt_X9_init hl hE) rfl (Nat.le_of_ble_eq_true rfl) ⟨⟨Nat.le_of_ble_eq_true rfl, Nat.le_of_ble_eq_true rfl⟩, Nat.le_of_ble_eq_true rfl, Nat.le_of_ble_eq_true rfl⟩ (zg_retV (fun h2 hE => ?_)) (zg_xok ok tab fin ⟨Nat.le_of_ble_eq_true rfl, Nat.le_of_ble_eq_true rfl⟩)
  refine zg_cost (kc2 := 1) (ks2 := 4) ⟨rfl, rfl⟩ ?_
  exact zg_aret ok fin (Or.inl ⟨_, rfl⟩) dX9_same_7 ⟨Nat.le_of_ble_eq_true rfl, Nat.le_of_ble_eq_true rfl⟩ hE
set_option maxHeartbeats 8000000 in
theorem mt_X7_copy {l : Launch} (hl : l.stackTraces = false) {Z : zw_Z} {a0 : Option Nat} {h : zw_H} {Q : Option Nat → zw_H → Prop} {X : String → Nat → zw_H → Prop} (hE : f_X7_copy Z.2.2.2 a0 h Q X) : zw_Met l Z yX7_copy (ws_ yX7_copy cX7_copy 2 (Option.some (Jvm.ClassFile.FieldType.object "MultipoleLine$Body"))) rm_X7_copy [zA a0] h (zq_A Q) X := by
  refine zg_start (own := "MultipoleLine$Body") (by decide +kernel) rfl (Nat.le_of_ble_eq_true rfl) hl (fun Xc ok tab fin hRm hXl hXZ => ?_)
  subst hXl
  subst hXZ
  unfold f_X7_copy at hE
  refine zg_aload_n ok dX7_copy_0 rfl 0 rfl ?_
  rcases od_some hE with ⟨a9, hr9, hE⟩ | ⟨a9, hr9, hE⟩
  · refine zg_callU (vs := []) (rest := []) (rm := rm_X8_same) ok hRm lk_X7_19_6 dX7_copy_1 hE (fun hE => mt_X8_same hl hE) rfl (Nat.le_of_ble_eq_true rfl) ⟨⟨Nat.le_of_ble_eq_true rfl, Nat.le_of_ble_eq_true rfl⟩, Nat.le_of_ble_eq_true rfl, Nat.le_of_ble_eq_true rfl⟩ (zg_retA (fun v1 h1 hE => ?_)) (zg_xok ok tab fin ⟨Nat.le_of_ble_eq_true rfl, Nat.le_of_ble_eq_true rfl⟩)
    refine zg_wide (kc2 := 1) (ks2 := 4) (Nat.le_of_ble_eq_true rfl) (Nat.le_of_ble_eq_true rfl) ?_
    refine zg_aload_n ok dX7_copy_4 rfl 0 rfl ?_
    refine zg_getI ok lf_X7_7 dX7_copy_5 hE (fun v2 hE => ?_)
    refine zg_aload_n ok dX7_copy_8 rfl 0 rfl ?_
    refine zg_getI ok lf_X7_13 dX7_copy_9 hE (fun v3 hE => ?_)
    refine zg_aload_n ok dX7_copy_12 rfl 0 rfl ?_
    refine zg_getI ok lf_X7_16 dX7_copy_13 hE (fun v4 hE => ?_)
    rcases od_some hE with ⟨a9, hr9, hE⟩ | ⟨a9, hr9, hE⟩
    · refine zg_callU (vs := [zI v2, zI v3, zI v4]) (rest := []) (rm := rm_X7_be) ok hRm lk_X7_23_6 dX7_copy_16 hE (fun hE => mt_X7_be hl hE) rfl (Nat.le_of_ble_eq_true rfl) ⟨⟨Nat.le_of_ble_eq_true rfl, Nat.le_of_ble_eq_true rfl⟩, Nat.le_of_ble_eq_true rfl, Nat.le_of_ble_eq_true rfl⟩ (zg_retA (fun v5 h2 hE => ?_)) (zg_xok ok tab fin ⟨Nat.le_of_ble_eq_true rfl, Nat.le_of_ble_eq_true rfl⟩)
      refine zg_wide (kc2 := 1) (ks2 := 4) (Nat.le_of_ble_eq_true rfl) (Nat.le_of_ble_eq_true rfl) ?_
      refine zg_astore_nR (L' := [(1, va_rf v5), (0, va_rf a0)]) ok dX7_copy_19 rfl (by decide) 0 rfl rfl rfl ?_
      refine zg_aload_n ok dX7_copy_20 rfl 0 rfl ?_
      refine zg_aload_n ok dX7_copy_21 rfl 1 rfl ?_
      refine zg_getI ok lf_X7_27 dX7_copy_22 hE (fun v6 hE => ?_)
      obtain ⟨hn9, hE⟩ := hE
      refine zg_put (ty := .boolean) ok lf_X7_27 (Or.inl rfl) (by decide) (by decide +kernel) hn9.1 hn9.2 dX7_copy_25 hE (fun h3 hE => ?_)
      refine zg_aload_n ok dX7_copy_28 rfl 0 rfl ?_
      exact zg_aret ok fin (Or.inl ⟨_, rfl⟩) dX7_copy_29 ⟨Nat.le_of_ble_eq_true rfl, Nat.le_of_ble_eq_true rfl⟩ hE
    · refine zg_callU (vs := [zI v2, zI v3, zI v4]) (rest := []) (rm := rm_X7_be) ok hRm lk_X7_23_7 dX7_copy_16 hE (fun hE => mt_X7_be hl hE) rfl (Nat.le_of_ble_eq_true rfl) ⟨⟨Nat.le_of_ble_eq_true rfl, Nat.le_of_ble_eq_true rfl⟩, Nat.le_of_ble_eq_true rfl, Nat.le_of_ble_eq_true rfl⟩ (zg_retA (fun v5 h2 hE => ?_)) (zg_xok ok tab fin ⟨Nat.le_of_ble_eq_true rfl, Nat.le_of_ble_eq_true rfl⟩)
      refine zg_wide (kc2 := 1) (ks2 := 4) (Nat.le_of_ble_eq_true rfl) (Nat.le_of_ble_eq_true rfl) ?_
      refine zg_astore_nR (L' := [(1, va_rf v5), (0, va_rf a0)]) ok dX7_copy_19 rfl (by decide) 0 rfl rfl rfl ?_
      refine zg_aload_n ok dX7_copy_20 rfl 0 rfl ?_
      refine zg_aload_n ok dX7_copy_21 rfl 1 rfl ?_
      refine zg_getI ok lf_X7_27 dX7_copy_22 hE (fun v6 hE => ?_)
      obtain ⟨hn9, hE⟩ := hE
      refine zg_put (ty := .boolean) ok lf_X7_27 (Or.inl rfl) (by decide) (by decide +kernel) hn9.1 hn9.2 dX7_copy_25 hE (fun h3 hE => ?_)
      refine zg_aload_n ok dX7_copy_28 rfl 0 rfl ?_
      exact zg_aret ok fin (Or.inl ⟨_, rfl⟩) dX7_copy_29 ⟨Nat.le_of_ble_eq_true rfl, Nat.le_of_ble_eq_true rfl⟩ hE
  · refine zg_callU (vs := []) (rest := []) (rm := rm_X9_same) ok hRm lk_X7_19_7 dX7_copy_1 hE (fun hE => mt_X9_same hl hE) rfl (Nat.le_of_ble_eq_true rfl) ⟨⟨Nat.le_of_ble_eq_true rfl, Nat.le_of_ble_eq_true rfl⟩, Nat.le_of_ble_eq_true rfl, Nat.le_of_ble_eq_true rfl⟩ (zg_retA (fun v1 h1 hE => ?_)) (zg_xok ok tab fin ⟨Nat.le_of_ble_eq_true rfl, Nat.le_of_ble_eq_true rfl⟩)
    refine zg_wide (kc2 := 1) (ks2 := 4) (Nat.le_of_ble_eq_true rfl) (Nat.le_of_ble_eq_true rfl) ?_
    refine zg_aload_n ok dX7_copy_4 rfl 0 rfl ?_
    refine zg_getI ok lf_X7_7 dX7_copy_5 hE (fun v2 hE => ?_)
    refine zg_aload_n ok dX7_copy_8 rfl 0 rfl ?_
    refine zg_getI ok lf_X7_13 dX7_copy_9 hE (fun v3 hE => ?_)
    refine zg_aload_n ok dX7_copy_12 rfl 0 rfl ?_
    refine zg_getI ok lf_X7_16 dX7_copy_13 hE (fun v4 hE => ?_)
    rcases od_some hE with ⟨a9, hr9, hE⟩ | ⟨a9, hr9, hE⟩
    · refine zg_callU (vs := [zI v2, zI v3, zI v4]) (rest := []) (rm := rm_X7_be) ok hRm lk_X7_23_6 dX7_copy_16 hE (fun hE => mt_X7_be hl hE) rfl (Nat.le_of_ble_eq_true rfl) ⟨⟨Nat.le_of_ble_eq_true rfl, Nat.le_of_ble_eq_true rfl⟩, Nat.le_of_ble_eq_true rfl, Nat.le_of_ble_eq_true rfl⟩ (zg_retA (fun v5 h2 hE => ?_)) (zg_xok ok tab fin ⟨Nat.le_of_ble_eq_true rfl, Nat.le_of_ble_eq_true rfl⟩)
      refine zg_wide (kc2 := 1) (ks2 := 4) (Nat.le_of_ble_eq_true rfl) (Nat.le_of_ble_eq_true rfl) ?_
      refine zg_astore_nR (L' := [(1, va_rf v5), (0, va_rf a0)]) ok dX7_copy_19 rfl (by decide) 0 rfl rfl rfl ?_
      refine zg_aload_n ok dX7_copy_20 rfl 0 rfl ?_
      refine zg_aload_n ok dX7_copy_21 rfl 1 rfl ?_
      refine zg_getI ok lf_X7_27 dX7_copy_22 hE (fun v6 hE => ?_)
      obtain ⟨hn9, hE⟩ := hE
      refine zg_put (ty := .boolean) ok lf_X7_27 (Or.inl rfl) (by decide) (by decide +kernel) hn9.1 hn9.2 dX7_copy_25 hE (fun h3 hE => ?_)
      refine zg_aload_n ok dX7_copy_28 rfl 0 rfl ?_
      exact zg_aret ok fin (Or.inl ⟨_, rfl⟩) dX7_copy_29 ⟨Nat.le_of_ble_eq_true rfl, Nat.le_of_ble_eq_true rfl⟩ hE
    · refine zg_callU (vs := [zI v2, zI v3, zI v4]) (rest := []) (rm := rm_X7_be) ok hRm lk_X7_23_7 dX7_copy_16 hE (fun hE => mt_X7_be hl hE) rfl (Nat.le_of_ble_eq_true rfl) ⟨⟨Nat.le_of_ble_eq_true rfl, Nat.le_of_ble_eq_true rfl⟩, Nat.le_of_ble_eq_true rfl, Nat.le_of_ble_eq_true rfl⟩ (zg_retA (fun v5 h2 hE => ?_)) (zg_xok ok tab fin ⟨Nat.le_of_ble_eq_true rfl, Nat.le_of_ble_eq_true rfl⟩)
      refine zg_wide (kc2 := 1) (ks2 := 4) (Nat.le_of_ble_eq_true rfl) (Nat.le_of_ble_eq_true rfl) ?_
      refine zg_astore_nR (L' := [(1, va_rf v5), (0, va_rf a0)]) ok dX7_copy_19 rfl (by decide) 0 rfl rfl rfl ?_
      refine zg_aload_n ok dX7_copy_20 rfl 0 rfl ?_
      refine zg_aload_n ok dX7_copy_21 rfl 1 rfl ?_
      refine zg_getI ok lf_X7_27 dX7_copy_22 hE (fun v6 hE => ?_)
      obtain ⟨hn9, hE⟩ := hE
      refine zg_put (ty := .boolean) ok lf_X7_27 (Or.inl rfl) (by decide) (by decide +kernel) hn9.1 hn9.2 dX7_copy_25 hE (fun h3 hE => ?_)
      refine zg_aload_n ok dX7_copy_28 rfl 0 rfl ?_
      exact zg_aret ok fin (Or.inl ⟨_, rfl⟩) dX7_copy_29 ⟨Nat.le_of_ble_eq_true rfl, Nat.le_of_ble_eq_true rfl⟩ hE
set_option maxHeartbeats 8000000 in
theorem gt_f_X4_copy_B10 {Xc : zw_X} {Q : Option Nat → zw_H → Prop} {X : String → Nat → zw_H → Prop} (hl : (zw_l Xc).stackTraces = false) (ok : zw_ok Xc cX4_copy "MultipoleLine$Line" yX4_copy.name 3) (tab : zw_tab Xc []) (fin : zw_fin Xc (Option.some (Jvm.ClassFile.FieldType.object "MultipoleLine$Line")) (zq_A Q) X 293 2357) (hRm : zw_rm Xc = rm_X4_copy) {kb sb KE SE : Nat} (hk : kb + 2 ≤ KE ∧ sb + 44 ≤ SE) (hKE : KE ≤ 293 ∧ SE ≤ 2357) {R : Int32 → zw_H → Prop} {l0 : Option Nat} {l1 : Option Nat} (hR : ∀ (l2 : Int32) (h : zw_H), R l2 h → zw_G Xc (kb + 2) (sb + 44) 3 h 10 [(0, va_rf l0), (1, va_rf l1), (2, .int l2)] []) {k42 : zw_H → Prop} (hk42 : ∀  (h : zw_H), k42  h → zw_G Xc KE SE 3 h 42 [(0, va_rf l0), (1, va_rf l1)] [])  {l2 : Int32} {h : zw_H} (hE : f_X4_copy_B10 (zw_Zf Xc).2.2.2 Q X k42 l0 l1 R l2 h) : zw_G Xc kb sb 3 h 10 [(0, va_rf l0), (1, va_rf l1), (2, .int l2)] [] := by
  unfold f_X4_copy_B10 at hE
  refine zg_iload_n ok dX4_copy_10 rfl 2 rfl ?_
  refine zg_aload_n ok dX4_copy_11 rfl 0 rfl ?_
  refine zg_callV (vs := []) (rest := [.int l2]) (rm := rm_X4_size) ok hRm lk_X4_37 dX4_copy_12 hE (fun hE => mt_X4_size hl hE) rfl (Nat.le_of_ble_eq_true rfl) ⟨⟨Nat.le_of_ble_eq_true rfl, Nat.le_of_ble_eq_true rfl⟩, (by show kb + 0 ≤ 293; omega), (by show sb + 0 ≤ 2357; omega)⟩ (zg_retI (fun v2 h3 hE => ?_)) (zg_xok ok tab fin ⟨(by show kb + 0 ≤ 293; omega), (by show sb + 0 ≤ 2357; omega)⟩)
  refine zg_cost (kc2 := kb) (ks2 := sb) ⟨(by show kb + 0 = kb; omega), (by show sb + 0 = sb; omega)⟩ ?_
  refine zg_icmp_ge (tgt := 42) ok dX4_copy_15 (by decide) hE (fun hE => ?_) (fun hE => ?_)
  · refine zg_wide (kc2 := KE) (ks2 := SE) (by omega) (by omega) ?_
    refine zg_sub (L' := [(0, va_rf l0), (1, va_rf l1)]) [0, 1] rfl ?_
    exact hk42 _ hE
  · refine zg_aload_n ok dX4_copy_18 rfl 1 rfl ?_
    refine zg_getA ok lf_X4_12 dX4_copy_19 hE (fun v3 hE => ?_)
    refine zg_aload_n ok dX4_copy_22 rfl 0 rfl ?_
    refine zg_iload_n ok dX4_copy_23 rfl 2 rfl ?_
    refine zg_callV (vs := [zI l2]) (rest := [va_rf v3]) (rm := rm_X4_at) ok hRm lk_X4_41 dX4_copy_24 hE (fun hE => mt_X4_at hl hE) rfl (Nat.le_of_ble_eq_true rfl) ⟨⟨Nat.le_of_ble_eq_true rfl, Nat.le_of_ble_eq_true rfl⟩, (by show kb + 0 ≤ 293; omega), (by show sb + 0 ≤ 2357; omega)⟩ (zg_retA (fun v4 h4 hE => ?_)) (zg_xok ok tab fin ⟨(by show kb + 0 ≤ 293; omega), (by show sb + 0 ≤ 2357; omega)⟩)
    refine zg_cost (kc2 := kb) (ks2 := sb) ⟨(by show kb + 0 = kb; omega), (by show sb + 0 = sb; omega)⟩ ?_
    rcases od_some hE with ⟨a9, hr9, hE⟩ | ⟨a9, hr9, hE⟩
    · refine zg_callU (vs := []) (rest := [va_rf v3]) (rm := rm_X7_copy) ok hRm lk_X4_45_6 dX4_copy_27 hE (fun hE => mt_X7_copy hl hE) rfl (Nat.le_of_ble_eq_true rfl) ⟨⟨Nat.le_of_ble_eq_true rfl, Nat.le_of_ble_eq_true rfl⟩, (by show kb + 1 ≤ 293; omega), (by show sb + 4 ≤ 2357; omega)⟩ (zg_retA (fun v5 h5 hE => ?_)) (zg_xok ok tab fin ⟨(by show kb + 1 ≤ 293; omega), (by show sb + 4 ≤ 2357; omega)⟩)
      refine zg_wide (kc2 := kb + 1) (ks2 := sb + 4) (by show kb + 1 ≤ kb + 1; omega) (by show sb + 4 ≤ sb + 4; omega) ?_
      refine zg_callF (vs := [zA v5]) (rest := []) (rm := rm_J12_add) ok hRm lk_X4_51 dX4_copy_30 hE (fun hE => mt_J12_add hl hE) rfl (Nat.le_of_ble_eq_true rfl) ⟨⟨Nat.le_of_ble_eq_true rfl, Nat.le_of_ble_eq_true rfl⟩, (by show kb + 1 + 1 ≤ 293; omega), (by show sb + 4 + 40 ≤ 2357; omega)⟩ (zg_retI (fun v6 h6 hE => ?_)) (zg_xok ok tab fin ⟨(by show kb + 1 + 1 ≤ 293; omega), (by show sb + 4 + 40 ≤ 2357; omega)⟩)
      refine zg_cost (kc2 := kb + 2) (ks2 := sb + 44) ⟨(by show kb + 1 + 1 = kb + 2; omega), (by show sb + 4 + 40 = sb + 44; omega)⟩ ?_
      refine zg_pop ok dX4_copy_35 rfl ?_
      refine zg_iincLR (k := 2) (L' := fun v7 => [(2, .int v7), (0, va_rf l0), (1, va_rf l1)]) ok dX4_copy_36 (by decide +kernel) hE rfl (by decide) rfl (k9 := 1) rfl (fun _ => rfl) (fun v7 hE => ?_)
      refine zg_goto (tgt := 10) ok dX4_copy_39 (by decide) ?_
      refine zg_sub (L' := [(0, va_rf l0), (1, va_rf l1), (2, .int v7)]) [1, 2, 0] rfl ?_
      exact hR _ _ hE
    · refine zg_callU (vs := []) (rest := [va_rf v3]) (rm := rm_X7_copy) ok hRm lk_X4_45_7 dX4_copy_27 hE (fun hE => mt_X7_copy hl hE) rfl (Nat.le_of_ble_eq_true rfl) ⟨⟨Nat.le_of_ble_eq_true rfl, Nat.le_of_ble_eq_true rfl⟩, (by show kb + 1 ≤ 293; omega), (by show sb + 4 ≤ 2357; omega)⟩ (zg_retA (fun v5 h5 hE => ?_)) (zg_xok ok tab fin ⟨(by show kb + 1 ≤ 293; omega), (by show sb + 4 ≤ 2357; omega)⟩)
      refine zg_wide (kc2 := kb + 1) (ks2 := sb + 4) (by show kb + 1 ≤ kb + 1; omega) (by show sb + 4 ≤ sb + 4; omega) ?_
      refine zg_callF (vs := [zA v5]) (rest := []) (rm := rm_J12_add) ok hRm lk_X4_51 dX4_copy_30 hE (fun hE => mt_J12_add hl hE) rfl (Nat.le_of_ble_eq_true rfl) ⟨⟨Nat.le_of_ble_eq_true rfl, Nat.le_of_ble_eq_true rfl⟩, (by show kb + 1 + 1 ≤ 293; omega), (by show sb + 4 + 40 ≤ 2357; omega)⟩ (zg_retI (fun v6 h6 hE => ?_)) (zg_xok ok tab fin ⟨(by show kb + 1 + 1 ≤ 293; omega), (by show sb + 4 + 40 ≤ 2357; omega)⟩)
      refine zg_cost (kc2 := kb + 2) (ks2 := sb + 44) ⟨(by show kb + 1 + 1 = kb + 2; omega), (by show sb + 4 + 40 = sb + 44; omega)⟩ ?_
      refine zg_pop ok dX4_copy_35 rfl ?_
      refine zg_iincLR (k := 2) (L' := fun v7 => [(2, .int v7), (0, va_rf l0), (1, va_rf l1)]) ok dX4_copy_36 (by decide +kernel) hE rfl (by decide) rfl (k9 := 1) rfl (fun _ => rfl) (fun v7 hE => ?_)
      refine zg_goto (tgt := 10) ok dX4_copy_39 (by decide) ?_
      refine zg_sub (L' := [(0, va_rf l0), (1, va_rf l1), (2, .int v7)]) [1, 2, 0] rfl ?_
      exact hR _ _ hE
theorem gt_f_X4_copy_L10 {Xc : zw_X} {Q : Option Nat → zw_H → Prop} {X : String → Nat → zw_H → Prop} (hl : (zw_l Xc).stackTraces = false) (ok : zw_ok Xc cX4_copy "MultipoleLine$Line" yX4_copy.name 3) (tab : zw_tab Xc []) (fin : zw_fin Xc (Option.some (Jvm.ClassFile.FieldType.object "MultipoleLine$Line")) (zq_A Q) X 293 2357) (hRm : zw_rm Xc = rm_X4_copy) {KE SE : Nat} (hKE : KE ≤ 293 ∧ SE ≤ 2357) {l0 : Option Nat} {l1 : Option Nat} {k42 : zw_H → Prop} (hk42 : ∀  (h : zw_H), k42  h → zw_G Xc KE SE 3 h 42 [(0, va_rf l0), (1, va_rf l1)] [])  : ∀ (n9 kb sb : Nat), kb + n9 * 2 ≤ KE ∧ sb + n9 * 44 ≤ SE → ∀ (l2 : Int32) (h : zw_H), zl2 (f_X4_copy_B10 (zw_Zf Xc).2.2.2 Q X k42 l0 l1) n9 l2 h → zw_G Xc kb sb 3 h 10 [(0, va_rf l0), (1, va_rf l1), (2, .int l2)] [] := by
  intro n9
  induction n9 with
  | zero => intro kb sb hk9 l2 h hE; exact hE.elim
  | succ n9 ih => intro kb sb hk9 l2 h hE; exact gt_f_X4_copy_B10 hl ok tab fin hRm ⟨by omega, by omega⟩ hKE (ih (kb + 2) (sb + 44) ⟨by omega, by omega⟩) hk42 hE
set_option maxHeartbeats 8000000 in
theorem mt_X4_copy {l : Launch} (hl : l.stackTraces = false) {Z : zw_Z} {a0 : Option Nat} {h : zw_H} {Q : Option Nat → zw_H → Prop} {X : String → Nat → zw_H → Prop} (hE : f_X4_copy Z.2.2.2 a0 h Q X) : zw_Met l Z yX4_copy (ws_ yX4_copy cX4_copy 3 (Option.some (Jvm.ClassFile.FieldType.object "MultipoleLine$Line"))) rm_X4_copy [zA a0] h (zq_A Q) X := by
  refine zg_start (own := "MultipoleLine$Line") (by decide +kernel) rfl (Nat.le_of_ble_eq_true rfl) hl (fun Xc ok tab fin hRm hXl hXZ => ?_)
  subst hXl
  subst hXZ
  unfold f_X4_copy at hE
  refine zg_new ok ln_X4_13 (by rw [hRm]; exact ⟨Nat.le_of_ble_eq_true rfl, Nat.le_of_ble_eq_true rfl⟩) dX4_copy_0 hE (fun v1 h1 hE => ?_)
  refine zg_cost (kc2 := 1) (ks2 := 10) ⟨rfl, rfl⟩ ?_
  refine zg_dup ok dX4_copy_3 (zw_rfc _) ?_
  refine zg_callI (vs := []) (rest := [va_rf (some v1)]) (rm := rm_X4_init) ok hRm lk_X4_36 dX4_copy_4 (by simp) hE (fun hE => mt_X4_init hl hE) rfl (Nat.le_of_ble_eq_true rfl) ⟨⟨Nat.le_of_ble_eq_true rfl, Nat.le_of_ble_eq_true rfl⟩, Nat.le_of_ble_eq_true rfl, Nat.le_of_ble_eq_true rfl⟩ (zg_retV (fun h2 hE => ?_)) (zg_xok ok tab fin ⟨Nat.le_of_ble_eq_true rfl, Nat.le_of_ble_eq_true rfl⟩)
  refine zg_cost (kc2 := 243) (ks2 := 1257) ⟨rfl, rfl⟩ ?_
  refine zg_astore_nR (L' := [(1, va_rf (some v1)), (0, va_rf a0)]) ok dX4_copy_7 rfl (by decide) 0 rfl rfl rfl ?_
  refine zg_iconst (v := 0) ok dX4_copy_8 (by decide) ?_
  refine zg_istore_nR (L' := [(2, .int 0), (1, va_rf (some v1)), (0, va_rf a0)]) ok dX4_copy_9 rfl (by decide) 0 rfl rfl rfl ?_
  refine zg_sub (L' := [(0, va_rf a0), (1, va_rf (some v1)), (2, .int 0)]) [2, 1, 0] rfl ?_
  refine gt_f_X4_copy_L10 (KE := 293) (SE := 2357) hl ok tab fin hRm ⟨Nat.le_of_ble_eq_true rfl, Nat.le_of_ble_eq_true rfl⟩ ?_ _ 243 1257 ⟨Nat.le_of_ble_eq_true rfl, Nat.le_of_ble_eq_true rfl⟩ _ _ hE
  · intro h7 hE
    refine zg_aload_n ok dX4_copy_42 rfl 1 rfl ?_
    refine zg_aload_n ok dX4_copy_43 rfl 0 rfl ?_
    refine zg_getI ok lf_X4_57 dX4_copy_44 hE (fun v8 hE => ?_)
    refine zg_put (ty := .int) ok lf_X4_57 (Or.inl rfl) (by decide) (by decide +kernel) rfl rfl dX4_copy_47 hE (fun h8 hE => ?_)
    refine zg_aload_n ok dX4_copy_50 rfl 1 rfl ?_
    refine zg_aload_n ok dX4_copy_51 rfl 0 rfl ?_
    refine zg_getI ok lf_X4_61 dX4_copy_52 hE (fun v9 hE => ?_)
    refine zg_put (ty := .int) ok lf_X4_61 (Or.inl rfl) (by decide) (by decide +kernel) rfl rfl dX4_copy_55 hE (fun h9 hE => ?_)
    refine zg_aload_n ok dX4_copy_58 rfl 1 rfl ?_
    refine zg_aload_n ok dX4_copy_59 rfl 0 rfl ?_
    refine zg_getI ok lf_X4_64 dX4_copy_60 hE (fun v10 hE => ?_)
    refine zg_put (ty := .int) ok lf_X4_64 (Or.inl rfl) (by decide) (by decide +kernel) rfl rfl dX4_copy_63 hE (fun h10 hE => ?_)
    refine zg_aload_n ok dX4_copy_66 rfl 1 rfl ?_
    refine zg_aload_n ok dX4_copy_67 rfl 0 rfl ?_
    refine zg_getI ok lf_X4_67 dX4_copy_68 hE (fun v11 hE => ?_)
    refine zg_put (ty := .int) ok lf_X4_67 (Or.inl rfl) (by decide) (by decide +kernel) rfl rfl dX4_copy_71 hE (fun h11 hE => ?_)
    refine zg_aload_n ok dX4_copy_74 rfl 1 rfl ?_
    refine zg_aload_n ok dX4_copy_75 rfl 0 rfl ?_
    refine zg_getI ok lf_X4_70 dX4_copy_76 hE (fun v12 hE => ?_)
    refine zg_put (ty := .int) ok lf_X4_70 (Or.inl rfl) (by decide) (by decide +kernel) rfl rfl dX4_copy_79 hE (fun h12 hE => ?_)
    refine zg_aload_n ok dX4_copy_82 rfl 1 rfl ?_
    exact zg_aret ok fin (Or.inl ⟨_, rfl⟩) dX4_copy_83 ⟨Nat.le_of_ble_eq_true rfl, Nat.le_of_ble_eq_true rfl⟩ hE
set_option maxHeartbeats 8000000 in
theorem gt_f_X4_step_B4 {Xc : zw_X} {Q : Int32 → zw_H → Prop} {X : String → Nat → zw_H → Prop} (hl : (zw_l Xc).stackTraces = false) (ok : zw_ok Xc cX4_step "MultipoleLine$Line" yX4_step.name 3) (tab : zw_tab Xc []) (fin : zw_fin Xc (Option.some Jvm.ClassFile.FieldType.int) (zq_I Q) X 0 0) (hRm : zw_rm Xc = rm_X4_step) {kc ks : Nat} (hb : kc ≤ 0 ∧ ks ≤ 0) {R : Int32 → zw_H → Prop} {l0 : Option Nat} {l1 : Int32} (hR : ∀ (l2 : Int32) (h : zw_H), R l2 h → zw_G Xc kc ks 3 h 4 [(0, va_rf l0), (1, .int l1), (2, .int l2)] []) {k33 : zw_H → Prop} (hk33 : ∀  (h : zw_H), k33  h → zw_G Xc kc ks 3 h 33 [(0, va_rf l0), (1, .int l1)] [])  {l2 : Int32} {h : zw_H} (hE : f_X4_step_B4 (zw_Zf Xc).2.2.2 Q X k33 l0 l1 R l2 h) : zw_G Xc kc ks 3 h 4 [(0, va_rf l0), (1, .int l1), (2, .int l2)] [] := by
  unfold f_X4_step_B4 at hE
  refine zg_iload_n ok dX4_step_4 rfl 2 rfl ?_
  refine zg_aload_n ok dX4_step_5 rfl 0 rfl ?_
  refine zg_callV (vs := []) (rest := [.int l2]) (rm := rm_X4_size) ok hRm lk_X4_37 dX4_step_6 hE (fun hE => mt_X4_size hl hE) rfl (Nat.le_of_ble_eq_true rfl) ⟨⟨Nat.le_of_ble_eq_true rfl, Nat.le_of_ble_eq_true rfl⟩, (by show kc + 0 ≤ 0; omega), (by show ks + 0 ≤ 0; omega)⟩ (zg_retI (fun v1 h1 hE => ?_)) (zg_xok ok tab fin ⟨(by show kc + 0 ≤ 0; omega), (by show ks + 0 ≤ 0; omega)⟩)
  refine zg_cost (kc2 := kc) (ks2 := ks) ⟨(by show kc + 0 = kc; omega), (by show ks + 0 = ks; omega)⟩ ?_
  refine zg_icmp_ge (tgt := 33) ok dX4_step_9 (by decide) hE (fun hE => ?_) (fun hE => ?_)
  · refine zg_sub (L' := [(0, va_rf l0), (1, .int l1)]) [0, 1] rfl ?_
    exact hk33 _ hE
  · refine zg_aload_n ok dX4_step_12 rfl 0 rfl ?_
    refine zg_getA ok lf_X4_29 dX4_step_13 hE (fun v2 hE => ?_)
    refine zg_iload_n ok dX4_step_16 rfl 2 rfl ?_
    refine zg_aload_n ok dX4_step_17 rfl 0 rfl ?_
    refine zg_aload_n ok dX4_step_18 rfl 0 rfl ?_
    refine zg_iload_n ok dX4_step_19 rfl 2 rfl ?_
    refine zg_callV (vs := [zI l2]) (rest := [va_rf l0, .int l2, va_rf v2]) (rm := rm_X4_at) ok hRm lk_X4_41 dX4_step_20 hE (fun hE => mt_X4_at hl hE) rfl (Nat.le_of_ble_eq_true rfl) ⟨⟨Nat.le_of_ble_eq_true rfl, Nat.le_of_ble_eq_true rfl⟩, (by show kc + 0 ≤ 0; omega), (by show ks + 0 ≤ 0; omega)⟩ (zg_retA (fun v3 h2 hE => ?_)) (zg_xok ok tab fin ⟨(by show kc + 0 ≤ 0; omega), (by show ks + 0 ≤ 0; omega)⟩)
    refine zg_cost (kc2 := kc) (ks2 := ks) ⟨(by show kc + 0 = kc; omega), (by show ks + 0 = ks; omega)⟩ ?_
    refine zg_callV (vs := [zA v3]) (rest := [.int l2, va_rf v2]) (rm := rm_X4_goes) ok hRm lk_X4_257 dX4_step_23 hE (fun hE => mt_X4_goes hl hE) rfl (Nat.le_of_ble_eq_true rfl) ⟨⟨Nat.le_of_ble_eq_true rfl, Nat.le_of_ble_eq_true rfl⟩, (by show kc + 0 ≤ 0; omega), (by show ks + 0 ≤ 0; omega)⟩ (zg_retI (fun v4 h3 hE => ?_)) (zg_xok ok tab fin ⟨(by show kc + 0 ≤ 0; omega), (by show ks + 0 ≤ 0; omega)⟩)
    refine zg_cost (kc2 := kc) (ks2 := ks) ⟨(by show kc + 0 = kc; omega), (by show ks + 0 = ks; omega)⟩ ?_
    refine zg_iast ok dX4_step_26 hE (fun h4 hE => ?_)
    refine zg_iincL (k := 2) (L' := fun v5 => [(2, .int v5), (0, va_rf l0), (1, .int l1)]) ok dX4_step_27 (by decide +kernel) hE rfl (by decide) (fun _ => rfl) (fun v5 hE => ?_)
    refine zg_goto (tgt := 4) ok dX4_step_30 (by decide) ?_
    refine zg_sub (L' := [(0, va_rf l0), (1, .int l1), (2, .int v5)]) [1, 2, 0] rfl ?_
    exact hR _ _ hE
theorem gt_f_X4_step_L4 {Xc : zw_X} {Q : Int32 → zw_H → Prop} {X : String → Nat → zw_H → Prop} (hl : (zw_l Xc).stackTraces = false) (ok : zw_ok Xc cX4_step "MultipoleLine$Line" yX4_step.name 3) (tab : zw_tab Xc []) (fin : zw_fin Xc (Option.some Jvm.ClassFile.FieldType.int) (zq_I Q) X 0 0) (hRm : zw_rm Xc = rm_X4_step) {kc ks : Nat} (hb : kc ≤ 0 ∧ ks ≤ 0) {l0 : Option Nat} {l1 : Int32} {k33 : zw_H → Prop} (hk33 : ∀  (h : zw_H), k33  h → zw_G Xc kc ks 3 h 33 [(0, va_rf l0), (1, .int l1)] [])  : ∀ (n9 : Nat) (l2 : Int32) (h : zw_H), zl2 (f_X4_step_B4 (zw_Zf Xc).2.2.2 Q X k33 l0 l1) n9 l2 h → zw_G Xc kc ks 3 h 4 [(0, va_rf l0), (1, .int l1), (2, .int l2)] [] := by
  intro n9
  induction n9 with
  | zero => intro l2 h hE; exact hE.elim
  | succ n9 ih => intro l2 h hE; exact gt_f_X4_step_B4 hl ok tab fin hRm hb ih hk33 hE
set_option maxHeartbeats 8000000 in
theorem gt_f_X4_step_B35 {Xc : zw_X} {Q : Int32 → zw_H → Prop} {X : String → Nat → zw_H → Prop} (hl : (zw_l Xc).stackTraces = false) (ok : zw_ok Xc cX4_step "MultipoleLine$Line" yX4_step.name 3) (tab : zw_tab Xc []) (fin : zw_fin Xc (Option.some Jvm.ClassFile.FieldType.int) (zq_I Q) X 0 0) (hRm : zw_rm Xc = rm_X4_step) {kc ks : Nat} (hb : kc ≤ 0 ∧ ks ≤ 0) {R : Int32 → Int32 → zw_H → Prop} {l0 : Option Nat} (hR : ∀ (l1 : Int32) (l2 : Int32) (h : zw_H), R l1 l2 h → zw_G Xc kc ks 3 h 35 [(0, va_rf l0), (1, .int l1), (2, .int l2)] []) {k102 : Int32 → zw_H → Prop} (hk102 : ∀ (l1 : Int32) (h : zw_H), k102 l1 h → zw_G Xc kc ks 3 h 102 [(0, va_rf l0), (1, .int l1)] [])  {l1 : Int32} {l2 : Int32} {h : zw_H} (hE : f_X4_step_B35 (zw_Zf Xc).2.2.2 Q X k102 l0 R l1 l2 h) : zw_G Xc kc ks 3 h 35 [(0, va_rf l0), (1, .int l1), (2, .int l2)] [] := by
  unfold f_X4_step_B35 at hE
  refine zg_iload_n ok dX4_step_35 rfl 2 rfl ?_
  refine zg_aload_n ok dX4_step_36 rfl 0 rfl ?_
  refine zg_callV (vs := []) (rest := [.int l2]) (rm := rm_X4_size) ok hRm lk_X4_37 dX4_step_37 hE (fun hE => mt_X4_size hl hE) rfl (Nat.le_of_ble_eq_true rfl) ⟨⟨Nat.le_of_ble_eq_true rfl, Nat.le_of_ble_eq_true rfl⟩, (by show kc + 0 ≤ 0; omega), (by show ks + 0 ≤ 0; omega)⟩ (zg_retI (fun v6 h6 hE => ?_)) (zg_xok ok tab fin ⟨(by show kc + 0 ≤ 0; omega), (by show ks + 0 ≤ 0; omega)⟩)
  refine zg_cost (kc2 := kc) (ks2 := ks) ⟨(by show kc + 0 = kc; omega), (by show ks + 0 = ks; omega)⟩ ?_
  refine zg_icmp_ge (tgt := 102) ok dX4_step_40 (by decide) hE (fun hE => ?_) (fun hE => ?_)
  · refine zg_sub (L' := [(0, va_rf l0), (1, .int l1)]) [0, 1] rfl ?_
    exact hk102 _ _ hE
  · refine zg_aload_n ok dX4_step_43 rfl 0 rfl ?_
    refine zg_iload_n ok dX4_step_44 rfl 2 rfl ?_
    refine zg_callV (vs := [zI l2]) (rest := []) (rm := rm_X4_at) ok hRm lk_X4_41 dX4_step_45 hE (fun hE => mt_X4_at hl hE) rfl (Nat.le_of_ble_eq_true rfl) ⟨⟨Nat.le_of_ble_eq_true rfl, Nat.le_of_ble_eq_true rfl⟩, (by show kc + 0 ≤ 0; omega), (by show ks + 0 ≤ 0; omega)⟩ (zg_retA (fun v7 h7 hE => ?_)) (zg_xok ok tab fin ⟨(by show kc + 0 ≤ 0; omega), (by show ks + 0 ≤ 0; omega)⟩)
    refine zg_cost (kc2 := kc) (ks2 := ks) ⟨(by show kc + 0 = kc; omega), (by show ks + 0 = ks; omega)⟩ ?_
    refine zg_dup ok dX4_step_48 (zw_rfc _) ?_
    refine zg_getI ok lf_X4_86 dX4_step_49 hE (fun v8 hE => ?_)
    refine zg_aload_n ok dX4_step_52 rfl 0 rfl ?_
    refine zg_getA ok lf_X4_29 dX4_step_53 hE (fun v9 hE => ?_)
    refine zg_iload_n ok dX4_step_56 rfl 2 rfl ?_
    refine zg_iald ok dX4_step_57 hE (fun v10 hE => ?_)
    refine zg_iadd ok dX4_step_58 ?_
    refine zg_put (ty := .int) ok lf_X4_86 (Or.inl rfl) (by decide) (by decide +kernel) rfl rfl dX4_step_59 hE (fun h8 hE => ?_)
    refine zg_aload_n ok dX4_step_62 rfl 0 rfl ?_
    refine zg_iload_n ok dX4_step_63 rfl 2 rfl ?_
    refine zg_callV (vs := [zI l2]) (rest := []) (rm := rm_X4_at) ok hRm lk_X4_41 dX4_step_64 hE (fun hE => mt_X4_at hl hE) rfl (Nat.le_of_ble_eq_true rfl) ⟨⟨Nat.le_of_ble_eq_true rfl, Nat.le_of_ble_eq_true rfl⟩, (by show kc + 0 ≤ 0; omega), (by show ks + 0 ≤ 0; omega)⟩ (zg_retA (fun v11 h9 hE => ?_)) (zg_xok ok tab fin ⟨(by show kc + 0 ≤ 0; omega), (by show ks + 0 ≤ 0; omega)⟩)
    refine zg_cost (kc2 := kc) (ks2 := ks) ⟨(by show kc + 0 = kc; omega), (by show ks + 0 = ks; omega)⟩ ?_
    refine zg_dup ok dX4_step_67 (zw_rfc _) ?_
    refine zg_getI ok lf_X4_261 dX4_step_68 hE (fun v12 hE => ?_)
    refine zg_aload_n ok dX4_step_71 rfl 0 rfl ?_
    refine zg_getA ok lf_X4_29 dX4_step_72 hE (fun v13 hE => ?_)
    refine zg_iload_n ok dX4_step_75 rfl 2 rfl ?_
    refine zg_iald ok dX4_step_76 hE (fun v14 hE => ?_)
    refine zg_callS (vs := [zI v14]) (rest := [.int v12, va_rf v11]) (rm := rm_J14_abs) ok hRm lk_X4_92 dX4_step_77 hE (fun hE => mt_J14_abs hl hE) rfl (Nat.le_of_ble_eq_true rfl) ⟨⟨Nat.le_of_ble_eq_true rfl, Nat.le_of_ble_eq_true rfl⟩, (by show kc + 0 ≤ 0; omega), (by show ks + 0 ≤ 0; omega)⟩ (zg_retI (fun v15 h10 hE => ?_)) (zg_xok ok tab fin ⟨(by show kc + 0 ≤ 0; omega), (by show ks + 0 ≤ 0; omega)⟩)
    refine zg_cost (kc2 := kc) (ks2 := ks) ⟨(by show kc + 0 = kc; omega), (by show ks + 0 = ks; omega)⟩ ?_
    refine zg_iadd ok dX4_step_80 ?_
    refine zg_put (ty := .int) ok lf_X4_261 (Or.inl rfl) (by decide) (by decide +kernel) rfl rfl dX4_step_81 hE (fun h11 hE => ?_)
    refine zg_iload_n ok dX4_step_84 rfl 1 rfl ?_
    refine zg_aload_n ok dX4_step_85 rfl 0 rfl ?_
    refine zg_getA ok lf_X4_29 dX4_step_86 hE (fun v16 hE => ?_)
    refine zg_iload_n ok dX4_step_89 rfl 2 rfl ?_
    refine zg_iald ok dX4_step_90 hE (fun v17 hE => ?_)
    refine zg_callS (vs := [zI v17]) (rest := [.int l1]) (rm := rm_J14_abs) ok hRm lk_X4_92 dX4_step_91 hE (fun hE => mt_J14_abs hl hE) rfl (Nat.le_of_ble_eq_true rfl) ⟨⟨Nat.le_of_ble_eq_true rfl, Nat.le_of_ble_eq_true rfl⟩, (by show kc + 0 ≤ 0; omega), (by show ks + 0 ≤ 0; omega)⟩ (zg_retI (fun v18 h12 hE => ?_)) (zg_xok ok tab fin ⟨(by show kc + 0 ≤ 0; omega), (by show ks + 0 ≤ 0; omega)⟩)
    refine zg_cost (kc2 := kc) (ks2 := ks) ⟨(by show kc + 0 = kc; omega), (by show ks + 0 = ks; omega)⟩ ?_
    refine zg_iadd ok dX4_step_94 ?_
    refine zg_letI hE (fun v19 hE => ?_)
    refine zg_istore_nR (L' := [(1, .int v19), (0, va_rf l0), (2, .int l2)]) ok dX4_step_95 rfl (by decide) 0 rfl rfl rfl ?_
    refine zg_iincL (k := 2) (L' := fun v20 => [(2, .int v20), (1, .int v19), (0, va_rf l0)]) ok dX4_step_96 (by decide +kernel) hE rfl (by decide) (fun _ => rfl) (fun v20 hE => ?_)
    refine zg_goto (tgt := 35) ok dX4_step_99 (by decide) ?_
    refine zg_sub (L' := [(0, va_rf l0), (1, .int v19), (2, .int v20)]) [2, 1, 0] rfl ?_
    exact hR _ _ _ hE
theorem gt_f_X4_step_L35 {Xc : zw_X} {Q : Int32 → zw_H → Prop} {X : String → Nat → zw_H → Prop} (hl : (zw_l Xc).stackTraces = false) (ok : zw_ok Xc cX4_step "MultipoleLine$Line" yX4_step.name 3) (tab : zw_tab Xc []) (fin : zw_fin Xc (Option.some Jvm.ClassFile.FieldType.int) (zq_I Q) X 0 0) (hRm : zw_rm Xc = rm_X4_step) {kc ks : Nat} (hb : kc ≤ 0 ∧ ks ≤ 0) {l0 : Option Nat} {k102 : Int32 → zw_H → Prop} (hk102 : ∀ (l1 : Int32) (h : zw_H), k102 l1 h → zw_G Xc kc ks 3 h 102 [(0, va_rf l0), (1, .int l1)] [])  : ∀ (n9 : Nat) (l1 : Int32) (l2 : Int32) (h : zw_H), zl3 (f_X4_step_B35 (zw_Zf Xc).2.2.2 Q X k102 l0) n9 l1 l2 h → zw_G Xc kc ks 3 h 35 [(0, va_rf l0), (1, .int l1), (2, .int l2)] [] := by
  intro n9
  induction n9 with
  | zero => intro l1 l2 h hE; exact hE.elim
  | succ n9 ih => intro l1 l2 h hE; exact gt_f_X4_step_B35 hl ok tab fin hRm hb ih hk102 hE
set_option maxHeartbeats 8000000 in
theorem mt_X4_step {l : Launch} (hl : l.stackTraces = false) {Z : zw_Z} {a0 : Option Nat} {h : zw_H} {Q : Int32 → zw_H → Prop} {X : String → Nat → zw_H → Prop} (hE : f_X4_step Z.2.2.2 a0 h Q X) : zw_Met l Z yX4_step (ws_ yX4_step cX4_step 3 (Option.some Jvm.ClassFile.FieldType.int)) rm_X4_step [zA a0] h (zq_I Q) X := by
  refine zg_start (own := "MultipoleLine$Line") (by decide +kernel) rfl (Nat.le_of_ble_eq_true rfl) hl (fun Xc ok tab fin hRm hXl hXZ => ?_)
  subst hXl
  subst hXZ
  unfold f_X4_step at hE
  refine zg_iconst (v := 0) ok dX4_step_0 (by decide) ?_
  refine zg_istore_nR (L' := [(1, .int 0), (0, va_rf a0)]) ok dX4_step_1 rfl (by decide) 0 rfl rfl rfl ?_
  refine zg_iconst (v := 0) ok dX4_step_2 (by decide) ?_
  refine zg_istore_n (L' := [(2, .int 0), (1, .int 0), (0, va_rf a0)]) ok dX4_step_3 rfl (by decide) rfl ?_
  refine zg_sub (L' := [(0, va_rf a0), (1, .int 0), (2, .int 0)]) [2, 1, 0] rfl ?_
  refine gt_f_X4_step_L4 hl ok tab fin hRm ⟨Nat.le_of_ble_eq_true rfl, Nat.le_of_ble_eq_true rfl⟩ ?_ _ _ _ hE
  · intro h5 hE
    refine zg_iconst (v := 0) ok dX4_step_33 (by decide) ?_
    refine zg_istore_n (L' := [(2, .int 0), (0, va_rf a0), (1, .int 0)]) ok dX4_step_34 rfl (by decide) rfl ?_
    refine zg_sub (L' := [(0, va_rf a0), (1, .int 0), (2, .int 0)]) [1, 2, 0] rfl ?_
    refine gt_f_X4_step_L35 hl ok tab fin hRm ⟨Nat.le_of_ble_eq_true rfl, Nat.le_of_ble_eq_true rfl⟩ ?_ _ _ _ _ hE
    · intro v21 h13 hE
      refine zg_aload_n ok dX4_step_102 rfl 0 rfl ?_
      refine zg_dup ok dX4_step_103 (zw_rfc _) ?_
      refine zg_getI ok lf_X4_70 dX4_step_104 hE (fun v22 hE => ?_)
      refine zg_iload_n ok dX4_step_107 rfl 1 rfl ?_
      refine zg_iadd ok dX4_step_108 ?_
      refine zg_put (ty := .int) ok lf_X4_70 (Or.inl rfl) (by decide) (by decide +kernel) rfl rfl dX4_step_109 hE (fun h14 hE => ?_)
      refine zg_aload_n ok dX4_step_112 rfl 0 rfl ?_
      refine zg_dup ok dX4_step_113 (zw_rfc _) ?_
      refine zg_getI ok lf_X4_67 dX4_step_114 hE (fun v23 hE => ?_)
      refine zg_iconst (v := 1) ok dX4_step_117 (by decide) ?_
      refine zg_iadd ok dX4_step_118 ?_
      refine zg_put (ty := .int) ok lf_X4_67 (Or.inl rfl) (by decide) (by decide +kernel) rfl rfl dX4_step_119 hE (fun h15 hE => ?_)
      refine zg_iload_n ok dX4_step_122 rfl 1 rfl ?_
      exact zg_iret ok fin dX4_step_123 ⟨Nat.le_of_ble_eq_true rfl, Nat.le_of_ble_eq_true rfl⟩ hE
set_option maxHeartbeats 8000000 in
theorem gt_f_X4_steps_B4 {Xc : zw_X} {Q : Int32 → zw_H → Prop} {X : String → Nat → zw_H → Prop} (hl : (zw_l Xc).stackTraces = false) (ok : zw_ok Xc cX4_steps "MultipoleLine$Line" yX4_steps.name 4) (tab : zw_tab Xc []) (fin : zw_fin Xc (Option.some Jvm.ClassFile.FieldType.int) (zq_I Q) X 0 0) (hRm : zw_rm Xc = rm_X4_steps) {kc ks : Nat} (hb : kc ≤ 0 ∧ ks ≤ 0) {R : Int32 → Int32 → zw_H → Prop} {l0 : Option Nat} {l1 : Int32} (hR : ∀ (l2 : Int32) (l3 : Int32) (h : zw_H), R l2 l3 h → zw_G Xc kc ks 4 h 4 [(0, va_rf l0), (1, .int l1), (2, .int l2), (3, .int l3)] []) {k22 : Int32 → zw_H → Prop} (hk22 : ∀ (l2 : Int32) (h : zw_H), k22 l2 h → zw_G Xc kc ks 4 h 22 [(2, .int l2)] [])  {l2 : Int32} {l3 : Int32} {h : zw_H} (hE : f_X4_steps_B4 (zw_Zf Xc).2.2.2 Q X k22 l0 l1 R l2 l3 h) : zw_G Xc kc ks 4 h 4 [(0, va_rf l0), (1, .int l1), (2, .int l2), (3, .int l3)] [] := by
  unfold f_X4_steps_B4 at hE
  refine zg_iload_n ok dX4_steps_4 rfl 3 rfl ?_
  refine zg_iload_n ok dX4_steps_5 rfl 1 rfl ?_
  refine zg_icmp_ge (tgt := 22) ok dX4_steps_6 (by decide) hE (fun hE => ?_) (fun hE => ?_)
  · refine zg_sub (L' := [(2, .int l2)]) [2] rfl ?_
    exact hk22 _ _ hE
  · refine zg_iload_n ok dX4_steps_9 rfl 2 rfl ?_
    refine zg_aload_n ok dX4_steps_10 rfl 0 rfl ?_
    refine zg_callV (vs := []) (rest := [.int l2]) (rm := rm_X4_step) ok hRm lk_X4_262 dX4_steps_11 hE (fun hE => mt_X4_step hl hE) rfl (Nat.le_of_ble_eq_true rfl) ⟨⟨Nat.le_of_ble_eq_true rfl, Nat.le_of_ble_eq_true rfl⟩, (by show kc + 0 ≤ 0; omega), (by show ks + 0 ≤ 0; omega)⟩ (zg_retI (fun v1 h1 hE => ?_)) (zg_xok ok tab fin ⟨(by show kc + 0 ≤ 0; omega), (by show ks + 0 ≤ 0; omega)⟩)
    refine zg_cost (kc2 := kc) (ks2 := ks) ⟨(by show kc + 0 = kc; omega), (by show ks + 0 = ks; omega)⟩ ?_
    refine zg_iadd ok dX4_steps_14 ?_
    refine zg_letI hE (fun v2 hE => ?_)
    refine zg_istore_n (L' := [(2, .int v2), (0, va_rf l0), (1, .int l1), (3, .int l3)]) ok dX4_steps_15 rfl (by decide) rfl ?_
    refine zg_iincL (k := 3) (L' := fun v3 => [(3, .int v3), (2, .int v2), (0, va_rf l0), (1, .int l1)]) ok dX4_steps_16 (by decide +kernel) hE rfl (by decide) (fun _ => rfl) (fun v3 hE => ?_)
    refine zg_goto (tgt := 4) ok dX4_steps_19 (by decide) ?_
    refine zg_sub (L' := [(0, va_rf l0), (1, .int l1), (2, .int v2), (3, .int v3)]) [2, 3, 1, 0] rfl ?_
    exact hR _ _ _ hE
theorem gt_f_X4_steps_L4 {Xc : zw_X} {Q : Int32 → zw_H → Prop} {X : String → Nat → zw_H → Prop} (hl : (zw_l Xc).stackTraces = false) (ok : zw_ok Xc cX4_steps "MultipoleLine$Line" yX4_steps.name 4) (tab : zw_tab Xc []) (fin : zw_fin Xc (Option.some Jvm.ClassFile.FieldType.int) (zq_I Q) X 0 0) (hRm : zw_rm Xc = rm_X4_steps) {kc ks : Nat} (hb : kc ≤ 0 ∧ ks ≤ 0) {l0 : Option Nat} {l1 : Int32} {k22 : Int32 → zw_H → Prop} (hk22 : ∀ (l2 : Int32) (h : zw_H), k22 l2 h → zw_G Xc kc ks 4 h 22 [(2, .int l2)] [])  : ∀ (n9 : Nat) (l2 : Int32) (l3 : Int32) (h : zw_H), zl3 (f_X4_steps_B4 (zw_Zf Xc).2.2.2 Q X k22 l0 l1) n9 l2 l3 h → zw_G Xc kc ks 4 h 4 [(0, va_rf l0), (1, .int l1), (2, .int l2), (3, .int l3)] [] := by
  intro n9
  induction n9 with
  | zero => intro l2 l3 h hE; exact hE.elim
  | succ n9 ih => intro l2 l3 h hE; exact gt_f_X4_steps_B4 hl ok tab fin hRm hb ih hk22 hE
set_option maxHeartbeats 8000000 in
theorem mt_X4_steps {l : Launch} (hl : l.stackTraces = false) {Z : zw_Z} {a0 : Option Nat} {a1 : Int32} {h : zw_H} {Q : Int32 → zw_H → Prop} {X : String → Nat → zw_H → Prop} (hE : f_X4_steps Z.2.2.2 a0 a1 h Q X) : zw_Met l Z yX4_steps (ws_ yX4_steps cX4_steps 4 (Option.some Jvm.ClassFile.FieldType.int)) rm_X4_steps [zA a0, zI a1] h (zq_I Q) X := by
  refine zg_start (own := "MultipoleLine$Line") (by decide +kernel) rfl (Nat.le_of_ble_eq_true rfl) hl (fun Xc ok tab fin hRm hXl hXZ => ?_)
  subst hXl
  subst hXZ
  unfold f_X4_steps at hE
  refine zg_iconst (v := 0) ok dX4_steps_0 (by decide) ?_
  refine zg_istore_n (L' := [(2, .int 0), (0, va_rf a0), (1, .int a1)]) ok dX4_steps_1 rfl (by decide) rfl ?_
  refine zg_iconst (v := 0) ok dX4_steps_2 (by decide) ?_
  refine zg_istore_n (L' := [(3, .int 0), (2, .int 0), (0, va_rf a0), (1, .int a1)]) ok dX4_steps_3 rfl (by decide) rfl ?_
  refine zg_sub (L' := [(0, va_rf a0), (1, .int a1), (2, .int 0), (3, .int 0)]) [2, 3, 1, 0] rfl ?_
  refine gt_f_X4_steps_L4 hl ok tab fin hRm ⟨Nat.le_of_ble_eq_true rfl, Nat.le_of_ble_eq_true rfl⟩ ?_ _ _ _ _ hE
  · intro v4 h2 hE
    refine zg_iload_n ok dX4_steps_22 rfl 0 rfl ?_
    exact zg_iret ok fin dX4_steps_23 ⟨Nat.le_of_ble_eq_true rfl, Nat.le_of_ble_eq_true rfl⟩ hE
set_option maxHeartbeats 8000000 in
theorem mt_X1_placeIn {l : Launch} (hl : l.stackTraces = false) {Z : zw_Z} {a0 : Option Nat} {a1 : Int32} {a2 : Int32} {h : zw_H} {Q : Int32 → zw_H → Prop} {X : String → Nat → zw_H → Prop} (hE : f_X1_placeIn Z.2.2.2 a0 a1 a2 h Q X) : zw_Met l Z yX1_placeIn (ws_ yX1_placeIn cX1_placeIn 6 (Option.some Jvm.ClassFile.FieldType.int)) rm_X1_placeIn [zA a0, zI a1, zI a2] h (zq_I Q) X := by
  refine zg_start (own := "MultipoleLine") (by decide +kernel) rfl (Nat.le_of_ble_eq_true rfl) hl (fun Xc ok tab fin hRm hXl hXZ => ?_)
  subst hXl
  subst hXZ
  unfold f_X1_placeIn at hE
  refine zg_aload_n ok dX1_placeIn_0 rfl 0 rfl ?_
  refine zg_iload_n ok dX1_placeIn_1 rfl 1 rfl ?_
  refine zg_callV (vs := [zI a1]) (rest := []) (rm := rm_X1_bodyOf) ok hRm lk_X1_174 dX1_placeIn_2 hE (fun hE => mt_X1_bodyOf hl hE) rfl (Nat.le_of_ble_eq_true rfl) ⟨⟨Nat.le_of_ble_eq_true rfl, Nat.le_of_ble_eq_true rfl⟩, Nat.le_of_ble_eq_true rfl, Nat.le_of_ble_eq_true rfl⟩ (zg_retA (fun v1 h1 hE => ?_)) (zg_xok ok tab fin ⟨Nat.le_of_ble_eq_true rfl, Nat.le_of_ble_eq_true rfl⟩)
  refine zg_cost (kc2 := 2) (ks2 := 12) ⟨rfl, rfl⟩ ?_
  refine zg_astore_n (L' := [(3, va_rf v1), (0, va_rf a0), (1, .int a1), (2, .int a2)]) ok dX1_placeIn_5 rfl (by decide) rfl ?_
  refine zg_iload_n ok dX1_placeIn_6 rfl 3 rfl ?_
  refine zg_iconst (v := 0) ok dX1_placeIn_7 (by decide) ?_
  refine zg_callS (vs := [zI a2, zI 0]) (rest := []) (rm := rm_X1_checkSteps) ok hRm lk_X1_346 dX1_placeIn_8 hE (fun hE => mt_X1_checkSteps hl hE) rfl (Nat.le_of_ble_eq_true rfl) ⟨⟨Nat.le_of_ble_eq_true rfl, Nat.le_of_ble_eq_true rfl⟩, Nat.le_of_ble_eq_true rfl, Nat.le_of_ble_eq_true rfl⟩ (zg_retV (fun h2 hE => ?_)) (zg_xok ok tab fin ⟨Nat.le_of_ble_eq_true rfl, Nat.le_of_ble_eq_true rfl⟩)
  refine zg_cost (kc2 := 3) (ks2 := 18) ⟨rfl, rfl⟩ ?_
  refine zg_aload_n ok dX1_placeIn_11 rfl 1 rfl ?_
  refine zg_getA ok lf_X1_68 dX1_placeIn_12 hE (fun v2 hE => ?_)
  refine zg_callV (vs := []) (rest := []) (rm := rm_X4_copy) ok hRm lk_X1_349 dX1_placeIn_15 hE (fun hE => mt_X4_copy hl hE) rfl (Nat.le_of_ble_eq_true rfl) ⟨⟨Nat.le_of_ble_eq_true rfl, Nat.le_of_ble_eq_true rfl⟩, Nat.le_of_ble_eq_true rfl, Nat.le_of_ble_eq_true rfl⟩ (zg_retA (fun v3 h3 hE => ?_)) (zg_xok ok tab fin ⟨Nat.le_of_ble_eq_true rfl, Nat.le_of_ble_eq_true rfl⟩)
  refine zg_cost (kc2 := 296) (ks2 := 2375) ⟨rfl, rfl⟩ ?_
  refine zg_astoreR (L' := [(4, va_rf v3), (3, va_rf v1), (0, va_rf a0), (1, .int a1), (2, .int a2)]) ok dX1_placeIn_18 (by decide) 0 rfl rfl rfl ?_
  refine zg_aload ok dX1_placeIn_20 0 rfl ?_
  refine zg_iload_n ok dX1_placeIn_22 rfl 4 rfl ?_
  refine zg_callV (vs := [zI a2]) (rest := []) (rm := rm_X4_steps) ok hRm lk_X1_352 dX1_placeIn_23 hE (fun hE => mt_X4_steps hl hE) rfl (Nat.le_of_ble_eq_true rfl) ⟨⟨Nat.le_of_ble_eq_true rfl, Nat.le_of_ble_eq_true rfl⟩, Nat.le_of_ble_eq_true rfl, Nat.le_of_ble_eq_true rfl⟩ (zg_retI (fun v4 h4 hE => ?_)) (zg_xok ok tab fin ⟨Nat.le_of_ble_eq_true rfl, Nat.le_of_ble_eq_true rfl⟩)
  refine zg_cost (kc2 := 296) (ks2 := 2375) ⟨rfl, rfl⟩ ?_
  refine zg_istoreR (L' := [(5, .int v4), (4, va_rf v3), (3, va_rf v1), (0, va_rf a0), (1, .int a1), (2, .int a2)]) ok dX1_placeIn_26 (by decide) 0 rfl rfl rfl ?_
  refine zg_aload ok dX1_placeIn_28 1 rfl ?_
  refine zg_iload_n ok dX1_placeIn_30 rfl 4 rfl ?_
  refine zg_callV (vs := [zI a1]) (rest := []) (rm := rm_X4_at) ok hRm lk_X1_88 dX1_placeIn_31 hE (fun hE => mt_X4_at hl hE) rfl (Nat.le_of_ble_eq_true rfl) ⟨⟨Nat.le_of_ble_eq_true rfl, Nat.le_of_ble_eq_true rfl⟩, Nat.le_of_ble_eq_true rfl, Nat.le_of_ble_eq_true rfl⟩ (zg_retA (fun v5 h5 hE => ?_)) (zg_xok ok tab fin ⟨Nat.le_of_ble_eq_true rfl, Nat.le_of_ble_eq_true rfl⟩)
  refine zg_cost (kc2 := 296) (ks2 := 2375) ⟨rfl, rfl⟩ ?_
  refine zg_getI ok lf_X1_139 dX1_placeIn_34 hE (fun v6 hE => ?_)
  exact zg_iret ok fin dX1_placeIn_37 ⟨Nat.le_of_ble_eq_true rfl, Nat.le_of_ble_eq_true rfl⟩ hE
set_option maxHeartbeats 8000000 in
theorem mt_X1_movesIn {l : Launch} (hl : l.stackTraces = false) {Z : zw_Z} {a0 : Option Nat} {a1 : Int32} {h : zw_H} {Q : Int32 → zw_H → Prop} {X : String → Nat → zw_H → Prop} (hE : f_X1_movesIn Z.2.2.2 a0 a1 h Q X) : zw_Met l Z yX1_movesIn (ws_ yX1_movesIn cX1_movesIn 3 (Option.some Jvm.ClassFile.FieldType.int)) rm_X1_movesIn [zA a0, zI a1] h (zq_I Q) X := by
  refine zg_start (own := "MultipoleLine") (by decide +kernel) rfl (Nat.le_of_ble_eq_true rfl) hl (fun Xc ok tab fin hRm hXl hXZ => ?_)
  subst hXl
  subst hXZ
  unfold f_X1_movesIn at hE
  refine zg_aload_n ok dX1_movesIn_0 rfl 0 rfl ?_
  refine zg_callV (vs := []) (rest := []) (rm := rm_X1_loaded) ok hRm lk_X1_76 dX1_movesIn_1 hE (fun hE => mt_X1_loaded hl hE) rfl (Nat.le_of_ble_eq_true rfl) ⟨⟨Nat.le_of_ble_eq_true rfl, Nat.le_of_ble_eq_true rfl⟩, Nat.le_of_ble_eq_true rfl, Nat.le_of_ble_eq_true rfl⟩ (zg_retA (fun v1 h1 hE => ?_)) (zg_xok ok tab fin ⟨Nat.le_of_ble_eq_true rfl, Nat.le_of_ble_eq_true rfl⟩)
  refine zg_cost (kc2 := 1) (ks2 := 6) ⟨rfl, rfl⟩ ?_
  refine zg_astore_n (L' := [(2, va_rf v1), (0, va_rf a0), (1, .int a1)]) ok dX1_movesIn_4 rfl (by decide) rfl ?_
  refine zg_iload_n ok dX1_movesIn_5 rfl 2 rfl ?_
  refine zg_iconst (v := 0) ok dX1_movesIn_6 (by decide) ?_
  refine zg_callS (vs := [zI a1, zI 0]) (rest := []) (rm := rm_X1_checkSteps) ok hRm lk_X1_346 dX1_movesIn_7 hE (fun hE => mt_X1_checkSteps hl hE) rfl (Nat.le_of_ble_eq_true rfl) ⟨⟨Nat.le_of_ble_eq_true rfl, Nat.le_of_ble_eq_true rfl⟩, Nat.le_of_ble_eq_true rfl, Nat.le_of_ble_eq_true rfl⟩ (zg_retV (fun h2 hE => ?_)) (zg_xok ok tab fin ⟨Nat.le_of_ble_eq_true rfl, Nat.le_of_ble_eq_true rfl⟩)
  refine zg_cost (kc2 := 2) (ks2 := 12) ⟨rfl, rfl⟩ ?_
  refine zg_aload_n ok dX1_movesIn_10 rfl 0 rfl ?_
  refine zg_callV (vs := []) (rest := []) (rm := rm_X4_copy) ok hRm lk_X1_349 dX1_movesIn_11 hE (fun hE => mt_X4_copy hl hE) rfl (Nat.le_of_ble_eq_true rfl) ⟨⟨Nat.le_of_ble_eq_true rfl, Nat.le_of_ble_eq_true rfl⟩, Nat.le_of_ble_eq_true rfl, Nat.le_of_ble_eq_true rfl⟩ (zg_retA (fun v2 h3 hE => ?_)) (zg_xok ok tab fin ⟨Nat.le_of_ble_eq_true rfl, Nat.le_of_ble_eq_true rfl⟩)
  refine zg_cost (kc2 := 295) (ks2 := 2369) ⟨rfl, rfl⟩ ?_
  refine zg_iload_n ok dX1_movesIn_14 rfl 2 rfl ?_
  refine zg_callV (vs := [zI a1]) (rest := []) (rm := rm_X4_steps) ok hRm lk_X1_352 dX1_movesIn_15 hE (fun hE => mt_X4_steps hl hE) rfl (Nat.le_of_ble_eq_true rfl) ⟨⟨Nat.le_of_ble_eq_true rfl, Nat.le_of_ble_eq_true rfl⟩, Nat.le_of_ble_eq_true rfl, Nat.le_of_ble_eq_true rfl⟩ (zg_retI (fun v3 h4 hE => ?_)) (zg_xok ok tab fin ⟨Nat.le_of_ble_eq_true rfl, Nat.le_of_ble_eq_true rfl⟩)
  refine zg_cost (kc2 := 295) (ks2 := 2369) ⟨rfl, rfl⟩ ?_
  exact zg_iret ok fin dX1_movesIn_18 ⟨Nat.le_of_ble_eq_true rfl, Nat.le_of_ble_eq_true rfl⟩ hE
set_option maxHeartbeats 8000000 in
theorem gt_f_X4_isStill_B2 {Xc : zw_X} {Q : Int32 → zw_H → Prop} {X : String → Nat → zw_H → Prop} (hl : (zw_l Xc).stackTraces = false) (ok : zw_ok Xc cX4_isStill "MultipoleLine$Line" yX4_isStill.name 2) (tab : zw_tab Xc []) (fin : zw_fin Xc (Option.some Jvm.ClassFile.FieldType.boolean) (zq_I Q) X 0 0) (hRm : zw_rm Xc = rm_X4_isStill) {kc ks : Nat} (hb : kc ≤ 0 ∧ ks ≤ 0) {R : Int32 → zw_H → Prop} {l0 : Option Nat} (hR : ∀ (l1 : Int32) (h : zw_H), R l1 h → zw_G Xc kc ks 2 h 2 [(0, va_rf l0), (1, .int l1)] []) {k22 : zw_H → Prop} (hk22 : ∀  (h : zw_H), k22  h → zw_G Xc kc ks 2 h 22 [] []) {k30 : zw_H → Prop} (hk30 : ∀  (h : zw_H), k30  h → zw_G Xc kc ks 2 h 30 [] [])  {l1 : Int32} {h : zw_H} (hE : f_X4_isStill_B2 (zw_Zf Xc).2.2.2 Q X k22 k30 l0 R l1 h) : zw_G Xc kc ks 2 h 2 [(0, va_rf l0), (1, .int l1)] [] := by
  unfold f_X4_isStill_B2 at hE
  refine zg_iload_n ok dX4_isStill_2 rfl 1 rfl ?_
  refine zg_aload_n ok dX4_isStill_3 rfl 0 rfl ?_
  refine zg_callV (vs := []) (rest := [.int l1]) (rm := rm_X4_size) ok hRm lk_X4_37 dX4_isStill_4 hE (fun hE => mt_X4_size hl hE) rfl (Nat.le_of_ble_eq_true rfl) ⟨⟨Nat.le_of_ble_eq_true rfl, Nat.le_of_ble_eq_true rfl⟩, (by show kc + 0 ≤ 0; omega), (by show ks + 0 ≤ 0; omega)⟩ (zg_retI (fun v1 h1 hE => ?_)) (zg_xok ok tab fin ⟨(by show kc + 0 ≤ 0; omega), (by show ks + 0 ≤ 0; omega)⟩)
  refine zg_cost (kc2 := kc) (ks2 := ks) ⟨(by show kc + 0 = kc; omega), (by show ks + 0 = ks; omega)⟩ ?_
  refine zg_icmp_ge (tgt := 30) ok dX4_isStill_7 (by decide) hE (fun hE => ?_) (fun hE => ?_)
  · refine zg_sub (L' := []) [] rfl ?_
    exact hk30 _ hE
  · refine zg_aload_n ok dX4_isStill_10 rfl 0 rfl ?_
    refine zg_aload_n ok dX4_isStill_11 rfl 0 rfl ?_
    refine zg_iload_n ok dX4_isStill_12 rfl 1 rfl ?_
    refine zg_callV (vs := [zI l1]) (rest := [va_rf l0]) (rm := rm_X4_at) ok hRm lk_X4_41 dX4_isStill_13 hE (fun hE => mt_X4_at hl hE) rfl (Nat.le_of_ble_eq_true rfl) ⟨⟨Nat.le_of_ble_eq_true rfl, Nat.le_of_ble_eq_true rfl⟩, (by show kc + 0 ≤ 0; omega), (by show ks + 0 ≤ 0; omega)⟩ (zg_retA (fun v2 h2 hE => ?_)) (zg_xok ok tab fin ⟨(by show kc + 0 ≤ 0; omega), (by show ks + 0 ≤ 0; omega)⟩)
    refine zg_cost (kc2 := kc) (ks2 := ks) ⟨(by show kc + 0 = kc; omega), (by show ks + 0 = ks; omega)⟩ ?_
    refine zg_callV (vs := [zA v2]) (rest := []) (rm := rm_X4_goes) ok hRm lk_X4_257 dX4_isStill_16 hE (fun hE => mt_X4_goes hl hE) rfl (Nat.le_of_ble_eq_true rfl) ⟨⟨Nat.le_of_ble_eq_true rfl, Nat.le_of_ble_eq_true rfl⟩, (by show kc + 0 ≤ 0; omega), (by show ks + 0 ≤ 0; omega)⟩ (zg_retI (fun v3 h3 hE => ?_)) (zg_xok ok tab fin ⟨(by show kc + 0 ≤ 0; omega), (by show ks + 0 ≤ 0; omega)⟩)
    refine zg_cost (kc2 := kc) (ks2 := ks) ⟨(by show kc + 0 = kc; omega), (by show ks + 0 = ks; omega)⟩ ?_
    refine zg_if_eq (tgt := 24) ok dX4_isStill_19 (by decide) hE (fun hE => ?_) (fun hE => ?_)
    · refine zg_iincLR (k := 1) (L' := fun v4 => [(1, .int v4), (0, va_rf l0)]) ok dX4_isStill_24 (by decide +kernel) hE rfl (by decide) rfl (k9 := 0) rfl (fun _ => rfl) (fun v4 hE => ?_)
      refine zg_goto (tgt := 2) ok dX4_isStill_27 (by decide) ?_
      refine zg_sub (L' := [(0, va_rf l0), (1, .int v4)]) [1, 0] rfl ?_
      exact hR _ _ hE
    · refine zg_sub (L' := []) [] rfl ?_
      exact hk22 _ hE
theorem gt_f_X4_isStill_L2 {Xc : zw_X} {Q : Int32 → zw_H → Prop} {X : String → Nat → zw_H → Prop} (hl : (zw_l Xc).stackTraces = false) (ok : zw_ok Xc cX4_isStill "MultipoleLine$Line" yX4_isStill.name 2) (tab : zw_tab Xc []) (fin : zw_fin Xc (Option.some Jvm.ClassFile.FieldType.boolean) (zq_I Q) X 0 0) (hRm : zw_rm Xc = rm_X4_isStill) {kc ks : Nat} (hb : kc ≤ 0 ∧ ks ≤ 0) {l0 : Option Nat} {k22 : zw_H → Prop} (hk22 : ∀  (h : zw_H), k22  h → zw_G Xc kc ks 2 h 22 [] []) {k30 : zw_H → Prop} (hk30 : ∀  (h : zw_H), k30  h → zw_G Xc kc ks 2 h 30 [] [])  : ∀ (n9 : Nat) (l1 : Int32) (h : zw_H), zl2 (f_X4_isStill_B2 (zw_Zf Xc).2.2.2 Q X k22 k30 l0) n9 l1 h → zw_G Xc kc ks 2 h 2 [(0, va_rf l0), (1, .int l1)] [] := by
  intro n9
  induction n9 with
  | zero => intro l1 h hE; exact hE.elim
  | succ n9 ih => intro l1 h hE; exact gt_f_X4_isStill_B2 hl ok tab fin hRm hb ih hk22 hk30 hE
set_option maxHeartbeats 8000000 in
theorem mt_X4_isStill {l : Launch} (hl : l.stackTraces = false) {Z : zw_Z} {a0 : Option Nat} {h : zw_H} {Q : Int32 → zw_H → Prop} {X : String → Nat → zw_H → Prop} (hE : f_X4_isStill Z.2.2.2 a0 h Q X) : zw_Met l Z yX4_isStill (ws_ yX4_isStill cX4_isStill 2 (Option.some Jvm.ClassFile.FieldType.boolean)) rm_X4_isStill [zA a0] h (zq_I Q) X := by
  refine zg_start (own := "MultipoleLine$Line") (by decide +kernel) rfl (Nat.le_of_ble_eq_true rfl) hl (fun Xc ok tab fin hRm hXl hXZ => ?_)
  subst hXl
  subst hXZ
  unfold f_X4_isStill at hE
  refine zg_iconst (v := 0) ok dX4_isStill_0 (by decide) ?_
  refine zg_istore_nR (L' := [(1, .int 0), (0, va_rf a0)]) ok dX4_isStill_1 rfl (by decide) 0 rfl rfl rfl ?_
  refine zg_sub (L' := [(0, va_rf a0), (1, .int 0)]) [1, 0] rfl ?_
  refine gt_f_X4_isStill_L2 hl ok tab fin hRm ⟨Nat.le_of_ble_eq_true rfl, Nat.le_of_ble_eq_true rfl⟩ ?_ ?_ _ _ _ hE
  · intro h4 hE
    refine zg_iconst (v := 0) ok dX4_isStill_22 (by decide) ?_
    exact zg_zret ok fin dX4_isStill_23 ⟨Nat.le_of_ble_eq_true rfl, Nat.le_of_ble_eq_true rfl⟩ rfl hE
  · intro h5 hE
    refine zg_iconst (v := 1) ok dX4_isStill_30 (by decide) ?_
    exact zg_zret ok fin dX4_isStill_31 ⟨Nat.le_of_ble_eq_true rfl, Nat.le_of_ble_eq_true rfl⟩ rfl hE
set_option maxHeartbeats 8000000 in
theorem gt_f_X1_stillIn_B10 {Xc : zw_X} {Q : Int32 → zw_H → Prop} {X : String → Nat → zw_H → Prop} (hl : (zw_l Xc).stackTraces = false) (ok : zw_ok Xc cX1_stillIn "MultipoleLine" yX1_stillIn.name 4) (tab : zw_tab Xc []) (fin : zw_fin Xc (Option.some Jvm.ClassFile.FieldType.int) (zq_I Q) X 294 2363) (hRm : zw_rm Xc = rm_X1_stillIn) {kc ks : Nat} (hb : kc ≤ 294 ∧ ks ≤ 2363) {R : Int32 → zw_H → Prop} {l1 : Option Nat} (hR : ∀ (l2 : Int32) (h : zw_H), R l2 h → zw_G Xc kc ks 4 h 10 [(1, va_rf l1), (2, .int l2)] []) {k23 : Int32 → zw_H → Prop} (hk23 : ∀ (l2 : Int32) (h : zw_H), k23 l2 h → zw_G Xc kc ks 4 h 23 [(2, .int l2)] []) {k37 : zw_H → Prop} (hk37 : ∀  (h : zw_H), k37  h → zw_G Xc kc ks 4 h 37 [] [])  {l2 : Int32} {h : zw_H} (hE : f_X1_stillIn_B10 (zw_Zf Xc).2.2.2 Q X k23 k37 l1 R l2 h) : zw_G Xc kc ks 4 h 10 [(1, va_rf l1), (2, .int l2)] [] := by
  unfold f_X1_stillIn_B10 at hE
  refine zg_iload_n ok dX1_stillIn_10 rfl 1 rfl ?_
  refine zg_bipush (v := 50) ok dX1_stillIn_11 (by decide) ?_
  refine zg_icmp_gt (tgt := 37) ok dX1_stillIn_13 (by decide) hE (fun hE => ?_) (fun hE => ?_)
  · refine zg_sub (L' := []) [] rfl ?_
    exact hk37 _ hE
  · refine zg_aload_n ok dX1_stillIn_16 rfl 0 rfl ?_
    refine zg_callV (vs := []) (rest := []) (rm := rm_X4_isStill) ok hRm lk_X1_355 dX1_stillIn_17 hE (fun hE => mt_X4_isStill hl hE) rfl (Nat.le_of_ble_eq_true rfl) ⟨⟨Nat.le_of_ble_eq_true rfl, Nat.le_of_ble_eq_true rfl⟩, (by show kc + 0 ≤ 294; omega), (by show ks + 0 ≤ 2363; omega)⟩ (zg_retI (fun v3 h3 hE => ?_)) (zg_xok ok tab fin ⟨(by show kc + 0 ≤ 294; omega), (by show ks + 0 ≤ 2363; omega)⟩)
    refine zg_cost (kc2 := kc) (ks2 := ks) ⟨(by show kc + 0 = kc; omega), (by show ks + 0 = ks; omega)⟩ ?_
    refine zg_if_eq (tgt := 25) ok dX1_stillIn_20 (by decide) hE (fun hE => ?_) (fun hE => ?_)
    · refine zg_aload_n ok dX1_stillIn_25 rfl 0 rfl ?_
      refine zg_iconst (v := 1) ok dX1_stillIn_26 (by decide) ?_
      refine zg_callV (vs := [zI 1]) (rest := []) (rm := rm_X4_steps) ok hRm lk_X1_352 dX1_stillIn_27 hE (fun hE => mt_X4_steps hl hE) rfl (Nat.le_of_ble_eq_true rfl) ⟨⟨Nat.le_of_ble_eq_true rfl, Nat.le_of_ble_eq_true rfl⟩, (by show kc + 0 ≤ 294; omega), (by show ks + 0 ≤ 2363; omega)⟩ (zg_retI (fun v4 h4 hE => ?_)) (zg_xok ok tab fin ⟨(by show kc + 0 ≤ 294; omega), (by show ks + 0 ≤ 2363; omega)⟩)
      refine zg_cost (kc2 := kc) (ks2 := ks) ⟨(by show kc + 0 = kc; omega), (by show ks + 0 = ks; omega)⟩ ?_
      refine zg_istore_n (L' := [(3, .int v4), (1, va_rf l1), (2, .int l2)]) ok dX1_stillIn_30 rfl (by decide) rfl ?_
      refine zg_iincLR (k := 2) (L' := fun v5 => [(2, .int v5), (3, .int v4), (1, va_rf l1)]) ok dX1_stillIn_31 (by decide +kernel) hE rfl (by decide) rfl (k9 := 1) rfl (fun _ => rfl) (fun v5 hE => ?_)
      refine zg_goto (tgt := 10) ok dX1_stillIn_34 (by decide) ?_
      refine zg_sub (L' := [(1, va_rf l1), (2, .int v5)]) [2, 0] rfl ?_
      exact hR _ _ hE
    · refine zg_sub (L' := [(2, .int l2)]) [1] rfl ?_
      exact hk23 _ _ hE
theorem gt_f_X1_stillIn_L10 {Xc : zw_X} {Q : Int32 → zw_H → Prop} {X : String → Nat → zw_H → Prop} (hl : (zw_l Xc).stackTraces = false) (ok : zw_ok Xc cX1_stillIn "MultipoleLine" yX1_stillIn.name 4) (tab : zw_tab Xc []) (fin : zw_fin Xc (Option.some Jvm.ClassFile.FieldType.int) (zq_I Q) X 294 2363) (hRm : zw_rm Xc = rm_X1_stillIn) {kc ks : Nat} (hb : kc ≤ 294 ∧ ks ≤ 2363) {l1 : Option Nat} {k23 : Int32 → zw_H → Prop} (hk23 : ∀ (l2 : Int32) (h : zw_H), k23 l2 h → zw_G Xc kc ks 4 h 23 [(2, .int l2)] []) {k37 : zw_H → Prop} (hk37 : ∀  (h : zw_H), k37  h → zw_G Xc kc ks 4 h 37 [] [])  : ∀ (n9 : Nat) (l2 : Int32) (h : zw_H), zl2 (f_X1_stillIn_B10 (zw_Zf Xc).2.2.2 Q X k23 k37 l1) n9 l2 h → zw_G Xc kc ks 4 h 10 [(1, va_rf l1), (2, .int l2)] [] := by
  intro n9
  induction n9 with
  | zero => intro l2 h hE; exact hE.elim
  | succ n9 ih => intro l2 h hE; exact gt_f_X1_stillIn_B10 hl ok tab fin hRm hb ih hk23 hk37 hE
set_option maxHeartbeats 8000000 in
theorem mt_X1_stillIn {l : Launch} (hl : l.stackTraces = false) {Z : zw_Z} {a0 : Option Nat} {h : zw_H} {Q : Int32 → zw_H → Prop} {X : String → Nat → zw_H → Prop} (hE : f_X1_stillIn Z.2.2.2 a0 h Q X) : zw_Met l Z yX1_stillIn (ws_ yX1_stillIn cX1_stillIn 4 (Option.some Jvm.ClassFile.FieldType.int)) rm_X1_stillIn [zA a0] h (zq_I Q) X := by
  refine zg_start (own := "MultipoleLine") (by decide +kernel) rfl (Nat.le_of_ble_eq_true rfl) hl (fun Xc ok tab fin hRm hXl hXZ => ?_)
  subst hXl
  subst hXZ
  unfold f_X1_stillIn at hE
  refine zg_aload_n ok dX1_stillIn_0 rfl 0 rfl ?_
  refine zg_callV (vs := []) (rest := []) (rm := rm_X1_loaded) ok hRm lk_X1_76 dX1_stillIn_1 hE (fun hE => mt_X1_loaded hl hE) rfl (Nat.le_of_ble_eq_true rfl) ⟨⟨Nat.le_of_ble_eq_true rfl, Nat.le_of_ble_eq_true rfl⟩, Nat.le_of_ble_eq_true rfl, Nat.le_of_ble_eq_true rfl⟩ (zg_retA (fun v1 h1 hE => ?_)) (zg_xok ok tab fin ⟨Nat.le_of_ble_eq_true rfl, Nat.le_of_ble_eq_true rfl⟩)
  refine zg_cost (kc2 := 1) (ks2 := 6) ⟨rfl, rfl⟩ ?_
  refine zg_callV (vs := []) (rest := []) (rm := rm_X4_copy) ok hRm lk_X1_349 dX1_stillIn_4 hE (fun hE => mt_X4_copy hl hE) rfl (Nat.le_of_ble_eq_true rfl) ⟨⟨Nat.le_of_ble_eq_true rfl, Nat.le_of_ble_eq_true rfl⟩, Nat.le_of_ble_eq_true rfl, Nat.le_of_ble_eq_true rfl⟩ (zg_retA (fun v2 h2 hE => ?_)) (zg_xok ok tab fin ⟨Nat.le_of_ble_eq_true rfl, Nat.le_of_ble_eq_true rfl⟩)
  refine zg_cost (kc2 := 294) (ks2 := 2363) ⟨rfl, rfl⟩ ?_
  refine zg_astore_nR (L' := [(1, va_rf v2), (0, va_rf a0)]) ok dX1_stillIn_7 rfl (by decide) 0 rfl rfl rfl ?_
  refine zg_iconst (v := 0) ok dX1_stillIn_8 (by decide) ?_
  refine zg_istore_nR (L' := [(2, .int 0), (1, va_rf v2), (0, va_rf a0)]) ok dX1_stillIn_9 rfl (by decide) 0 rfl rfl rfl ?_
  refine zg_sub (L' := [(1, va_rf v2), (2, .int 0)]) [1, 0] rfl ?_
  refine gt_f_X1_stillIn_L10 hl ok tab fin hRm ⟨Nat.le_of_ble_eq_true rfl, Nat.le_of_ble_eq_true rfl⟩ ?_ ?_ _ _ _ hE
  · intro v6 h5 hE
    refine zg_iload_n ok dX1_stillIn_23 rfl 0 rfl ?_
    exact zg_iret ok fin dX1_stillIn_24 ⟨Nat.le_of_ble_eq_true rfl, Nat.le_of_ble_eq_true rfl⟩ hE
  · intro h6 hE
    refine zg_iconst (v := (-1)) ok dX1_stillIn_37 (by decide) ?_
    exact zg_iret ok fin dX1_stillIn_38 ⟨Nat.le_of_ble_eq_true rfl, Nat.le_of_ble_eq_true rfl⟩ hE
set_option maxHeartbeats 8000000 in
theorem gt_f_X1_orderFor_B29 {Xc : zw_X} {Q : Int32 → zw_H → Prop} {X : String → Nat → zw_H → Prop} (hl : (zw_l Xc).stackTraces = false) (ok : zw_ok Xc cX1_orderFor "MultipoleLine" yX1_orderFor.name 7) (tab : zw_tab Xc []) (fin : zw_fin Xc (Option.some Jvm.ClassFile.FieldType.int) (zq_I Q) X 3 18) (hRm : zw_rm Xc = rm_X1_orderFor) {kc ks : Nat} (hb : kc ≤ 3 ∧ ks ≤ 18) {R : Int32 → zw_H → Prop} {l1 : Int32} {l3 : Option Nat} {l4 : UInt64} (hR : ∀ (l6 : Int32) (h : zw_H), R l6 h → zw_G Xc kc ks 7 h 29 [(1, .int l1), (3, va_rf l3), (4, .double l4), (6, .int l6)] []) {k48 : Int32 → zw_H → Prop} (hk48 : ∀ (l6 : Int32) (h : zw_H), k48 l6 h → zw_G Xc kc ks 7 h 48 [(6, .int l6)] []) {k57 : zw_H → Prop} (hk57 : ∀  (h : zw_H), k57  h → zw_G Xc kc ks 7 h 57 [] [])  {l6 : Int32} {h : zw_H} (hE : f_X1_orderFor_B29 (zw_Zf Xc).2.2.2 Q X k48 k57 l1 l3 l4 R l6 h) : zw_G Xc kc ks 7 h 29 [(1, .int l1), (3, va_rf l3), (4, .double l4), (6, .int l6)] [] := by
  unfold f_X1_orderFor_B29 at hE
  refine zg_iload ok dX1_orderFor_29 3 rfl ?_
  refine zg_iconst (v := 4) ok dX1_orderFor_31 (by decide) ?_
  refine zg_icmp_gt (tgt := 57) ok dX1_orderFor_32 (by decide) hE (fun hE => ?_) (fun hE => ?_)
  · refine zg_sub (L' := []) [] rfl ?_
    exact hk57 _ hE
  · refine zg_aload_n ok dX1_orderFor_35 rfl 1 rfl ?_
    refine zg_iload_n ok dX1_orderFor_36 rfl 0 rfl ?_
    refine zg_iload ok dX1_orderFor_37 3 rfl ?_
    refine zg_callV (vs := [zI l1, zI l6]) (rest := []) (rm := rm_X4_bound) ok hRm lk_X1_318 dX1_orderFor_39 hE (fun hE => mt_X4_bound hl hE) rfl (Nat.le_of_ble_eq_true rfl) ⟨⟨Nat.le_of_ble_eq_true rfl, Nat.le_of_ble_eq_true rfl⟩, (by show kc + 0 ≤ 3; omega), (by show ks + 0 ≤ 18; omega)⟩ (zg_retD (fun v4 h4 hE => ?_)) (zg_xok ok tab fin ⟨(by show kc + 0 ≤ 3; omega), (by show ks + 0 ≤ 18; omega)⟩)
    refine zg_cost (kc2 := kc) (ks2 := ks) ⟨(by show kc + 0 = kc; omega), (by show ks + 0 = ks; omega)⟩ ?_
    refine zg_dload ok dX1_orderFor_42 2 rfl ?_
    refine zg_dcmp ok dX1_orderFor_44 ?_
    refine zg_if_gt (tgt := 51) ok dX1_orderFor_45 (by decide) hE (fun hE => ?_) (fun hE => ?_)
    · refine zg_iincL (k := 3) (L' := fun v5 => [(6, .int v5), (1, .int l1), (3, va_rf l3), (4, .double l4)]) ok dX1_orderFor_51 (by decide +kernel) hE rfl (by decide) (fun _ => rfl) (fun v5 hE => ?_)
      refine zg_goto (tgt := 29) ok dX1_orderFor_54 (by decide) ?_
      refine zg_sub (L' := [(1, .int l1), (3, va_rf l3), (4, .double l4), (6, .int v5)]) [1, 2, 3, 0] rfl ?_
      exact hR _ _ hE
    · refine zg_sub (L' := [(6, .int l6)]) [3] rfl ?_
      exact hk48 _ _ hE
theorem gt_f_X1_orderFor_L29 {Xc : zw_X} {Q : Int32 → zw_H → Prop} {X : String → Nat → zw_H → Prop} (hl : (zw_l Xc).stackTraces = false) (ok : zw_ok Xc cX1_orderFor "MultipoleLine" yX1_orderFor.name 7) (tab : zw_tab Xc []) (fin : zw_fin Xc (Option.some Jvm.ClassFile.FieldType.int) (zq_I Q) X 3 18) (hRm : zw_rm Xc = rm_X1_orderFor) {kc ks : Nat} (hb : kc ≤ 3 ∧ ks ≤ 18) {l1 : Int32} {l3 : Option Nat} {l4 : UInt64} {k48 : Int32 → zw_H → Prop} (hk48 : ∀ (l6 : Int32) (h : zw_H), k48 l6 h → zw_G Xc kc ks 7 h 48 [(6, .int l6)] []) {k57 : zw_H → Prop} (hk57 : ∀  (h : zw_H), k57  h → zw_G Xc kc ks 7 h 57 [] [])  : ∀ (n9 : Nat) (l6 : Int32) (h : zw_H), zl2 (f_X1_orderFor_B29 (zw_Zf Xc).2.2.2 Q X k48 k57 l1 l3 l4) n9 l6 h → zw_G Xc kc ks 7 h 29 [(1, .int l1), (3, va_rf l3), (4, .double l4), (6, .int l6)] [] := by
  intro n9
  induction n9 with
  | zero => intro l6 h hE; exact hE.elim
  | succ n9 ih => intro l6 h hE; exact gt_f_X1_orderFor_B29 hl ok tab fin hRm hb ih hk48 hk57 hE
set_option maxHeartbeats 8000000 in
theorem mt_X1_orderFor {l : Launch} (hl : l.stackTraces = false) {Z : zw_Z} {a0 : Option Nat} {a1 : Int32} {a2 : Int32} {h : zw_H} {Q : Int32 → zw_H → Prop} {X : String → Nat → zw_H → Prop} (hE : f_X1_orderFor Z.2.2.2 a0 a1 a2 h Q X) : zw_Met l Z yX1_orderFor (ws_ yX1_orderFor cX1_orderFor 7 (Option.some Jvm.ClassFile.FieldType.int)) rm_X1_orderFor [zA a0, zI a1, zI a2] h (zq_I Q) X := by
  refine zg_start (own := "MultipoleLine") (by decide +kernel) rfl (Nat.le_of_ble_eq_true rfl) hl (fun Xc ok tab fin hRm hXl hXZ => ?_)
  subst hXl
  subst hXZ
  unfold f_X1_orderFor at hE
  refine zg_aload_n ok dX1_orderFor_0 rfl 0 rfl ?_
  refine zg_iload_n ok dX1_orderFor_1 rfl 1 rfl ?_
  refine zg_callV (vs := [zI a1]) (rest := []) (rm := rm_X1_at) ok hRm lk_X1_193 dX1_orderFor_2 hE (fun hE => mt_X1_at hl hE) rfl (Nat.le_of_ble_eq_true rfl) ⟨⟨Nat.le_of_ble_eq_true rfl, Nat.le_of_ble_eq_true rfl⟩, Nat.le_of_ble_eq_true rfl, Nat.le_of_ble_eq_true rfl⟩ (zg_retA (fun v1 h1 hE => ?_)) (zg_xok ok tab fin ⟨Nat.le_of_ble_eq_true rfl, Nat.le_of_ble_eq_true rfl⟩)
  refine zg_cost (kc2 := 2) (ks2 := 12) ⟨rfl, rfl⟩ ?_
  refine zg_astore_n (L' := [(3, va_rf v1), (0, va_rf a0), (1, .int a1), (2, .int a2)]) ok dX1_orderFor_5 rfl (by decide) rfl ?_
  refine zg_iload_n ok dX1_orderFor_6 rfl 3 rfl ?_
  refine zg_i2l ok dX1_orderFor_7 ?_
  refine zg_lconst (v := 0) ok dX1_orderFor_8 (by decide) ?_
  refine zg_ldc2 (v := (99999 : Int64)) ok q2035 dX1_orderFor_9 ?_
  refine zg_callS (vs := [zJ a2.toInt64, zJ 0, zJ (99999 : Int64)]) (rest := []) (rm := rm_X1_in) ok hRm lk_X1_58 dX1_orderFor_12 hE (fun hE => mt_X1_in hl hE) rfl (Nat.le_of_ble_eq_true rfl) ⟨⟨Nat.le_of_ble_eq_true rfl, Nat.le_of_ble_eq_true rfl⟩, Nat.le_of_ble_eq_true rfl, Nat.le_of_ble_eq_true rfl⟩ (zg_retI (fun v2 h2 hE => ?_)) (zg_xok ok tab fin ⟨Nat.le_of_ble_eq_true rfl, Nat.le_of_ble_eq_true rfl⟩)
  refine zg_cost (kc2 := 2) (ks2 := 12) ⟨rfl, rfl⟩ ?_
  refine zg_callS (vs := [zI v2]) (rest := []) (rm := rm_X1_checkArgument) ok hRm lk_X1_98 dX1_orderFor_15 hE (fun hE => mt_X1_checkArgument hl hE) rfl (Nat.le_of_ble_eq_true rfl) ⟨⟨Nat.le_of_ble_eq_true rfl, Nat.le_of_ble_eq_true rfl⟩, Nat.le_of_ble_eq_true rfl, Nat.le_of_ble_eq_true rfl⟩ (zg_retV (fun h3 hE => ?_)) (zg_xok ok tab fin ⟨Nat.le_of_ble_eq_true rfl, Nat.le_of_ble_eq_true rfl⟩)
  refine zg_cost (kc2 := 3) (ks2 := 18) ⟨rfl, rfl⟩ ?_
  refine zg_iload_n ok dX1_orderFor_18 rfl 3 rfl ?_
  refine zg_i2d ok dX1_orderFor_19 ?_
  refine zg_ldc2d (v := (4652007308841189376 : UInt64)) ok q2036 dX1_orderFor_20 ?_
  refine zg_ddivE ok dX1_orderFor_23 hE (fun hE => ?_)
  refine zg_letD hE (fun v3 hE => ?_)
  refine zg_dstoreR (L' := [(4, .double v3), (3, va_rf v1), (0, va_rf a0), (1, .int a1), (2, .int a2)]) ok dX1_orderFor_24 (by decide) 0 rfl rfl rfl ?_
  refine zg_iconst (v := 0) ok dX1_orderFor_26 (by decide) ?_
  refine zg_istore (L' := [(6, .int 0), (4, .double v3), (3, va_rf v1), (0, va_rf a0), (1, .int a1), (2, .int a2)]) ok dX1_orderFor_27 (by decide) rfl ?_
  refine zg_sub (L' := [(1, .int a1), (3, va_rf v1), (4, .double v3), (6, .int 0)]) [4, 2, 1, 0] rfl ?_
  refine gt_f_X1_orderFor_L29 hl ok tab fin hRm ⟨Nat.le_of_ble_eq_true rfl, Nat.le_of_ble_eq_true rfl⟩ ?_ ?_ _ _ _ hE
  · intro v6 h5 hE
    refine zg_iload ok dX1_orderFor_48 0 rfl ?_
    exact zg_iret ok fin dX1_orderFor_50 ⟨Nat.le_of_ble_eq_true rfl, Nat.le_of_ble_eq_true rfl⟩ hE
  · intro h6 hE
    refine zg_iconst (v := (-1)) ok dX1_orderFor_57 (by decide) ?_
    exact zg_iret ok fin dX1_orderFor_58 ⟨Nat.le_of_ble_eq_true rfl, Nat.le_of_ble_eq_true rfl⟩ hE
set_option maxHeartbeats 8000000 in
theorem gt_f_X1_costOf_B21 {Xc : zw_X} {Q : Int32 → zw_H → Prop} {X : String → Nat → zw_H → Prop} (hl : (zw_l Xc).stackTraces = false) (ok : zw_ok Xc cX1_costOf "MultipoleLine" yX1_costOf.name 5) (tab : zw_tab Xc []) (fin : zw_fin Xc (Option.some Jvm.ClassFile.FieldType.int) (zq_I Q) X 0 0) (hRm : zw_rm Xc = rm_X1_costOf) {kc ks : Nat} (hb : kc ≤ 0 ∧ ks ≤ 0) {R : Int32 → Int32 → zw_H → Prop} {l0 : Option Nat} {l2 : Int32} (hR : ∀ (l3 : Int32) (l4 : Int32) (h : zw_H), R l3 l4 h → zw_G Xc kc ks 5 h 21 [(0, va_rf l0), (2, .int l2), (3, .int l3), (4, .int l4)] []) {k62 : Int32 → zw_H → Prop} (hk62 : ∀ (l3 : Int32) (h : zw_H), k62 l3 h → zw_G Xc kc ks 5 h 62 [(0, va_rf l0), (2, .int l2), (3, .int l3)] [])  {l3 : Int32} {l4 : Int32} {h : zw_H} (hE : f_X1_costOf_B21 (zw_Zf Xc).2.2.2 Q X k62 l0 l2 R l3 l4 h) : zw_G Xc kc ks 5 h 21 [(0, va_rf l0), (2, .int l2), (3, .int l3), (4, .int l4)] [] := by
  unfold f_X1_costOf_B21 at hE
  refine zg_iload ok dX1_costOf_21 3 rfl ?_
  refine zg_aload_n ok dX1_costOf_23 rfl 0 rfl ?_
  refine zg_getA ok lf_X1_68 dX1_costOf_24 hE (fun v4 hE => ?_)
  refine zg_callV (vs := []) (rest := [.int l4]) (rm := rm_X4_size) ok hRm lk_X1_80 dX1_costOf_27 hE (fun hE => mt_X4_size hl hE) rfl (Nat.le_of_ble_eq_true rfl) ⟨⟨Nat.le_of_ble_eq_true rfl, Nat.le_of_ble_eq_true rfl⟩, (by show kc + 0 ≤ 0; omega), (by show ks + 0 ≤ 0; omega)⟩ (zg_retI (fun v5 h2 hE => ?_)) (zg_xok ok tab fin ⟨(by show kc + 0 ≤ 0; omega), (by show ks + 0 ≤ 0; omega)⟩)
  refine zg_cost (kc2 := kc) (ks2 := ks) ⟨(by show kc + 0 = kc; omega), (by show ks + 0 = ks; omega)⟩ ?_
  refine zg_icmp_ge (tgt := 62) ok dX1_costOf_30 (by decide) hE (fun hE => ?_) (fun hE => ?_)
  · refine zg_sub (L' := [(0, va_rf l0), (2, .int l2), (3, .int l3)]) [0, 1, 2] rfl ?_
    exact hk62 _ _ hE
  · refine zg_iload_n ok dX1_costOf_33 rfl 2 rfl ?_
    refine zg_aload_n ok dX1_costOf_34 rfl 0 rfl ?_
    refine zg_getA ok lf_X1_68 dX1_costOf_35 hE (fun v6 hE => ?_)
    refine zg_aload_n ok dX1_costOf_38 rfl 0 rfl ?_
    refine zg_getA ok lf_X1_68 dX1_costOf_39 hE (fun v7 hE => ?_)
    refine zg_iload ok dX1_costOf_42 3 rfl ?_
    refine zg_callV (vs := [zI l4]) (rest := [va_rf v6, .int l3]) (rm := rm_X4_at) ok hRm lk_X1_88 dX1_costOf_44 hE (fun hE => mt_X4_at hl hE) rfl (Nat.le_of_ble_eq_true rfl) ⟨⟨Nat.le_of_ble_eq_true rfl, Nat.le_of_ble_eq_true rfl⟩, (by show kc + 0 ≤ 0; omega), (by show ks + 0 ≤ 0; omega)⟩ (zg_retA (fun v8 h3 hE => ?_)) (zg_xok ok tab fin ⟨(by show kc + 0 ≤ 0; omega), (by show ks + 0 ≤ 0; omega)⟩)
    refine zg_cost (kc2 := kc) (ks2 := ks) ⟨(by show kc + 0 = kc; omega), (by show ks + 0 = ks; omega)⟩ ?_
    refine zg_getI ok lf_X1_139 dX1_costOf_47 hE (fun v9 hE => ?_)
    refine zg_iconst (v := 0) ok dX1_costOf_50 (by decide) ?_
    refine zg_callV (vs := [zI v9, zI 0]) (rest := [.int l3]) (rm := rm_X4_cost) ok hRm lk_X1_283 dX1_costOf_51 hE (fun hE => mt_X4_cost hl hE) rfl (Nat.le_of_ble_eq_true rfl) ⟨⟨Nat.le_of_ble_eq_true rfl, Nat.le_of_ble_eq_true rfl⟩, (by show kc + 0 ≤ 0; omega), (by show ks + 0 ≤ 0; omega)⟩ (zg_retI (fun v10 h4 hE => ?_)) (zg_xok ok tab fin ⟨(by show kc + 0 ≤ 0; omega), (by show ks + 0 ≤ 0; omega)⟩)
    refine zg_cost (kc2 := kc) (ks2 := ks) ⟨(by show kc + 0 = kc; omega), (by show ks + 0 = ks; omega)⟩ ?_
    refine zg_iadd ok dX1_costOf_54 ?_
    refine zg_letI hE (fun v11 hE => ?_)
    refine zg_istore_n (L' := [(3, .int v11), (0, va_rf l0), (2, .int l2), (4, .int l4)]) ok dX1_costOf_55 rfl (by decide) rfl ?_
    refine zg_iincL (k := 3) (L' := fun v12 => [(4, .int v12), (3, .int v11), (0, va_rf l0), (2, .int l2)]) ok dX1_costOf_56 (by decide +kernel) hE rfl (by decide) (fun _ => rfl) (fun v12 hE => ?_)
    refine zg_goto (tgt := 21) ok dX1_costOf_59 (by decide) ?_
    refine zg_sub (L' := [(0, va_rf l0), (2, .int l2), (3, .int v11), (4, .int v12)]) [2, 3, 1, 0] rfl ?_
    exact hR _ _ _ hE
theorem gt_f_X1_costOf_L21 {Xc : zw_X} {Q : Int32 → zw_H → Prop} {X : String → Nat → zw_H → Prop} (hl : (zw_l Xc).stackTraces = false) (ok : zw_ok Xc cX1_costOf "MultipoleLine" yX1_costOf.name 5) (tab : zw_tab Xc []) (fin : zw_fin Xc (Option.some Jvm.ClassFile.FieldType.int) (zq_I Q) X 0 0) (hRm : zw_rm Xc = rm_X1_costOf) {kc ks : Nat} (hb : kc ≤ 0 ∧ ks ≤ 0) {l0 : Option Nat} {l2 : Int32} {k62 : Int32 → zw_H → Prop} (hk62 : ∀ (l3 : Int32) (h : zw_H), k62 l3 h → zw_G Xc kc ks 5 h 62 [(0, va_rf l0), (2, .int l2), (3, .int l3)] [])  : ∀ (n9 : Nat) (l3 : Int32) (l4 : Int32) (h : zw_H), zl3 (f_X1_costOf_B21 (zw_Zf Xc).2.2.2 Q X k62 l0 l2) n9 l3 l4 h → zw_G Xc kc ks 5 h 21 [(0, va_rf l0), (2, .int l2), (3, .int l3), (4, .int l4)] [] := by
  intro n9
  induction n9 with
  | zero => intro l3 l4 h hE; exact hE.elim
  | succ n9 ih => intro l3 l4 h hE; exact gt_f_X1_costOf_B21 hl ok tab fin hRm hb ih hk62 hE
set_option maxHeartbeats 8000000 in
theorem mt_X1_costOf {l : Launch} (hl : l.stackTraces = false) {Z : zw_Z} {a0 : Option Nat} {a1 : Int32} {h : zw_H} {Q : Int32 → zw_H → Prop} {X : String → Nat → zw_H → Prop} (hE : f_X1_costOf Z.2.2.2 a0 a1 h Q X) : zw_Met l Z yX1_costOf (ws_ yX1_costOf cX1_costOf 5 (Option.some Jvm.ClassFile.FieldType.int)) rm_X1_costOf [zA a0, zI a1] h (zq_I Q) X := by
  refine zg_start (own := "MultipoleLine") (by decide +kernel) rfl (Nat.le_of_ble_eq_true rfl) hl (fun Xc ok tab fin hRm hXl hXZ => ?_)
  subst hXl
  subst hXZ
  unfold f_X1_costOf at hE
  refine zg_aload_n ok dX1_costOf_0 rfl 0 rfl ?_
  refine zg_getA ok lf_X1_68 dX1_costOf_1 hE (fun v1 hE => ?_)
  refine zg_getI ok lf_X1_101 dX1_costOf_4 hE (fun v2 hE => ?_)
  refine zg_istore_n (L' := [(2, .int v2), (0, va_rf a0), (1, .int a1)]) ok dX1_costOf_7 rfl (by decide) rfl ?_
  refine zg_iconst (v := 0) ok dX1_costOf_8 (by decide) ?_
  refine zg_istore_n (L' := [(3, .int 0), (2, .int v2), (0, va_rf a0), (1, .int a1)]) ok dX1_costOf_9 rfl (by decide) rfl ?_
  refine zg_aload_n ok dX1_costOf_10 rfl 2 rfl ?_
  refine zg_getA ok lf_X1_68 dX1_costOf_11 hE (fun v3 hE => ?_)
  refine zg_iload_n ok dX1_costOf_14 rfl 3 rfl ?_
  refine zg_put (ty := .int) ok lf_X1_101 (Or.inl rfl) (by decide) (by decide +kernel) rfl rfl dX1_costOf_15 hE (fun h1 hE => ?_)
  refine zg_iconst (v := 0) ok dX1_costOf_18 (by decide) ?_
  refine zg_istore (L' := [(4, .int 0), (3, .int 0), (2, .int v2), (0, va_rf a0), (1, .int a1)]) ok dX1_costOf_19 (by decide) rfl ?_
  refine zg_sub (L' := [(0, va_rf a0), (2, .int v2), (3, .int 0), (4, .int 0)]) [3, 2, 1, 0] rfl ?_
  refine gt_f_X1_costOf_L21 hl ok tab fin hRm ⟨Nat.le_of_ble_eq_true rfl, Nat.le_of_ble_eq_true rfl⟩ ?_ _ _ _ _ hE
  · intro v13 h5 hE
    refine zg_aload_n ok dX1_costOf_62 rfl 0 rfl ?_
    refine zg_getA ok lf_X1_68 dX1_costOf_63 hE (fun v14 hE => ?_)
    refine zg_iload_n ok dX1_costOf_66 rfl 1 rfl ?_
    refine zg_put (ty := .int) ok lf_X1_101 (Or.inl rfl) (by decide) (by decide +kernel) rfl rfl dX1_costOf_67 hE (fun h6 hE => ?_)
    refine zg_iload_n ok dX1_costOf_70 rfl 2 rfl ?_
    exact zg_iret ok fin dX1_costOf_71 ⟨Nat.le_of_ble_eq_true rfl, Nat.le_of_ble_eq_true rfl⟩ hE
