set_option maxRecDepth 100000
set_option maxHeartbeats 8000000 in
theorem mt_X2_init {l : Launch} (hl : l.stackTraces = false) {Z : zw_Z} {a0 : Option Nat} {h : zw_H} {Q : zw_H → Prop} {X : String → Nat → zw_H → Prop} (hE : f_X2_init Z.2.2.2 a0 h Q X) : zw_Met l Z yX2_init (ws_ yX2_init cX2_init 1 (Option.none : Option Jvm.ClassFile.FieldType)) rm_X2_init [zA a0] h (zq_V Q) X := by
  refine zg_start (own := "MultipoleLineModel") (by decide +kernel) rfl (Nat.le_of_ble_eq_true rfl) hl (fun Xc ok tab fin hRm hXl hXZ => ?_)
  subst hXl
  subst hXZ
  unfold f_X2_init at hE
  refine zg_aload_n ok dX2_init_0 rfl 0 rfl ?_
  refine zg_objInitE (rest := []) ok hRm q2406 ⟨Nat.le_of_ble_eq_true rfl, Nat.le_of_ble_eq_true rfl⟩ (Nat.le_of_ble_eq_true rfl) dX2_init_1 hE (fun hE => ?_)
  refine zg_aload_n ok dX2_init_4 rfl 0 rfl ?_
  refine zg_bipush (v := 103) ok dX2_init_5 (by decide) ?_
  refine zg_newI (b := 824) ok (by rw [hRm]; exact ⟨Nat.le_of_ble_eq_true rfl, Nat.le_of_ble_eq_true rfl⟩) (Nat.le_of_ble_eq_true rfl) dX2_init_7 hE (fun v1 h1 hE => ?_)
  refine zg_cost (kc2 := 1) (ks2 := 824) ⟨rfl, rfl⟩ ?_
  refine zg_put (ty := (.array .int)) ok lf_X2_9 (Or.inr ⟨rfl, rfl, rfl, "MultipoleLineModel", q2408, Or.inl rfl⟩) (by decide) (by decide +kernel) (zw_nrA _ _) (zw_frA _ _) dX2_init_9 hE (fun h2 hE => ?_)
  refine zg_aload_n ok dX2_init_12 rfl 0 rfl ?_
  refine zg_bipush (v := 103) ok dX2_init_13 (by decide) ?_
  refine zg_newI (b := 824) ok (by rw [hRm]; exact ⟨Nat.le_of_ble_eq_true rfl, Nat.le_of_ble_eq_true rfl⟩) (Nat.le_of_ble_eq_true rfl) dX2_init_15 hE (fun v2 h3 hE => ?_)
  refine zg_cost (kc2 := 2) (ks2 := 1648) ⟨rfl, rfl⟩ ?_
  refine zg_put (ty := (.array .int)) ok lf_X2_13 (Or.inr ⟨rfl, rfl, rfl, "MultipoleLineModel", q2409, Or.inl rfl⟩) (by decide) (by decide +kernel) (zw_nrA _ _) (zw_frA _ _) dX2_init_17 hE (fun h4 hE => ?_)
  refine zg_aload_n ok dX2_init_20 rfl 0 rfl ?_
  refine zg_sipush (v := 824) ok dX2_init_21 (by decide) ?_
  refine zg_newI (b := 824) ok (by rw [hRm]; exact ⟨Nat.le_of_ble_eq_true rfl, Nat.le_of_ble_eq_true rfl⟩) (Nat.le_of_ble_eq_true rfl) dX2_init_24 hE (fun v3 h5 hE => ?_)
  refine zg_cost (kc2 := 3) (ks2 := 2472) ⟨rfl, rfl⟩ ?_
  refine zg_put (ty := (.array .int)) ok lf_X2_16 (Or.inr ⟨rfl, rfl, rfl, "MultipoleLineModel", q2410, Or.inl rfl⟩) (by decide) (by decide +kernel) (zw_nrA _ _) (zw_frA _ _) dX2_init_26 hE (fun h6 hE => ?_)
  refine zg_aload_n ok dX2_init_29 rfl 0 rfl ?_
  refine zg_sipush (v := 206) ok dX2_init_30 (by decide) ?_
  refine zg_newI (b := 824) ok (by rw [hRm]; exact ⟨Nat.le_of_ble_eq_true rfl, Nat.le_of_ble_eq_true rfl⟩) (Nat.le_of_ble_eq_true rfl) dX2_init_33 hE (fun v4 h7 hE => ?_)
  refine zg_cost (kc2 := 4) (ks2 := 3296) ⟨rfl, rfl⟩ ?_
  refine zg_put (ty := (.array .int)) ok lf_X2_19 (Or.inr ⟨rfl, rfl, rfl, "MultipoleLineModel", q2411, Or.inl rfl⟩) (by decide) (by decide +kernel) (zw_nrA _ _) (zw_frA _ _) dX2_init_35 hE (fun h8 hE => ?_)
  refine zg_aload_n ok dX2_init_38 rfl 0 rfl ?_
  refine zg_iconst (v := 2) ok dX2_init_39 (by decide) ?_
  refine zg_newZ (b := 824) ok (by rw [hRm]; exact ⟨Nat.le_of_ble_eq_true rfl, Nat.le_of_ble_eq_true rfl⟩) (Nat.le_of_ble_eq_true rfl) dX2_init_40 hE (fun v5 h9 hE => ?_)
  refine zg_cost (kc2 := 5) (ks2 := 4120) ⟨rfl, rfl⟩ ?_
  refine zg_put (ty := (.array .boolean)) ok lf_X2_22 (Or.inr ⟨rfl, rfl, rfl, "MultipoleLineModel", q2412, Or.inl rfl⟩) (by decide) (by decide +kernel) (zw_nrA _ _) (zw_frA _ _) dX2_init_42 hE (fun h10 hE => ?_)
  refine zg_aload_n ok dX2_init_45 rfl 0 rfl ?_
  refine zg_sipush (v := 500) ok dX2_init_46 (by decide) ?_
  refine zg_newB (b := 824) ok (by rw [hRm]; exact ⟨Nat.le_of_ble_eq_true rfl, Nat.le_of_ble_eq_true rfl⟩) (Nat.le_of_ble_eq_true rfl) dX2_init_49 hE (fun v6 h11 hE => ?_)
  refine zg_cost (kc2 := 6) (ks2 := 4944) ⟨rfl, rfl⟩ ?_
  refine zg_put (ty := (.array .byte)) ok lf_X2_26 (Or.inr ⟨rfl, rfl, rfl, "MultipoleLineModel", q2415, Or.inl rfl⟩) (by decide) (by decide +kernel) (zw_nrA _ _) (zw_frA _ _) dX2_init_51 hE (fun h12 hE => ?_)
  refine zg_aload_n ok dX2_init_54 rfl 0 rfl ?_
  refine zg_iconst (v := (-1)) ok dX2_init_55 (by decide) ?_
  refine zg_put (ty := .int) ok lf_X2_30 (Or.inl rfl) (by decide) (by decide +kernel) rfl rfl dX2_init_56 hE (fun h13 hE => ?_)
  refine zg_aload_n ok dX2_init_59 rfl 0 rfl ?_
  refine zg_sipush (v := 315) ok dX2_init_60 (by decide) ?_
  refine zg_newJ (b := 824) ok (by rw [hRm]; exact ⟨Nat.le_of_ble_eq_true rfl, Nat.le_of_ble_eq_true rfl⟩) (Nat.le_of_ble_eq_true rfl) dX2_init_63 hE (fun v7 h14 hE => ?_)
  refine zg_cost (kc2 := 7) (ks2 := 5768) ⟨rfl, rfl⟩ ?_
  refine zg_put (ty := (.array .long)) ok lf_X2_34 (Or.inr ⟨rfl, rfl, rfl, "MultipoleLineModel", q2424, Or.inl rfl⟩) (by decide) (by decide +kernel) (zw_nrA _ _) (zw_frA _ _) dX2_init_65 hE (fun h15 hE => ?_)
  refine zg_aload_n ok dX2_init_68 rfl 0 rfl ?_
  refine zg_bipush (v := 30) ok dX2_init_69 (by decide) ?_
  refine zg_newI (b := 824) ok (by rw [hRm]; exact ⟨Nat.le_of_ble_eq_true rfl, Nat.le_of_ble_eq_true rfl⟩) (Nat.le_of_ble_eq_true rfl) dX2_init_71 hE (fun v8 h16 hE => ?_)
  refine zg_cost (kc2 := 8) (ks2 := 6592) ⟨rfl, rfl⟩ ?_
  refine zg_put (ty := (.array .int)) ok lf_X2_38 (Or.inr ⟨rfl, rfl, rfl, "MultipoleLineModel", q2425, Or.inl rfl⟩) (by decide) (by decide +kernel) (zw_nrA _ _) (zw_frA _ _) dX2_init_73 hE (fun h17 hE => ?_)
  refine zg_aload_n ok dX2_init_76 rfl 0 rfl ?_
  refine zg_bipush (v := 30) ok dX2_init_77 (by decide) ?_
  refine zg_newI (b := 824) ok (by rw [hRm]; exact ⟨Nat.le_of_ble_eq_true rfl, Nat.le_of_ble_eq_true rfl⟩) (Nat.le_of_ble_eq_true rfl) dX2_init_79 hE (fun v9 h18 hE => ?_)
  refine zg_cost (kc2 := 9) (ks2 := 7416) ⟨rfl, rfl⟩ ?_
  refine zg_put (ty := (.array .int)) ok lf_X2_41 (Or.inr ⟨rfl, rfl, rfl, "MultipoleLineModel", q2426, Or.inl rfl⟩) (by decide) (by decide +kernel) (zw_nrA _ _) (zw_frA _ _) dX2_init_81 hE (fun h19 hE => ?_)
  refine zg_aload_n ok dX2_init_84 rfl 0 rfl ?_
  refine zg_iconst (v := 5) ok dX2_init_85 (by decide) ?_
  refine zg_newD (b := 824) ok (by rw [hRm]; exact ⟨Nat.le_of_ble_eq_true rfl, Nat.le_of_ble_eq_true rfl⟩) (Nat.le_of_ble_eq_true rfl) dX2_init_86 hE (fun v10 h20 hE => ?_)
  refine zg_cost (kc2 := 10) (ks2 := 8240) ⟨rfl, rfl⟩ ?_
  refine zg_put (ty := (.array .double)) ok lf_X2_44 (Or.inr ⟨rfl, rfl, rfl, "MultipoleLineModel", q2428, Or.inl rfl⟩) (by decide) (by decide +kernel) (zw_nrA _ _) (zw_frA _ _) dX2_init_88 hE (fun h21 hE => ?_)
  refine zg_aload_n ok dX2_init_91 rfl 0 rfl ?_
  refine zg_iconst (v := 5) ok dX2_init_92 (by decide) ?_
  refine zg_newD (b := 824) ok (by rw [hRm]; exact ⟨Nat.le_of_ble_eq_true rfl, Nat.le_of_ble_eq_true rfl⟩) (Nat.le_of_ble_eq_true rfl) dX2_init_93 hE (fun v11 h22 hE => ?_)
  refine zg_cost (kc2 := 11) (ks2 := 9064) ⟨rfl, rfl⟩ ?_
  refine zg_put (ty := (.array .double)) ok lf_X2_48 (Or.inr ⟨rfl, rfl, rfl, "MultipoleLineModel", q2429, Or.inl rfl⟩) (by decide) (by decide +kernel) (zw_nrA _ _) (zw_frA _ _) dX2_init_95 hE (fun h23 hE => ?_)
  refine zg_aload_n ok dX2_init_98 rfl 0 rfl ?_
  refine zg_bipush (v := 24) ok dX2_init_99 (by decide) ?_
  refine zg_newI (b := 824) ok (by rw [hRm]; exact ⟨Nat.le_of_ble_eq_true rfl, Nat.le_of_ble_eq_true rfl⟩) (Nat.le_of_ble_eq_true rfl) dX2_init_101 hE (fun v12 h24 hE => ?_)
  refine zg_cost (kc2 := 12) (ks2 := 9888) ⟨rfl, rfl⟩ ?_
  refine zg_put (ty := (.array .int)) ok lf_X2_51 (Or.inr ⟨rfl, rfl, rfl, "MultipoleLineModel", q2430, Or.inl rfl⟩) (by decide) (by decide +kernel) (zw_nrA _ _) (zw_frA _ _) dX2_init_103 hE (fun h25 hE => ?_)
  refine zg_aload_n ok dX2_init_106 rfl 0 rfl ?_
  refine zg_sipush (v := 480) ok dX2_init_107 (by decide) ?_
  refine zg_newB (b := 824) ok (by rw [hRm]; exact ⟨Nat.le_of_ble_eq_true rfl, Nat.le_of_ble_eq_true rfl⟩) (Nat.le_of_ble_eq_true rfl) dX2_init_110 hE (fun v13 h26 hE => ?_)
  refine zg_cost (kc2 := 13) (ks2 := 10712) ⟨rfl, rfl⟩ ?_
  refine zg_put (ty := (.array .byte)) ok lf_X2_54 (Or.inr ⟨rfl, rfl, rfl, "MultipoleLineModel", q2431, Or.inl rfl⟩) (by decide) (by decide +kernel) (zw_nrA _ _) (zw_frA _ _) dX2_init_112 hE (fun h27 hE => ?_)
  exact zg_vret ok fin dX2_init_115 ⟨Nat.le_of_ble_eq_true rfl, Nat.le_of_ble_eq_true rfl⟩ hE
set_option maxHeartbeats 8000000 in
theorem mt_X2_thrown {l : Launch} (hl : l.stackTraces = false) {Z : zw_Z} {a0 : Option Nat} {h : zw_H} {Q : Int32 → zw_H → Prop} {X : String → Nat → zw_H → Prop} (hE : f_X2_thrown Z.2.2.2 a0 h Q X) : zw_Met l Z yX2_thrown (ws_ yX2_thrown cX2_thrown 1 (Option.some Jvm.ClassFile.FieldType.int)) rm_X2_thrown [zA a0] h (zq_I Q) X := by
  refine zg_start (own := "MultipoleLineModel") (by decide +kernel) rfl (Nat.le_of_ble_eq_true rfl) hl (fun Xc ok tab fin hRm hXl hXZ => ?_)
  subst hXl
  subst hXZ
  unfold f_X2_thrown at hE
  refine zg_aload_n ok dX2_thrown_0 rfl 0 rfl ?_
  refine zg_getI ok lf_X2_57 dX2_thrown_1 hE (fun v1 hE => ?_)
  exact zg_iret ok fin dX2_thrown_4 ⟨Nat.le_of_ble_eq_true rfl, Nat.le_of_ble_eq_true rfl⟩ hE
set_option maxHeartbeats 8000000 in
theorem gt_f_X2_four_B2 {Xc : zw_X} {Q : zw_H → Prop} {X : String → Nat → zw_H → Prop} (hl : (zw_l Xc).stackTraces = false) (ok : zw_ok Xc cX2_four "MultipoleLineModel" yX2_four.name 3) (tab : zw_tab Xc []) (fin : zw_fin Xc (Option.none : Option Jvm.ClassFile.FieldType) (zq_V Q) X 0 0) (hRm : zw_rm Xc = rm_X2_four) {kc ks : Nat} (hb : kc ≤ 0 ∧ ks ≤ 0) {R : Int32 → zw_H → Prop} {l0 : Option Nat} {l1 : Int32} (hR : ∀ (l2 : Int32) (h : zw_H), R l2 h → zw_G Xc kc ks 3 h 2 [(0, va_rf l0), (1, .int l1), (2, .int l2)] []) {k38 : zw_H → Prop} (hk38 : ∀  (h : zw_H), k38  h → zw_G Xc kc ks 3 h 38 [] [])  {l2 : Int32} {h : zw_H} (hE : f_X2_four_B2 (zw_Zf Xc).2.2.2 Q X k38 l0 l1 R l2 h) : zw_G Xc kc ks 3 h 2 [(0, va_rf l0), (1, .int l1), (2, .int l2)] [] := by
  unfold f_X2_four_B2 at hE
  refine zg_iload_n ok dX2_four_2 rfl 2 rfl ?_
  refine zg_if_lt (tgt := 38) ok dX2_four_3 (by decide) hE (fun hE => ?_) (fun hE => ?_)
  · refine zg_sub (L' := []) [] rfl ?_
    exact hk38 _ hE
  · refine zg_aload_n ok dX2_four_6 rfl 0 rfl ?_
    refine zg_getA ok lf_X2_26 dX2_four_7 hE (fun v1 hE => ?_)
    refine zg_aload_n ok dX2_four_10 rfl 0 rfl ?_
    refine zg_getI ok lf_X2_64 dX2_four_11 hE (fun v2 hE => ?_)
    refine zg_iload_n ok dX2_four_14 rfl 1 rfl ?_
    refine zg_bipush (v := 8) ok dX2_four_15 (by decide) ?_
    refine zg_iload_n ok dX2_four_17 rfl 2 rfl ?_
    refine zg_imul ok dX2_four_18 ?_
    refine zg_ishr ok dX2_four_19 ?_
    refine zg_i2b ok dX2_four_20 ?_
    refine zg_bast ok dX2_four_21 hE (fun h1 hE => ?_)
    refine zg_aload_n ok dX2_four_22 rfl 0 rfl ?_
    refine zg_dup ok dX2_four_23 (zw_rfc _) ?_
    refine zg_getI ok lf_X2_64 dX2_four_24 hE (fun v3 hE => ?_)
    refine zg_iconst (v := 1) ok dX2_four_27 (by decide) ?_
    refine zg_iadd ok dX2_four_28 ?_
    refine zg_put (ty := .int) ok lf_X2_64 (Or.inl rfl) (by decide) (by decide +kernel) rfl rfl dX2_four_29 hE (fun h2 hE => ?_)
    refine zg_iincL (k := 2) (L' := fun v4 => [(2, .int v4), (0, va_rf l0), (1, .int l1)]) ok dX2_four_32 (by decide +kernel) hE rfl (by decide) (fun _ => rfl) (fun v4 hE => ?_)
    refine zg_goto (tgt := 2) ok dX2_four_35 (by decide) ?_
    refine zg_sub (L' := [(0, va_rf l0), (1, .int l1), (2, .int v4)]) [1, 2, 0] rfl ?_
    exact hR _ _ hE
theorem gt_f_X2_four_L2 {Xc : zw_X} {Q : zw_H → Prop} {X : String → Nat → zw_H → Prop} (hl : (zw_l Xc).stackTraces = false) (ok : zw_ok Xc cX2_four "MultipoleLineModel" yX2_four.name 3) (tab : zw_tab Xc []) (fin : zw_fin Xc (Option.none : Option Jvm.ClassFile.FieldType) (zq_V Q) X 0 0) (hRm : zw_rm Xc = rm_X2_four) {kc ks : Nat} (hb : kc ≤ 0 ∧ ks ≤ 0) {l0 : Option Nat} {l1 : Int32} {k38 : zw_H → Prop} (hk38 : ∀  (h : zw_H), k38  h → zw_G Xc kc ks 3 h 38 [] [])  : ∀ (n9 : Nat) (l2 : Int32) (h : zw_H), zl2 (f_X2_four_B2 (zw_Zf Xc).2.2.2 Q X k38 l0 l1) n9 l2 h → zw_G Xc kc ks 3 h 2 [(0, va_rf l0), (1, .int l1), (2, .int l2)] [] := by
  intro n9
  induction n9 with
  | zero => intro l2 h hE; exact hE.elim
  | succ n9 ih => intro l2 h hE; exact gt_f_X2_four_B2 hl ok tab fin hRm hb ih hk38 hE
set_option maxHeartbeats 8000000 in
theorem mt_X2_four {l : Launch} (hl : l.stackTraces = false) {Z : zw_Z} {a0 : Option Nat} {a1 : Int32} {h : zw_H} {Q : zw_H → Prop} {X : String → Nat → zw_H → Prop} (hE : f_X2_four Z.2.2.2 a0 a1 h Q X) : zw_Met l Z yX2_four (ws_ yX2_four cX2_four 3 (Option.none : Option Jvm.ClassFile.FieldType)) rm_X2_four [zA a0, zI a1] h (zq_V Q) X := by
  refine zg_start (own := "MultipoleLineModel") (by decide +kernel) rfl (Nat.le_of_ble_eq_true rfl) hl (fun Xc ok tab fin hRm hXl hXZ => ?_)
  subst hXl
  subst hXZ
  unfold f_X2_four at hE
  refine zg_iconst (v := 3) ok dX2_four_0 (by decide) ?_
  refine zg_istore_n (L' := [(2, .int 3), (0, va_rf a0), (1, .int a1)]) ok dX2_four_1 rfl (by decide) rfl ?_
  refine zg_sub (L' := [(0, va_rf a0), (1, .int a1), (2, .int 3)]) [1, 2, 0] rfl ?_
  refine gt_f_X2_four_L2 hl ok tab fin hRm ⟨Nat.le_of_ble_eq_true rfl, Nat.le_of_ble_eq_true rfl⟩ ?_ _ _ _ hE
  · intro h3 hE
    exact zg_vret ok fin dX2_four_38 ⟨Nat.le_of_ble_eq_true rfl, Nat.le_of_ble_eq_true rfl⟩ hE
set_option maxHeartbeats 8000000 in
theorem mt_X2_append {l : Launch} (hl : l.stackTraces = false) {Z : zw_Z} {a0 : Option Nat} {a1 : Int32} {a2 : Int32} {a3 : Int32} {a4 : Int32} {a5 : Int32} {h : zw_H} {Q : Int32 → zw_H → Prop} {X : String → Nat → zw_H → Prop} (hE : f_X2_append Z.2.2.2 a0 a1 a2 a3 a4 a5 h Q X) : zw_Met l Z yX2_append (ws_ yX2_append cX2_append 6 (Option.some Jvm.ClassFile.FieldType.int)) rm_X2_append [zA a0, zI a1, zI a2, zI a3, zI a4, zI a5] h (zq_I Q) X := by
  refine zg_start (own := "MultipoleLineModel") (by decide +kernel) rfl (Nat.le_of_ble_eq_true rfl) hl (fun Xc ok tab fin hRm hXl hXZ => ?_)
  subst hXl
  subst hXZ
  unfold f_X2_append at hE
  refine zg_aload_n ok dX2_append_0 rfl 0 rfl ?_
  refine zg_iconst (v := 0) ok dX2_append_1 (by decide) ?_
  refine zg_put (ty := .int) ok lf_X2_57 (Or.inl rfl) (by decide) (by decide +kernel) rfl rfl dX2_append_2 hE (fun h1 hE => ?_)
  refine zg_aload_n ok dX2_append_5 rfl 0 rfl ?_
  refine zg_getI ok lf_X2_64 dX2_append_6 hE (fun v1 hE => ?_)
  refine zg_sipush (v := 480) ok dX2_append_9 (by decide) ?_
  refine zg_icmp_le (tgt := 17) ok dX2_append_12 (by decide) hE (fun hE => ?_) (fun hE => ?_)
  · refine zg_aload_n ok dX2_append_17 rfl 0 rfl ?_
    refine zg_iload_n ok dX2_append_18 rfl 1 rfl ?_
    refine zg_callV (vs := [zI a1]) (rest := []) (rm := rm_X2_four) ok hRm lk_X2_67 dX2_append_19 hE (fun hE => mt_X2_four hl hE) rfl (Nat.le_of_ble_eq_true rfl) ⟨⟨Nat.le_of_ble_eq_true rfl, Nat.le_of_ble_eq_true rfl⟩, Nat.le_of_ble_eq_true rfl, Nat.le_of_ble_eq_true rfl⟩ (zg_retV (fun h2 hE => ?_)) (zg_xok ok tab fin ⟨Nat.le_of_ble_eq_true rfl, Nat.le_of_ble_eq_true rfl⟩)
    refine zg_cost (kc2 := 0) (ks2 := 0) ⟨rfl, rfl⟩ ?_
    refine zg_aload_n ok dX2_append_22 rfl 0 rfl ?_
    refine zg_iload_n ok dX2_append_23 rfl 2 rfl ?_
    refine zg_callV (vs := [zI a2]) (rest := []) (rm := rm_X2_four) ok hRm lk_X2_67 dX2_append_24 hE (fun hE => mt_X2_four hl hE) rfl (Nat.le_of_ble_eq_true rfl) ⟨⟨Nat.le_of_ble_eq_true rfl, Nat.le_of_ble_eq_true rfl⟩, Nat.le_of_ble_eq_true rfl, Nat.le_of_ble_eq_true rfl⟩ (zg_retV (fun h3 hE => ?_)) (zg_xok ok tab fin ⟨Nat.le_of_ble_eq_true rfl, Nat.le_of_ble_eq_true rfl⟩)
    refine zg_cost (kc2 := 0) (ks2 := 0) ⟨rfl, rfl⟩ ?_
    refine zg_aload_n ok dX2_append_27 rfl 0 rfl ?_
    refine zg_iload_n ok dX2_append_28 rfl 3 rfl ?_
    refine zg_callV (vs := [zI a3]) (rest := []) (rm := rm_X2_four) ok hRm lk_X2_67 dX2_append_29 hE (fun hE => mt_X2_four hl hE) rfl (Nat.le_of_ble_eq_true rfl) ⟨⟨Nat.le_of_ble_eq_true rfl, Nat.le_of_ble_eq_true rfl⟩, Nat.le_of_ble_eq_true rfl, Nat.le_of_ble_eq_true rfl⟩ (zg_retV (fun h4 hE => ?_)) (zg_xok ok tab fin ⟨Nat.le_of_ble_eq_true rfl, Nat.le_of_ble_eq_true rfl⟩)
    refine zg_cost (kc2 := 0) (ks2 := 0) ⟨rfl, rfl⟩ ?_
    refine zg_aload_n ok dX2_append_32 rfl 0 rfl ?_
    refine zg_iload ok dX2_append_33 4 rfl ?_
    refine zg_callV (vs := [zI a4]) (rest := []) (rm := rm_X2_four) ok hRm lk_X2_67 dX2_append_35 hE (fun hE => mt_X2_four hl hE) rfl (Nat.le_of_ble_eq_true rfl) ⟨⟨Nat.le_of_ble_eq_true rfl, Nat.le_of_ble_eq_true rfl⟩, Nat.le_of_ble_eq_true rfl, Nat.le_of_ble_eq_true rfl⟩ (zg_retV (fun h5 hE => ?_)) (zg_xok ok tab fin ⟨Nat.le_of_ble_eq_true rfl, Nat.le_of_ble_eq_true rfl⟩)
    refine zg_cost (kc2 := 0) (ks2 := 0) ⟨rfl, rfl⟩ ?_
    refine zg_aload_n ok dX2_append_38 rfl 0 rfl ?_
    refine zg_iload ok dX2_append_39 5 rfl ?_
    refine zg_callV (vs := [zI a5]) (rest := []) (rm := rm_X2_four) ok hRm lk_X2_67 dX2_append_41 hE (fun hE => mt_X2_four hl hE) rfl (Nat.le_of_ble_eq_true rfl) ⟨⟨Nat.le_of_ble_eq_true rfl, Nat.le_of_ble_eq_true rfl⟩, Nat.le_of_ble_eq_true rfl, Nat.le_of_ble_eq_true rfl⟩ (zg_retV (fun h6 hE => ?_)) (zg_xok ok tab fin ⟨Nat.le_of_ble_eq_true rfl, Nat.le_of_ble_eq_true rfl⟩)
    refine zg_cost (kc2 := 0) (ks2 := 0) ⟨rfl, rfl⟩ ?_
    refine zg_aload_n ok dX2_append_44 rfl 0 rfl ?_
    refine zg_getI ok lf_X2_64 dX2_append_45 hE (fun v2 hE => ?_)
    exact zg_iret ok fin dX2_append_48 ⟨Nat.le_of_ble_eq_true rfl, Nat.le_of_ble_eq_true rfl⟩ hE
  · refine zg_iconst (v := (-1)) ok dX2_append_15 (by decide) ?_
    exact zg_iret ok fin dX2_append_16 ⟨Nat.le_of_ble_eq_true rfl, Nat.le_of_ble_eq_true rfl⟩ hE
set_option maxHeartbeats 8000000 in
theorem mt_X2_parseError {l : Launch} (hl : l.stackTraces = false) {Z : zw_Z} {a0 : Option Nat} {h : zw_H} {Q : Int32 → zw_H → Prop} {X : String → Nat → zw_H → Prop} (hE : f_X2_parseError Z.2.2.2 a0 h Q X) : zw_Met l Z yX2_parseError (ws_ yX2_parseError cX2_parseError 1 (Option.some Jvm.ClassFile.FieldType.int)) rm_X2_parseError [zA a0] h (zq_I Q) X := by
  refine zg_start (own := "MultipoleLineModel") (by decide +kernel) rfl (Nat.le_of_ble_eq_true rfl) hl (fun Xc ok tab fin hRm hXl hXZ => ?_)
  subst hXl
  subst hXZ
  unfold f_X2_parseError at hE
  refine zg_aload_n ok dX2_parseError_0 rfl 0 rfl ?_
  refine zg_iconst (v := 0) ok dX2_parseError_1 (by decide) ?_
  refine zg_put (ty := .int) ok lf_X2_57 (Or.inl rfl) (by decide) (by decide +kernel) rfl rfl dX2_parseError_2 hE (fun h1 hE => ?_)
  refine zg_aload_n ok dX2_parseError_5 rfl 0 rfl ?_
  refine zg_getI ok lf_X2_71 dX2_parseError_6 hE (fun v1 hE => ?_)
  exact zg_iret ok fin dX2_parseError_9 ⟨Nat.le_of_ble_eq_true rfl, Nat.le_of_ble_eq_true rfl⟩ hE
set_option maxHeartbeats 8000000 in
theorem mt_X2_errorPosition {l : Launch} (hl : l.stackTraces = false) {Z : zw_Z} {a0 : Option Nat} {h : zw_H} {Q : Int32 → zw_H → Prop} {X : String → Nat → zw_H → Prop} (hE : f_X2_errorPosition Z.2.2.2 a0 h Q X) : zw_Met l Z yX2_errorPosition (ws_ yX2_errorPosition cX2_errorPosition 1 (Option.some Jvm.ClassFile.FieldType.int)) rm_X2_errorPosition [zA a0] h (zq_I Q) X := by
  refine zg_start (own := "MultipoleLineModel") (by decide +kernel) rfl (Nat.le_of_ble_eq_true rfl) hl (fun Xc ok tab fin hRm hXl hXZ => ?_)
  subst hXl
  subst hXZ
  unfold f_X2_errorPosition at hE
  refine zg_aload_n ok dX2_errorPosition_0 rfl 0 rfl ?_
  refine zg_iconst (v := 0) ok dX2_errorPosition_1 (by decide) ?_
  refine zg_put (ty := .int) ok lf_X2_57 (Or.inl rfl) (by decide) (by decide +kernel) rfl rfl dX2_errorPosition_2 hE (fun h1 hE => ?_)
  refine zg_aload_n ok dX2_errorPosition_5 rfl 0 rfl ?_
  refine zg_getI ok lf_X2_30 dX2_errorPosition_6 hE (fun v1 hE => ?_)
  exact zg_iret ok fin dX2_errorPosition_9 ⟨Nat.le_of_ble_eq_true rfl, Nat.le_of_ble_eq_true rfl⟩ hE
set_option maxHeartbeats 8000000 in
theorem mt_X2_buffered {l : Launch} (hl : l.stackTraces = false) {Z : zw_Z} {a0 : Option Nat} {h : zw_H} {Q : Int32 → zw_H → Prop} {X : String → Nat → zw_H → Prop} (hE : f_X2_buffered Z.2.2.2 a0 h Q X) : zw_Met l Z yX2_buffered (ws_ yX2_buffered cX2_buffered 1 (Option.some Jvm.ClassFile.FieldType.int)) rm_X2_buffered [zA a0] h (zq_I Q) X := by
  refine zg_start (own := "MultipoleLineModel") (by decide +kernel) rfl (Nat.le_of_ble_eq_true rfl) hl (fun Xc ok tab fin hRm hXl hXZ => ?_)
  subst hXl
  subst hXZ
  unfold f_X2_buffered at hE
  refine zg_aload_n ok dX2_buffered_0 rfl 0 rfl ?_
  refine zg_iconst (v := 0) ok dX2_buffered_1 (by decide) ?_
  refine zg_put (ty := .int) ok lf_X2_57 (Or.inl rfl) (by decide) (by decide +kernel) rfl rfl dX2_buffered_2 hE (fun h1 hE => ?_)
  refine zg_aload_n ok dX2_buffered_5 rfl 0 rfl ?_
  refine zg_getI ok lf_X2_64 dX2_buffered_6 hE (fun v1 hE => ?_)
  exact zg_iret ok fin dX2_buffered_9 ⟨Nat.le_of_ble_eq_true rfl, Nat.le_of_ble_eq_true rfl⟩ hE
set_option maxHeartbeats 8000000 in
theorem mt_X2_in {l : Launch} (hl : l.stackTraces = false) {Z : zw_Z} {a0 : Int32} {a1 : Int32} {a2 : Int32} {h : zw_H} {Q : Int32 → zw_H → Prop} {X : String → Nat → zw_H → Prop} (hE : f_X2_in Z.2.2.2 a0 a1 a2 h Q X) : zw_Met l Z yX2_in (ws_ yX2_in cX2_in 3 (Option.some Jvm.ClassFile.FieldType.boolean)) rm_X2_in [zI a0, zI a1, zI a2] h (zq_I Q) X := by
  refine zg_start (own := "MultipoleLineModel") (by decide +kernel) rfl (Nat.le_of_ble_eq_true rfl) hl (fun Xc ok tab fin hRm hXl hXZ => ?_)
  subst hXl
  subst hXZ
  unfold f_X2_in at hE
  refine zg_iload_n ok dX2_in_0 rfl 0 rfl ?_
  refine zg_iload_n ok dX2_in_1 rfl 1 rfl ?_
  refine zg_icmp_lt (tgt := 14) ok dX2_in_2 (by decide) hE (fun hE => ?_) (fun hE => ?_)
  · refine zg_iconst (v := 0) ok dX2_in_14 (by decide) ?_
    exact zg_zret ok fin dX2_in_15 ⟨Nat.le_of_ble_eq_true rfl, Nat.le_of_ble_eq_true rfl⟩ rfl hE
  · refine zg_iload_n ok dX2_in_5 rfl 0 rfl ?_
    refine zg_iload_n ok dX2_in_6 rfl 2 rfl ?_
    refine zg_icmp_gt (tgt := 14) ok dX2_in_7 (by decide) hE (fun hE => ?_) (fun hE => ?_)
    · refine zg_iconst (v := 0) ok dX2_in_14 (by decide) ?_
      exact zg_zret ok fin dX2_in_15 ⟨Nat.le_of_ble_eq_true rfl, Nat.le_of_ble_eq_true rfl⟩ rfl hE
    · refine zg_iconst (v := 1) ok dX2_in_10 (by decide) ?_
      refine zg_goto (tgt := 15) ok dX2_in_11 (by decide) ?_
      exact zg_zret ok fin dX2_in_15 ⟨Nat.le_of_ble_eq_true rfl, Nat.le_of_ble_eq_true rfl⟩ rfl hE
set_option maxHeartbeats 8000000 in
theorem gt_f_X2_may_J26 {Xc : zw_X} {Q : Int32 → zw_H → Prop} {X : String → Nat → zw_H → Prop} (hl : (zw_l Xc).stackTraces = false) (ok : zw_ok Xc cX2_may "MultipoleLineModel" yX2_may.name 4) (tab : zw_tab Xc []) (fin : zw_fin Xc (Option.some Jvm.ClassFile.FieldType.boolean) (zq_I Q) X 0 0) (hRm : zw_rm Xc = rm_X2_may)  {l0 : Option Nat} {s0 : Int32} {s1 : Option Nat} {h : zw_H} (hE : f_X2_may_J26 (zw_Zf Xc).2.2.2 Q X  l0 s0 s1 h) : zw_G Xc 0 0 4 h 26 [(0, va_rf l0)] [.int s0, va_rf s1] := by
  unfold f_X2_may_J26 at hE
  refine zg_put (ty := .int) ok lf_X2_57 (Or.inl rfl) (by decide) (by decide +kernel) rfl rfl dX2_may_26 hE (fun h1 hE => ?_)
  refine zg_aload_n ok dX2_may_29 rfl 0 rfl ?_
  refine zg_getI ok lf_X2_57 dX2_may_30 hE (fun v1 hE => ?_)
  refine zg_if_ne (tgt := 40) ok dX2_may_33 (by decide) hE (fun hE => ?_) (fun hE => ?_)
  · refine zg_iconst (v := 0) ok dX2_may_40 (by decide) ?_
    exact zg_zret ok fin dX2_may_41 ⟨Nat.le_of_ble_eq_true rfl, Nat.le_of_ble_eq_true rfl⟩ rfl hE
  · refine zg_iconst (v := 1) ok dX2_may_36 (by decide) ?_
    refine zg_goto (tgt := 41) ok dX2_may_37 (by decide) ?_
    exact zg_zret ok fin dX2_may_41 ⟨Nat.le_of_ble_eq_true rfl, Nat.le_of_ble_eq_true rfl⟩ rfl hE
set_option maxHeartbeats 8000000 in
theorem mt_X2_may {l : Launch} (hl : l.stackTraces = false) {Z : zw_Z} {a0 : Option Nat} {a1 : Int32} {a2 : Int32} {a3 : Int32} {h : zw_H} {Q : Int32 → zw_H → Prop} {X : String → Nat → zw_H → Prop} (hE : f_X2_may Z.2.2.2 a0 a1 a2 a3 h Q X) : zw_Met l Z yX2_may (ws_ yX2_may cX2_may 4 (Option.some Jvm.ClassFile.FieldType.boolean)) rm_X2_may [zA a0, zI a1, zI a2, zI a3] h (zq_I Q) X := by
  refine zg_start (own := "MultipoleLineModel") (by decide +kernel) rfl (Nat.le_of_ble_eq_true rfl) hl (fun Xc ok tab fin hRm hXl hXZ => ?_)
  subst hXl
  subst hXZ
  unfold f_X2_may at hE
  refine zg_aload_n ok dX2_may_0 rfl 0 rfl ?_
  refine zg_iload_n ok dX2_may_1 rfl 1 rfl ?_
  refine zg_if_ne (tgt := 9) ok dX2_may_2 (by decide) hE (fun hE => ?_) (fun hE => ?_)
  · refine zg_iload_n ok dX2_may_9 rfl 2 rfl ?_
    refine zg_if_ne (tgt := 17) ok dX2_may_10 (by decide) hE (fun hE => ?_) (fun hE => ?_)
    · refine zg_iload_n ok dX2_may_17 rfl 3 rfl ?_
      refine zg_if_eq (tgt := 25) ok dX2_may_18 (by decide) hE (fun hE => ?_) (fun hE => ?_)
      · refine zg_iconst (v := 3) ok dX2_may_25 (by decide) ?_
        refine zg_sub (L' := [(0, va_rf a0)]) [0] rfl ?_
        exact gt_f_X2_may_J26 hl ok tab fin hRm  hE
      · refine zg_iconst (v := 0) ok dX2_may_21 (by decide) ?_
        refine zg_goto (tgt := 26) ok dX2_may_22 (by decide) ?_
        refine zg_sub (L' := [(0, va_rf a0)]) [0] rfl ?_
        exact gt_f_X2_may_J26 hl ok tab fin hRm  hE
    · refine zg_iconst (v := 2) ok dX2_may_13 (by decide) ?_
      refine zg_goto (tgt := 26) ok dX2_may_14 (by decide) ?_
      refine zg_sub (L' := [(0, va_rf a0)]) [0] rfl ?_
      exact gt_f_X2_may_J26 hl ok tab fin hRm  hE
  · refine zg_iconst (v := 1) ok dX2_may_5 (by decide) ?_
    refine zg_goto (tgt := 26) ok dX2_may_6 (by decide) ?_
    refine zg_sub (L' := [(0, va_rf a0)]) [0] rfl ?_
    exact gt_f_X2_may_J26 hl ok tab fin hRm  hE
set_option maxHeartbeats 8000000 in
theorem gt_f_X2_lays_B3 {Xc : zw_X} {Q : zw_H → Prop} {X : String → Nat → zw_H → Prop} (hl : (zw_l Xc).stackTraces = false) (ok : zw_ok Xc cX2_lays "MultipoleLineModel" yX2_lays.name 5) (tab : zw_tab Xc []) (fin : zw_fin Xc (Option.none : Option Jvm.ClassFile.FieldType) (zq_V Q) X 0 0) (hRm : zw_rm Xc = rm_X2_lays) {kc ks : Nat} (hb : kc ≤ 0 ∧ ks ≤ 0) {R : Int32 → zw_H → Prop} {l0 : Option Nat} {l1 : Int32} {l2 : Option Nat} {l3 : Int32} (hR : ∀ (l4 : Int32) (h : zw_H), R l4 h → zw_G Xc kc ks 5 h 3 [(0, va_rf l0), (1, .int l1), (2, va_rf l2), (3, .int l3), (4, .int l4)] []) {k28 : zw_H → Prop} (hk28 : ∀  (h : zw_H), k28  h → zw_G Xc kc ks 5 h 28 [] [])  {l4 : Int32} {h : zw_H} (hE : f_X2_lays_B3 (zw_Zf Xc).2.2.2 Q X k28 l0 l1 l2 l3 R l4 h) : zw_G Xc kc ks 5 h 3 [(0, va_rf l0), (1, .int l1), (2, va_rf l2), (3, .int l3), (4, .int l4)] [] := by
  unfold f_X2_lays_B3 at hE
  refine zg_iload ok dX2_lays_3 4 rfl ?_
  refine zg_bipush (v := 103) ok dX2_lays_5 (by decide) ?_
  refine zg_icmp_ge (tgt := 28) ok dX2_lays_7 (by decide) hE (fun hE => ?_) (fun hE => ?_)
  · refine zg_sub (L' := []) [] rfl ?_
    exact hk28 _ hE
  · refine zg_aload_n ok dX2_lays_10 rfl 2 rfl ?_
    refine zg_iload_n ok dX2_lays_11 rfl 3 rfl ?_
    refine zg_iload ok dX2_lays_12 4 rfl ?_
    refine zg_iadd ok dX2_lays_14 ?_
    refine zg_aload_n ok dX2_lays_15 rfl 0 rfl ?_
    refine zg_iload_n ok dX2_lays_16 rfl 1 rfl ?_
    refine zg_iload ok dX2_lays_17 4 rfl ?_
    refine zg_iadd ok dX2_lays_19 ?_
    refine zg_iald ok dX2_lays_20 hE (fun v1 hE => ?_)
    refine zg_iast ok dX2_lays_21 hE (fun h1 hE => ?_)
    refine zg_iincL (k := 4) (L' := fun v2 => [(4, .int v2), (0, va_rf l0), (1, .int l1), (2, va_rf l2), (3, .int l3)]) ok dX2_lays_22 (by decide +kernel) hE rfl (by decide) (fun _ => rfl) (fun v2 hE => ?_)
    refine zg_goto (tgt := 3) ok dX2_lays_25 (by decide) ?_
    refine zg_sub (L' := [(0, va_rf l0), (1, .int l1), (2, va_rf l2), (3, .int l3), (4, .int v2)]) [1, 2, 3, 4, 0] rfl ?_
    exact hR _ _ hE
theorem gt_f_X2_lays_L3 {Xc : zw_X} {Q : zw_H → Prop} {X : String → Nat → zw_H → Prop} (hl : (zw_l Xc).stackTraces = false) (ok : zw_ok Xc cX2_lays "MultipoleLineModel" yX2_lays.name 5) (tab : zw_tab Xc []) (fin : zw_fin Xc (Option.none : Option Jvm.ClassFile.FieldType) (zq_V Q) X 0 0) (hRm : zw_rm Xc = rm_X2_lays) {kc ks : Nat} (hb : kc ≤ 0 ∧ ks ≤ 0) {l0 : Option Nat} {l1 : Int32} {l2 : Option Nat} {l3 : Int32} {k28 : zw_H → Prop} (hk28 : ∀  (h : zw_H), k28  h → zw_G Xc kc ks 5 h 28 [] [])  : ∀ (n9 : Nat) (l4 : Int32) (h : zw_H), zl2 (f_X2_lays_B3 (zw_Zf Xc).2.2.2 Q X k28 l0 l1 l2 l3) n9 l4 h → zw_G Xc kc ks 5 h 3 [(0, va_rf l0), (1, .int l1), (2, va_rf l2), (3, .int l3), (4, .int l4)] [] := by
  intro n9
  induction n9 with
  | zero => intro l4 h hE; exact hE.elim
  | succ n9 ih => intro l4 h hE; exact gt_f_X2_lays_B3 hl ok tab fin hRm hb ih hk28 hE
set_option maxHeartbeats 8000000 in
theorem mt_X2_lays {l : Launch} (hl : l.stackTraces = false) {Z : zw_Z} {a0 : Option Nat} {a1 : Int32} {a2 : Option Nat} {a3 : Int32} {h : zw_H} {Q : zw_H → Prop} {X : String → Nat → zw_H → Prop} (hE : f_X2_lays Z.2.2.2 a0 a1 a2 a3 h Q X) : zw_Met l Z yX2_lays (ws_ yX2_lays cX2_lays 5 (Option.none : Option Jvm.ClassFile.FieldType)) rm_X2_lays [zA a0, zI a1, zA a2, zI a3] h (zq_V Q) X := by
  refine zg_start (own := "MultipoleLineModel") (by decide +kernel) rfl (Nat.le_of_ble_eq_true rfl) hl (fun Xc ok tab fin hRm hXl hXZ => ?_)
  subst hXl
  subst hXZ
  unfold f_X2_lays at hE
  refine zg_iconst (v := 0) ok dX2_lays_0 (by decide) ?_
  refine zg_istore (L' := [(4, .int 0), (0, va_rf a0), (1, .int a1), (2, va_rf a2), (3, .int a3)]) ok dX2_lays_1 (by decide) rfl ?_
  refine zg_sub (L' := [(0, va_rf a0), (1, .int a1), (2, va_rf a2), (3, .int a3), (4, .int 0)]) [1, 2, 3, 4, 0] rfl ?_
  refine gt_f_X2_lays_L3 hl ok tab fin hRm ⟨Nat.le_of_ble_eq_true rfl, Nat.le_of_ble_eq_true rfl⟩ ?_ _ _ _ hE
  · intro h2 hE
    exact zg_vret ok fin dX2_lays_28 ⟨Nat.le_of_ble_eq_true rfl, Nat.le_of_ble_eq_true rfl⟩ hE
set_option maxHeartbeats 8000000 in
theorem mt_X2_isLetter {l : Launch} (hl : l.stackTraces = false) {Z : zw_Z} {a0 : Option Nat} {a1 : Int32} {h : zw_H} {Q : Int32 → zw_H → Prop} {X : String → Nat → zw_H → Prop} (hE : f_X2_isLetter Z.2.2.2 a0 a1 h Q X) : zw_Met l Z yX2_isLetter (ws_ yX2_isLetter cX2_isLetter 2 (Option.some Jvm.ClassFile.FieldType.boolean)) rm_X2_isLetter [zA a0, zI a1] h (zq_I Q) X := by
  refine zg_start (own := "MultipoleLineModel") (by decide +kernel) rfl (Nat.le_of_ble_eq_true rfl) hl (fun Xc ok tab fin hRm hXl hXZ => ?_)
  subst hXl
  subst hXZ
  unfold f_X2_isLetter at hE
  refine zg_iload_n ok dX2_isLetter_0 rfl 1 rfl ?_
  refine zg_aload_n ok dX2_isLetter_1 rfl 0 rfl ?_
  refine zg_getI ok lf_X2_74 dX2_isLetter_2 hE (fun v1 hE => ?_)
  refine zg_icmp_ge (tgt := 28) ok dX2_isLetter_5 (by decide) hE (fun hE => ?_) (fun hE => ?_)
  · refine zg_iconst (v := 0) ok dX2_isLetter_28 (by decide) ?_
    exact zg_zret ok fin dX2_isLetter_29 ⟨Nat.le_of_ble_eq_true rfl, Nat.le_of_ble_eq_true rfl⟩ rfl hE
  · refine zg_aload_n ok dX2_isLetter_8 rfl 0 rfl ?_
    refine zg_getA ok lf_X2_26 dX2_isLetter_9 hE (fun v2 hE => ?_)
    refine zg_iload_n ok dX2_isLetter_12 rfl 1 rfl ?_
    refine zg_bald ok dX2_isLetter_13 hE (fun v3 hE => ?_)
    refine zg_bipush (v := 97) ok dX2_isLetter_14 (by decide) ?_
    refine zg_bipush (v := 122) ok dX2_isLetter_16 (by decide) ?_
    refine zg_callS (vs := [zI v3, zI 97, zI 122]) (rest := []) (rm := rm_X2_in) ok hRm lk_X2_77 dX2_isLetter_18 hE (fun hE => mt_X2_in hl hE) rfl (Nat.le_of_ble_eq_true rfl) ⟨⟨Nat.le_of_ble_eq_true rfl, Nat.le_of_ble_eq_true rfl⟩, Nat.le_of_ble_eq_true rfl, Nat.le_of_ble_eq_true rfl⟩ (zg_retI (fun v4 h1 hE => ?_)) (zg_xok ok tab fin ⟨Nat.le_of_ble_eq_true rfl, Nat.le_of_ble_eq_true rfl⟩)
    refine zg_cost (kc2 := 0) (ks2 := 0) ⟨rfl, rfl⟩ ?_
    refine zg_if_eq (tgt := 28) ok dX2_isLetter_21 (by decide) hE (fun hE => ?_) (fun hE => ?_)
    · refine zg_iconst (v := 0) ok dX2_isLetter_28 (by decide) ?_
      exact zg_zret ok fin dX2_isLetter_29 ⟨Nat.le_of_ble_eq_true rfl, Nat.le_of_ble_eq_true rfl⟩ rfl hE
    · refine zg_iconst (v := 1) ok dX2_isLetter_24 (by decide) ?_
      refine zg_goto (tgt := 29) ok dX2_isLetter_25 (by decide) ?_
      exact zg_zret ok fin dX2_isLetter_29 ⟨Nat.le_of_ble_eq_true rfl, Nat.le_of_ble_eq_true rfl⟩ rfl hE
set_option maxHeartbeats 8000000 in
theorem mt_X2_isDigit {l : Launch} (hl : l.stackTraces = false) {Z : zw_Z} {a0 : Option Nat} {a1 : Int32} {h : zw_H} {Q : Int32 → zw_H → Prop} {X : String → Nat → zw_H → Prop} (hE : f_X2_isDigit Z.2.2.2 a0 a1 h Q X) : zw_Met l Z yX2_isDigit (ws_ yX2_isDigit cX2_isDigit 2 (Option.some Jvm.ClassFile.FieldType.boolean)) rm_X2_isDigit [zA a0, zI a1] h (zq_I Q) X := by
  refine zg_start (own := "MultipoleLineModel") (by decide +kernel) rfl (Nat.le_of_ble_eq_true rfl) hl (fun Xc ok tab fin hRm hXl hXZ => ?_)
  subst hXl
  subst hXZ
  unfold f_X2_isDigit at hE
  refine zg_iload_n ok dX2_isDigit_0 rfl 1 rfl ?_
  refine zg_aload_n ok dX2_isDigit_1 rfl 0 rfl ?_
  refine zg_getI ok lf_X2_74 dX2_isDigit_2 hE (fun v1 hE => ?_)
  refine zg_icmp_ge (tgt := 28) ok dX2_isDigit_5 (by decide) hE (fun hE => ?_) (fun hE => ?_)
  · refine zg_iconst (v := 0) ok dX2_isDigit_28 (by decide) ?_
    exact zg_zret ok fin dX2_isDigit_29 ⟨Nat.le_of_ble_eq_true rfl, Nat.le_of_ble_eq_true rfl⟩ rfl hE
  · refine zg_aload_n ok dX2_isDigit_8 rfl 0 rfl ?_
    refine zg_getA ok lf_X2_26 dX2_isDigit_9 hE (fun v2 hE => ?_)
    refine zg_iload_n ok dX2_isDigit_12 rfl 1 rfl ?_
    refine zg_bald ok dX2_isDigit_13 hE (fun v3 hE => ?_)
    refine zg_bipush (v := 48) ok dX2_isDigit_14 (by decide) ?_
    refine zg_bipush (v := 57) ok dX2_isDigit_16 (by decide) ?_
    refine zg_callS (vs := [zI v3, zI 48, zI 57]) (rest := []) (rm := rm_X2_in) ok hRm lk_X2_77 dX2_isDigit_18 hE (fun hE => mt_X2_in hl hE) rfl (Nat.le_of_ble_eq_true rfl) ⟨⟨Nat.le_of_ble_eq_true rfl, Nat.le_of_ble_eq_true rfl⟩, Nat.le_of_ble_eq_true rfl, Nat.le_of_ble_eq_true rfl⟩ (zg_retI (fun v4 h1 hE => ?_)) (zg_xok ok tab fin ⟨Nat.le_of_ble_eq_true rfl, Nat.le_of_ble_eq_true rfl⟩)
    refine zg_cost (kc2 := 0) (ks2 := 0) ⟨rfl, rfl⟩ ?_
    refine zg_if_eq (tgt := 28) ok dX2_isDigit_21 (by decide) hE (fun hE => ?_) (fun hE => ?_)
    · refine zg_iconst (v := 0) ok dX2_isDigit_28 (by decide) ?_
      exact zg_zret ok fin dX2_isDigit_29 ⟨Nat.le_of_ble_eq_true rfl, Nat.le_of_ble_eq_true rfl⟩ rfl hE
    · refine zg_iconst (v := 1) ok dX2_isDigit_24 (by decide) ?_
      refine zg_goto (tgt := 29) ok dX2_isDigit_25 (by decide) ?_
      exact zg_zret ok fin dX2_isDigit_29 ⟨Nat.le_of_ble_eq_true rfl, Nat.le_of_ble_eq_true rfl⟩ rfl hE
set_option maxHeartbeats 8000000 in
theorem gt_f_X2_next_B8 {Xc : zw_X} {Q : zw_H → Prop} {X : String → Nat → zw_H → Prop} (hl : (zw_l Xc).stackTraces = false) (ok : zw_ok Xc cX2_next "MultipoleLineModel" yX2_next.name 1) (tab : zw_tab Xc []) (fin : zw_fin Xc (Option.none : Option Jvm.ClassFile.FieldType) (zq_V Q) X 0 0) (hRm : zw_rm Xc = rm_X2_next) {kc ks : Nat} (hb : kc ≤ 0 ∧ ks ≤ 0) {R : zw_H → Prop} {l0 : Option Nat} (hR : ∀  (h : zw_H), R  h → zw_G Xc kc ks 1 h 8 [(0, va_rf l0)] []) {k46 : zw_H → Prop} (hk46 : ∀  (h : zw_H), k46  h → zw_G Xc kc ks 1 h 46 [(0, va_rf l0)] [])   {h : zw_H} (hE : f_X2_next_B8 (zw_Zf Xc).2.2.2 Q X k46 l0 R  h) : zw_G Xc kc ks 1 h 8 [(0, va_rf l0)] [] := by
  unfold f_X2_next_B8 at hE
  refine zg_aload_n ok dX2_next_8 rfl 0 rfl ?_
  refine zg_getI ok lf_X2_81 dX2_next_9 hE (fun v2 hE => ?_)
  refine zg_aload_n ok dX2_next_12 rfl 0 rfl ?_
  refine zg_getI ok lf_X2_74 dX2_next_13 hE (fun v3 hE => ?_)
  refine zg_icmp_ge (tgt := 46) ok dX2_next_16 (by decide) hE (fun hE => ?_) (fun hE => ?_)
  · exact hk46 _ hE
  · refine zg_aload_n ok dX2_next_19 rfl 0 rfl ?_
    refine zg_getA ok lf_X2_26 dX2_next_20 hE (fun v4 hE => ?_)
    refine zg_aload_n ok dX2_next_23 rfl 0 rfl ?_
    refine zg_getI ok lf_X2_81 dX2_next_24 hE (fun v5 hE => ?_)
    refine zg_bald ok dX2_next_27 hE (fun v6 hE => ?_)
    refine zg_bipush (v := 32) ok dX2_next_28 (by decide) ?_
    refine zg_icmp_ne (tgt := 46) ok dX2_next_30 (by decide) hE (fun hE => ?_) (fun hE => ?_)
    · exact hk46 _ hE
    · refine zg_aload_n ok dX2_next_33 rfl 0 rfl ?_
      refine zg_dup ok dX2_next_34 (zw_rfc _) ?_
      refine zg_getI ok lf_X2_81 dX2_next_35 hE (fun v7 hE => ?_)
      refine zg_iconst (v := 1) ok dX2_next_38 (by decide) ?_
      refine zg_iadd ok dX2_next_39 ?_
      refine zg_put (ty := .int) ok lf_X2_81 (Or.inl rfl) (by decide) (by decide +kernel) rfl rfl dX2_next_40 hE (fun h1 hE => ?_)
      refine zg_goto (tgt := 8) ok dX2_next_43 (by decide) ?_
      exact hR _ hE
theorem gt_f_X2_next_L8 {Xc : zw_X} {Q : zw_H → Prop} {X : String → Nat → zw_H → Prop} (hl : (zw_l Xc).stackTraces = false) (ok : zw_ok Xc cX2_next "MultipoleLineModel" yX2_next.name 1) (tab : zw_tab Xc []) (fin : zw_fin Xc (Option.none : Option Jvm.ClassFile.FieldType) (zq_V Q) X 0 0) (hRm : zw_rm Xc = rm_X2_next) {kc ks : Nat} (hb : kc ≤ 0 ∧ ks ≤ 0) {l0 : Option Nat} {k46 : zw_H → Prop} (hk46 : ∀  (h : zw_H), k46  h → zw_G Xc kc ks 1 h 46 [(0, va_rf l0)] [])  : ∀ (n9 : Nat)  (h : zw_H), zl1 (f_X2_next_B8 (zw_Zf Xc).2.2.2 Q X k46 l0) n9  h → zw_G Xc kc ks 1 h 8 [(0, va_rf l0)] [] := by
  intro n9
  induction n9 with
  | zero => intro  h hE; exact hE.elim
  | succ n9 ih => intro  h hE; exact gt_f_X2_next_B8 hl ok tab fin hRm hb ih hk46 hE
set_option maxHeartbeats 8000000 in
theorem gt_f_X2_next_J261 {Xc : zw_X} {Q : zw_H → Prop} {X : String → Nat → zw_H → Prop} (hl : (zw_l Xc).stackTraces = false) (ok : zw_ok Xc cX2_next "MultipoleLineModel" yX2_next.name 1) (tab : zw_tab Xc []) (fin : zw_fin Xc (Option.none : Option Jvm.ClassFile.FieldType) (zq_V Q) X 0 0) (hRm : zw_rm Xc = rm_X2_next)  {l0 : Option Nat}  {h : zw_H} (hE : f_X2_next_J261 (zw_Zf Xc).2.2.2 Q X  l0 h) : zw_G Xc 0 0 1 h 261 [(0, va_rf l0)] [] := by
  unfold f_X2_next_J261 at hE
  refine zg_aload_n ok dX2_next_261 rfl 0 rfl ?_
  refine zg_dup ok dX2_next_262 (zw_rfc _) ?_
  refine zg_getI ok lf_X2_81 dX2_next_263 hE (fun v19 hE => ?_)
  refine zg_iconst (v := 1) ok dX2_next_266 (by decide) ?_
  refine zg_iadd ok dX2_next_267 ?_
  refine zg_put (ty := .int) ok lf_X2_81 (Or.inl rfl) (by decide) (by decide +kernel) rfl rfl dX2_next_268 hE (fun h7 hE => ?_)
  exact zg_vret ok fin dX2_next_271 ⟨Nat.le_of_ble_eq_true rfl, Nat.le_of_ble_eq_true rfl⟩ hE
set_option maxHeartbeats 8000000 in
theorem gt_f_X2_next_J206 {Xc : zw_X} {Q : zw_H → Prop} {X : String → Nat → zw_H → Prop} (hl : (zw_l Xc).stackTraces = false) (ok : zw_ok Xc cX2_next "MultipoleLineModel" yX2_next.name 1) (tab : zw_tab Xc []) (fin : zw_fin Xc (Option.none : Option Jvm.ClassFile.FieldType) (zq_V Q) X 0 0) (hRm : zw_rm Xc = rm_X2_next) {kc ks : Nat} (hb : kc ≤ 0 ∧ ks ≤ 0) {R : zw_H → Prop} {l0 : Option Nat} (hR : ∀  (h : zw_H), R  h → zw_G Xc kc ks 1 h 158 [(0, va_rf l0)] []) {k219 : zw_H → Prop} (hk219 : ∀  (h : zw_H), k219  h → zw_G Xc kc ks 1 h 219 [(0, va_rf l0)] [])    {h : zw_H} (hE : f_X2_next_J206 (zw_Zf Xc).2.2.2 Q X R k219 l0 h) : zw_G Xc kc ks 1 h 206 [(0, va_rf l0)] [] := by
  unfold f_X2_next_J206 at hE
  refine zg_aload_n ok dX2_next_206 rfl 0 rfl ?_
  refine zg_dup ok dX2_next_207 (zw_rfc _) ?_
  refine zg_getI ok lf_X2_81 dX2_next_208 hE (fun v24 hE => ?_)
  refine zg_iconst (v := 1) ok dX2_next_211 (by decide) ?_
  refine zg_iadd ok dX2_next_212 ?_
  refine zg_put (ty := .int) ok lf_X2_81 (Or.inl rfl) (by decide) (by decide +kernel) rfl rfl dX2_next_213 hE (fun h11 hE => ?_)
  refine zg_goto (tgt := 158) ok dX2_next_216 (by decide) ?_
  exact hR _ hE
set_option maxHeartbeats 8000000 in
theorem gt_f_X2_next_B158 {Xc : zw_X} {Q : zw_H → Prop} {X : String → Nat → zw_H → Prop} (hl : (zw_l Xc).stackTraces = false) (ok : zw_ok Xc cX2_next "MultipoleLineModel" yX2_next.name 1) (tab : zw_tab Xc []) (fin : zw_fin Xc (Option.none : Option Jvm.ClassFile.FieldType) (zq_V Q) X 0 0) (hRm : zw_rm Xc = rm_X2_next) {kc ks : Nat} (hb : kc ≤ 0 ∧ ks ≤ 0) {R : zw_H → Prop} {l0 : Option Nat} (hR : ∀  (h : zw_H), R  h → zw_G Xc kc ks 1 h 158 [(0, va_rf l0)] []) {k219 : zw_H → Prop} (hk219 : ∀  (h : zw_H), k219  h → zw_G Xc kc ks 1 h 219 [(0, va_rf l0)] [])   {h : zw_H} (hE : f_X2_next_B158 (zw_Zf Xc).2.2.2 Q X k219 l0 R  h) : zw_G Xc kc ks 1 h 158 [(0, va_rf l0)] [] := by
  unfold f_X2_next_B158 at hE
  refine zg_aload_n ok dX2_next_158 rfl 0 rfl ?_
  refine zg_aload_n ok dX2_next_159 rfl 0 rfl ?_
  refine zg_getI ok lf_X2_81 dX2_next_160 hE (fun v20 hE => ?_)
  refine zg_callV (vs := [zI v20]) (rest := []) (rm := rm_X2_isDigit) ok hRm lk_X2_94 dX2_next_163 hE (fun hE => mt_X2_isDigit hl hE) rfl (Nat.le_of_ble_eq_true rfl) ⟨⟨Nat.le_of_ble_eq_true rfl, Nat.le_of_ble_eq_true rfl⟩, (by show kc + 0 ≤ 0; omega), (by show ks + 0 ≤ 0; omega)⟩ (zg_retI (fun v21 h10 hE => ?_)) (zg_xok ok tab fin ⟨(by show kc + 0 ≤ 0; omega), (by show ks + 0 ≤ 0; omega)⟩)
  refine zg_cost (kc2 := kc) (ks2 := ks) ⟨(by show kc + 0 = kc; omega), (by show ks + 0 = ks; omega)⟩ ?_
  refine zg_if_eq (tgt := 219) ok dX2_next_166 (by decide) hE (fun hE => ?_) (fun hE => ?_)
  · exact hk219 _ hE
  · refine zg_aload_n ok dX2_next_169 rfl 0 rfl ?_
    refine zg_getI ok lf_X2_81 dX2_next_170 hE (fun v22 hE => ?_)
    refine zg_aload_n ok dX2_next_173 rfl 0 rfl ?_
    refine zg_getI ok lf_X2_84 dX2_next_174 hE (fun v23 hE => ?_)
    refine zg_isub ok dX2_next_177 ?_
    refine zg_iconst (v := 3) ok dX2_next_178 (by decide) ?_
    refine zg_icmp_ge (tgt := 206) ok dX2_next_179 (by decide) hE (fun hE => ?_) (fun hE => ?_)
    · exact gt_f_X2_next_J206 hl ok tab fin hRm hb hR hk219 hE
    · refine zg_aload_n ok dX2_next_182 rfl 0 rfl ?_
      refine zg_bipush (v := 10) ok dX2_next_183 (by decide) ?_
      refine zg_aload_n ok dX2_next_185 rfl 0 rfl ?_
      refine zg_getI ok lf_X2_97 dX2_next_186 hE (fun v25 hE => ?_)
      refine zg_imul ok dX2_next_189 ?_
      refine zg_aload_n ok dX2_next_190 rfl 0 rfl ?_
      refine zg_getA ok lf_X2_26 dX2_next_191 hE (fun v26 hE => ?_)
      refine zg_aload_n ok dX2_next_194 rfl 0 rfl ?_
      refine zg_getI ok lf_X2_81 dX2_next_195 hE (fun v27 hE => ?_)
      refine zg_bald ok dX2_next_198 hE (fun v28 hE => ?_)
      refine zg_iadd ok dX2_next_199 ?_
      refine zg_bipush (v := 48) ok dX2_next_200 (by decide) ?_
      refine zg_isub ok dX2_next_202 ?_
      refine zg_put (ty := .int) ok lf_X2_97 (Or.inl rfl) (by decide) (by decide +kernel) rfl rfl dX2_next_203 hE (fun h12 hE => ?_)
      exact gt_f_X2_next_J206 hl ok tab fin hRm hb hR hk219 hE
theorem gt_f_X2_next_L158 {Xc : zw_X} {Q : zw_H → Prop} {X : String → Nat → zw_H → Prop} (hl : (zw_l Xc).stackTraces = false) (ok : zw_ok Xc cX2_next "MultipoleLineModel" yX2_next.name 1) (tab : zw_tab Xc []) (fin : zw_fin Xc (Option.none : Option Jvm.ClassFile.FieldType) (zq_V Q) X 0 0) (hRm : zw_rm Xc = rm_X2_next) {kc ks : Nat} (hb : kc ≤ 0 ∧ ks ≤ 0) {l0 : Option Nat} {k219 : zw_H → Prop} (hk219 : ∀  (h : zw_H), k219  h → zw_G Xc kc ks 1 h 219 [(0, va_rf l0)] [])  : ∀ (n9 : Nat)  (h : zw_H), zl1 (f_X2_next_B158 (zw_Zf Xc).2.2.2 Q X k219 l0) n9  h → zw_G Xc kc ks 1 h 158 [(0, va_rf l0)] [] := by
  intro n9
  induction n9 with
  | zero => intro  h hE; exact hE.elim
  | succ n9 ih => intro  h hE; exact gt_f_X2_next_B158 hl ok tab fin hRm hb ih hk219 hE
set_option maxHeartbeats 8000000 in
theorem gt_f_X2_next_B94 {Xc : zw_X} {Q : zw_H → Prop} {X : String → Nat → zw_H → Prop} (hl : (zw_l Xc).stackTraces = false) (ok : zw_ok Xc cX2_next "MultipoleLineModel" yX2_next.name 1) (tab : zw_tab Xc []) (fin : zw_fin Xc (Option.none : Option Jvm.ClassFile.FieldType) (zq_V Q) X 0 0) (hRm : zw_rm Xc = rm_X2_next) {kc ks : Nat} (hb : kc ≤ 0 ∧ ks ≤ 0) {R : zw_H → Prop} {l0 : Option Nat} (hR : ∀  (h : zw_H), R  h → zw_G Xc kc ks 1 h 94 [(0, va_rf l0)] []) {k118 : zw_H → Prop} (hk118 : ∀  (h : zw_H), k118  h → zw_G Xc kc ks 1 h 118 [(0, va_rf l0)] [])   {h : zw_H} (hE : f_X2_next_B94 (zw_Zf Xc).2.2.2 Q X k118 l0 R  h) : zw_G Xc kc ks 1 h 94 [(0, va_rf l0)] [] := by
  unfold f_X2_next_B94 at hE
  refine zg_aload_n ok dX2_next_94 rfl 0 rfl ?_
  refine zg_aload_n ok dX2_next_95 rfl 0 rfl ?_
  refine zg_getI ok lf_X2_81 dX2_next_96 hE (fun v31 hE => ?_)
  refine zg_callV (vs := [zI v31]) (rest := []) (rm := rm_X2_isLetter) ok hRm lk_X2_90 dX2_next_99 hE (fun hE => mt_X2_isLetter hl hE) rfl (Nat.le_of_ble_eq_true rfl) ⟨⟨Nat.le_of_ble_eq_true rfl, Nat.le_of_ble_eq_true rfl⟩, (by show kc + 0 ≤ 0; omega), (by show ks + 0 ≤ 0; omega)⟩ (zg_retI (fun v32 h16 hE => ?_)) (zg_xok ok tab fin ⟨(by show kc + 0 ≤ 0; omega), (by show ks + 0 ≤ 0; omega)⟩)
  refine zg_cost (kc2 := kc) (ks2 := ks) ⟨(by show kc + 0 = kc; omega), (by show ks + 0 = ks; omega)⟩ ?_
  refine zg_if_eq (tgt := 118) ok dX2_next_102 (by decide) hE (fun hE => ?_) (fun hE => ?_)
  · exact hk118 _ hE
  · refine zg_aload_n ok dX2_next_105 rfl 0 rfl ?_
    refine zg_dup ok dX2_next_106 (zw_rfc _) ?_
    refine zg_getI ok lf_X2_81 dX2_next_107 hE (fun v33 hE => ?_)
    refine zg_iconst (v := 1) ok dX2_next_110 (by decide) ?_
    refine zg_iadd ok dX2_next_111 ?_
    refine zg_put (ty := .int) ok lf_X2_81 (Or.inl rfl) (by decide) (by decide +kernel) rfl rfl dX2_next_112 hE (fun h17 hE => ?_)
    refine zg_goto (tgt := 94) ok dX2_next_115 (by decide) ?_
    exact hR _ hE
theorem gt_f_X2_next_L94 {Xc : zw_X} {Q : zw_H → Prop} {X : String → Nat → zw_H → Prop} (hl : (zw_l Xc).stackTraces = false) (ok : zw_ok Xc cX2_next "MultipoleLineModel" yX2_next.name 1) (tab : zw_tab Xc []) (fin : zw_fin Xc (Option.none : Option Jvm.ClassFile.FieldType) (zq_V Q) X 0 0) (hRm : zw_rm Xc = rm_X2_next) {kc ks : Nat} (hb : kc ≤ 0 ∧ ks ≤ 0) {l0 : Option Nat} {k118 : zw_H → Prop} (hk118 : ∀  (h : zw_H), k118  h → zw_G Xc kc ks 1 h 118 [(0, va_rf l0)] [])  : ∀ (n9 : Nat)  (h : zw_H), zl1 (f_X2_next_B94 (zw_Zf Xc).2.2.2 Q X k118 l0) n9  h → zw_G Xc kc ks 1 h 94 [(0, va_rf l0)] [] := by
  intro n9
  induction n9 with
  | zero => intro  h hE; exact hE.elim
  | succ n9 ih => intro  h hE; exact gt_f_X2_next_B94 hl ok tab fin hRm hb ih hk118 hE
set_option maxHeartbeats 8000000 in
theorem gt_f_X2_next_J71 {Xc : zw_X} {Q : zw_H → Prop} {X : String → Nat → zw_H → Prop} (hl : (zw_l Xc).stackTraces = false) (ok : zw_ok Xc cX2_next "MultipoleLineModel" yX2_next.name 1) (tab : zw_tab Xc []) (fin : zw_fin Xc (Option.none : Option Jvm.ClassFile.FieldType) (zq_V Q) X 0 0) (hRm : zw_rm Xc = rm_X2_next)  {l0 : Option Nat} {s0 : Int32} {s1 : Option Nat} {h : zw_H} (hE : f_X2_next_J71 (zw_Zf Xc).2.2.2 Q X  l0 s0 s1 h) : zw_G Xc 0 0 1 h 71 [(0, va_rf l0)] [.int s0, va_rf s1] := by
  unfold f_X2_next_J71 at hE
  refine zg_put (ty := .int) ok lf_X2_87 (Or.inl rfl) (by decide) (by decide +kernel) rfl rfl dX2_next_71 hE (fun h4 hE => ?_)
  refine zg_aload_n ok dX2_next_74 rfl 0 rfl ?_
  refine zg_getI ok lf_X2_87 dX2_next_75 hE (fun v11 hE => ?_)
  refine zg_iconst (v := 1) ok dX2_next_78 (by decide) ?_
  refine zg_icmp_ne (tgt := 83) ok dX2_next_79 (by decide) hE (fun hE => ?_) (fun hE => ?_)
  · refine zg_aload_n ok dX2_next_83 rfl 0 rfl ?_
    refine zg_aload_n ok dX2_next_84 rfl 0 rfl ?_
    refine zg_getI ok lf_X2_81 dX2_next_85 hE (fun v12 hE => ?_)
    refine zg_callV (vs := [zI v12]) (rest := []) (rm := rm_X2_isLetter) ok hRm lk_X2_90 dX2_next_88 hE (fun hE => mt_X2_isLetter hl hE) rfl (Nat.le_of_ble_eq_true rfl) ⟨⟨Nat.le_of_ble_eq_true rfl, Nat.le_of_ble_eq_true rfl⟩, Nat.le_of_ble_eq_true rfl, Nat.le_of_ble_eq_true rfl⟩ (zg_retI (fun v13 h5 hE => ?_)) (zg_xok ok tab fin ⟨Nat.le_of_ble_eq_true rfl, Nat.le_of_ble_eq_true rfl⟩)
    refine zg_cost (kc2 := 0) (ks2 := 0) ⟨rfl, rfl⟩ ?_
    refine zg_if_eq (tgt := 142) ok dX2_next_91 (by decide) hE (fun hE => ?_) (fun hE => ?_)
    · refine zg_aload_n ok dX2_next_142 rfl 0 rfl ?_
      refine zg_aload_n ok dX2_next_143 rfl 0 rfl ?_
      refine zg_getI ok lf_X2_81 dX2_next_144 hE (fun v14 hE => ?_)
      refine zg_callV (vs := [zI v14]) (rest := []) (rm := rm_X2_isDigit) ok hRm lk_X2_94 dX2_next_147 hE (fun hE => mt_X2_isDigit hl hE) rfl (Nat.le_of_ble_eq_true rfl) ⟨⟨Nat.le_of_ble_eq_true rfl, Nat.le_of_ble_eq_true rfl⟩, Nat.le_of_ble_eq_true rfl, Nat.le_of_ble_eq_true rfl⟩ (zg_retI (fun v15 h6 hE => ?_)) (zg_xok ok tab fin ⟨Nat.le_of_ble_eq_true rfl, Nat.le_of_ble_eq_true rfl⟩)
      refine zg_cost (kc2 := 0) (ks2 := 0) ⟨rfl, rfl⟩ ?_
      refine zg_if_eq (tgt := 242) ok dX2_next_150 (by decide) hE (fun hE => ?_) (fun hE => ?_)
      · refine zg_aload_n ok dX2_next_242 rfl 0 rfl ?_
        refine zg_getA ok lf_X2_26 dX2_next_243 hE (fun v16 hE => ?_)
        refine zg_aload_n ok dX2_next_246 rfl 0 rfl ?_
        refine zg_getI ok lf_X2_81 dX2_next_247 hE (fun v17 hE => ?_)
        refine zg_bald ok dX2_next_250 hE (fun v18 hE => ?_)
        refine zg_bipush (v := 59) ok dX2_next_251 (by decide) ?_
        refine zg_icmp_ne (tgt := 261) ok dX2_next_253 (by decide) hE (fun hE => ?_) (fun hE => ?_)
        · exact gt_f_X2_next_J261 hl ok tab fin hRm  hE
        · refine zg_aload_n ok dX2_next_256 rfl 0 rfl ?_
          refine zg_iconst (v := 4) ok dX2_next_257 (by decide) ?_
          refine zg_put (ty := .int) ok lf_X2_87 (Or.inl rfl) (by decide) (by decide +kernel) rfl rfl dX2_next_258 hE (fun h8 hE => ?_)
          exact gt_f_X2_next_J261 hl ok tab fin hRm  hE
      · refine zg_aload_n ok dX2_next_153 rfl 0 rfl ?_
        refine zg_iconst (v := 0) ok dX2_next_154 (by decide) ?_
        refine zg_put (ty := .int) ok lf_X2_97 (Or.inl rfl) (by decide) (by decide +kernel) rfl rfl dX2_next_155 hE (fun h9 hE => ?_)
        refine gt_f_X2_next_L158 hl ok tab fin hRm ⟨Nat.le_of_ble_eq_true rfl, Nat.le_of_ble_eq_true rfl⟩ ?_ _ _ hE
        · intro h13 hE
          refine zg_aload_n ok dX2_next_219 rfl 0 rfl ?_
          refine zg_aload_n ok dX2_next_220 rfl 0 rfl ?_
          refine zg_getI ok lf_X2_81 dX2_next_221 hE (fun v29 hE => ?_)
          refine zg_aload_n ok dX2_next_224 rfl 0 rfl ?_
          refine zg_getI ok lf_X2_84 dX2_next_225 hE (fun v30 hE => ?_)
          refine zg_isub ok dX2_next_228 ?_
          refine zg_iconst (v := 3) ok dX2_next_229 (by decide) ?_
          refine zg_icmp_gt (tgt := 237) ok dX2_next_230 (by decide) hE (fun hE => ?_) (fun hE => ?_)
          · refine zg_iconst (v := 0) ok dX2_next_237 (by decide) ?_
            refine zg_put (ty := .int) ok lf_X2_87 (Or.inl rfl) (by decide) (by decide +kernel) rfl rfl dX2_next_238 hE (fun h14 hE => ?_)
            exact zg_vret ok fin dX2_next_241 ⟨Nat.le_of_ble_eq_true rfl, Nat.le_of_ble_eq_true rfl⟩ hE
          · refine zg_iconst (v := 3) ok dX2_next_233 (by decide) ?_
            refine zg_goto (tgt := 238) ok dX2_next_234 (by decide) ?_
            refine zg_put (ty := .int) ok lf_X2_87 (Or.inl rfl) (by decide) (by decide +kernel) rfl rfl dX2_next_238 hE (fun h15 hE => ?_)
            exact zg_vret ok fin dX2_next_241 ⟨Nat.le_of_ble_eq_true rfl, Nat.le_of_ble_eq_true rfl⟩ hE
    · refine gt_f_X2_next_L94 hl ok tab fin hRm ⟨Nat.le_of_ble_eq_true rfl, Nat.le_of_ble_eq_true rfl⟩ ?_ _ _ hE
      · intro h18 hE
        refine zg_aload_n ok dX2_next_118 rfl 0 rfl ?_
        refine zg_aload_n ok dX2_next_119 rfl 0 rfl ?_
        refine zg_getI ok lf_X2_81 dX2_next_120 hE (fun v34 hE => ?_)
        refine zg_aload_n ok dX2_next_123 rfl 0 rfl ?_
        refine zg_getI ok lf_X2_84 dX2_next_124 hE (fun v35 hE => ?_)
        refine zg_isub ok dX2_next_127 ?_
        refine zg_bipush (v := 6) ok dX2_next_128 (by decide) ?_
        refine zg_icmp_gt (tgt := 137) ok dX2_next_130 (by decide) hE (fun hE => ?_) (fun hE => ?_)
        · refine zg_iconst (v := 0) ok dX2_next_137 (by decide) ?_
          refine zg_put (ty := .int) ok lf_X2_87 (Or.inl rfl) (by decide) (by decide +kernel) rfl rfl dX2_next_138 hE (fun h19 hE => ?_)
          exact zg_vret ok fin dX2_next_141 ⟨Nat.le_of_ble_eq_true rfl, Nat.le_of_ble_eq_true rfl⟩ hE
        · refine zg_iconst (v := 2) ok dX2_next_133 (by decide) ?_
          refine zg_goto (tgt := 138) ok dX2_next_134 (by decide) ?_
          refine zg_put (ty := .int) ok lf_X2_87 (Or.inl rfl) (by decide) (by decide +kernel) rfl rfl dX2_next_138 hE (fun h20 hE => ?_)
          exact zg_vret ok fin dX2_next_141 ⟨Nat.le_of_ble_eq_true rfl, Nat.le_of_ble_eq_true rfl⟩ hE
  · exact zg_vret ok fin dX2_next_82 ⟨Nat.le_of_ble_eq_true rfl, Nat.le_of_ble_eq_true rfl⟩ hE
set_option maxHeartbeats 8000000 in
theorem mt_X2_next {l : Launch} (hl : l.stackTraces = false) {Z : zw_Z} {a0 : Option Nat} {h : zw_H} {Q : zw_H → Prop} {X : String → Nat → zw_H → Prop} (hE : f_X2_next Z.2.2.2 a0 h Q X) : zw_Met l Z yX2_next (ws_ yX2_next cX2_next 1 (Option.none : Option Jvm.ClassFile.FieldType)) rm_X2_next [zA a0] h (zq_V Q) X := by
  refine zg_start (own := "MultipoleLineModel") (by decide +kernel) rfl (Nat.le_of_ble_eq_true rfl) hl (fun Xc ok tab fin hRm hXl hXZ => ?_)
  subst hXl
  subst hXZ
  unfold f_X2_next at hE
  refine zg_aload_n ok dX2_next_0 rfl 0 rfl ?_
  refine zg_getI ok lf_X2_71 dX2_next_1 hE (fun v1 hE => ?_)
  refine zg_if_le (tgt := 8) ok dX2_next_4 (by decide) hE (fun hE => ?_) (fun hE => ?_)
  · refine gt_f_X2_next_L8 hl ok tab fin hRm ⟨Nat.le_of_ble_eq_true rfl, Nat.le_of_ble_eq_true rfl⟩ ?_ _ _ hE
    · intro h2 hE
      refine zg_aload_n ok dX2_next_46 rfl 0 rfl ?_
      refine zg_aload_n ok dX2_next_47 rfl 0 rfl ?_
      refine zg_getI ok lf_X2_81 dX2_next_48 hE (fun v8 hE => ?_)
      refine zg_put (ty := .int) ok lf_X2_84 (Or.inl rfl) (by decide) (by decide +kernel) rfl rfl dX2_next_51 hE (fun h3 hE => ?_)
      refine zg_aload_n ok dX2_next_54 rfl 0 rfl ?_
      refine zg_aload_n ok dX2_next_55 rfl 0 rfl ?_
      refine zg_getI ok lf_X2_81 dX2_next_56 hE (fun v9 hE => ?_)
      refine zg_aload_n ok dX2_next_59 rfl 0 rfl ?_
      refine zg_getI ok lf_X2_74 dX2_next_60 hE (fun v10 hE => ?_)
      refine zg_icmp_ne (tgt := 70) ok dX2_next_63 (by decide) hE (fun hE => ?_) (fun hE => ?_)
      · refine zg_iconst (v := 0) ok dX2_next_70 (by decide) ?_
        exact gt_f_X2_next_J71 hl ok tab fin hRm  hE
      · refine zg_iconst (v := 1) ok dX2_next_66 (by decide) ?_
        refine zg_goto (tgt := 71) ok dX2_next_67 (by decide) ?_
        exact gt_f_X2_next_J71 hl ok tab fin hRm  hE
  · exact zg_vret ok fin dX2_next_7 ⟨Nat.le_of_ble_eq_true rfl, Nat.le_of_ble_eq_true rfl⟩ hE
set_option maxHeartbeats 8000000 in
theorem mt_X2_is {l : Launch} (hl : l.stackTraces = false) {Z : zw_Z} {a0 : Option Nat} {a1 : Int32} {h : zw_H} {Q : Int32 → zw_H → Prop} {X : String → Nat → zw_H → Prop} (hE : f_X2_is Z.2.2.2 a0 a1 h Q X) : zw_Met l Z yX2_is (ws_ yX2_is cX2_is 2 (Option.some Jvm.ClassFile.FieldType.boolean)) rm_X2_is [zA a0, zI a1] h (zq_I Q) X := by
  refine zg_start (own := "MultipoleLineModel") (by decide +kernel) rfl (Nat.le_of_ble_eq_true rfl) hl (fun Xc ok tab fin hRm hXl hXZ => ?_)
  subst hXl
  subst hXZ
  unfold f_X2_is at hE
  refine zg_aload_n ok dX2_is_0 rfl 0 rfl ?_
  refine zg_getI ok lf_X2_71 dX2_is_1 hE (fun v1 hE => ?_)
  refine zg_if_ne (tgt := 19) ok dX2_is_4 (by decide) hE (fun hE => ?_) (fun hE => ?_)
  · refine zg_iconst (v := 0) ok dX2_is_19 (by decide) ?_
    exact zg_zret ok fin dX2_is_20 ⟨Nat.le_of_ble_eq_true rfl, Nat.le_of_ble_eq_true rfl⟩ rfl hE
  · refine zg_aload_n ok dX2_is_7 rfl 0 rfl ?_
    refine zg_getI ok lf_X2_87 dX2_is_8 hE (fun v2 hE => ?_)
    refine zg_iload_n ok dX2_is_11 rfl 1 rfl ?_
    refine zg_icmp_ne (tgt := 19) ok dX2_is_12 (by decide) hE (fun hE => ?_) (fun hE => ?_)
    · refine zg_iconst (v := 0) ok dX2_is_19 (by decide) ?_
      exact zg_zret ok fin dX2_is_20 ⟨Nat.le_of_ble_eq_true rfl, Nat.le_of_ble_eq_true rfl⟩ rfl hE
    · refine zg_iconst (v := 1) ok dX2_is_15 (by decide) ?_
      refine zg_goto (tgt := 20) ok dX2_is_16 (by decide) ?_
      exact zg_zret ok fin dX2_is_20 ⟨Nat.le_of_ble_eq_true rfl, Nat.le_of_ble_eq_true rfl⟩ rfl hE
set_option maxHeartbeats 8000000 in
theorem mt_J4_coder {l : Launch} (hl : l.stackTraces = false) {Z : zw_Z} {a0 : Option Nat} {h : zw_H} {Q : Int32 → zw_H → Prop} {X : String → Nat → zw_H → Prop} (hE : f_J4_coder Z.2.2.2 a0 h Q X) : zw_Met l Z yJ4_coder (ws_ yJ4_coder cJ4_coder 1 (Option.some Jvm.ClassFile.FieldType.byte)) rm_J4_coder [zA a0] h (zq_I Q) X := by
  refine zg_startF (own := "java/lang/String") (by decide +kernel) rfl (Nat.le_of_ble_eq_true rfl) hl (fun Xc ok tab fin hRm hXl hXZ => ?_)
  subst hXl
  subst hXZ
  unfold f_J4_coder at hE
  refine zg_getsI (C := "java/lang/String") (n := "COMPACT_STRINGS") (d' := "Z") (v := 1) ok (List.mem_of_getElem? (i := 0) rfl) q718 dJ4_coder_0 ?_
  refine zg_if_eq (tgt := 13) ok dJ4_coder_3 (by decide) hE (fun hE => ?_) (fun hE => ?_)
  · refine zg_iconst (v := 1) ok dJ4_coder_13 (by decide) ?_
    exact zg_bret ok fin dJ4_coder_14 ⟨Nat.le_of_ble_eq_true rfl, Nat.le_of_ble_eq_true rfl⟩ hE.1 hE.2
  · refine zg_aload_n ok dJ4_coder_6 rfl 0 rfl ?_
    refine zg_getI ok lf_J4_15 dJ4_coder_7 hE (fun v1 hE => ?_)
    refine zg_goto (tgt := 14) ok dJ4_coder_10 (by decide) ?_
    exact zg_bret ok fin dJ4_coder_14 ⟨Nat.le_of_ble_eq_true rfl, Nat.le_of_ble_eq_true rfl⟩ hE.1 hE.2
set_option maxHeartbeats 8000000 in
theorem mt_J4_length {l : Launch} (hl : l.stackTraces = false) {Z : zw_Z} {a0 : Option Nat} {h : zw_H} {Q : Int32 → zw_H → Prop} {X : String → Nat → zw_H → Prop} (hE : f_J4_length Z.2.2.2 a0 h Q X) : zw_Met l Z yJ4_length (ws_ yJ4_length cJ4_length 1 (Option.some Jvm.ClassFile.FieldType.int)) rm_J4_length [zA a0] h (zq_I Q) X := by
  refine zg_startF (own := "java/lang/String") (by decide +kernel) rfl (Nat.le_of_ble_eq_true rfl) hl (fun Xc ok tab fin hRm hXl hXZ => ?_)
  subst hXl
  subst hXZ
  unfold f_J4_length at hE
  refine zg_aload_n ok dJ4_length_0 rfl 0 rfl ?_
  refine zg_getA ok lf_J4_9 dJ4_length_1 hE (fun v1 hE => ?_)
  refine zg_alen ok dJ4_length_4 hE (fun v2 hE => ?_)
  refine zg_aload_n ok dJ4_length_5 rfl 0 rfl ?_
  refine zg_callV (vs := []) (rest := [.int v2]) (rm := rm_J4_coder) ok hRm lk_J4_335 dJ4_length_6 hE (fun hE => mt_J4_coder hl hE) rfl (Nat.le_of_ble_eq_true rfl) ⟨⟨Nat.le_of_ble_eq_true rfl, Nat.le_of_ble_eq_true rfl⟩, Nat.le_of_ble_eq_true rfl, Nat.le_of_ble_eq_true rfl⟩ (zg_retI (fun v3 h1 hE => ?_)) (zg_xok ok tab fin ⟨Nat.le_of_ble_eq_true rfl, Nat.le_of_ble_eq_true rfl⟩)
  refine zg_cost (kc2 := 0) (ks2 := 0) ⟨rfl, rfl⟩ ?_
  refine zg_ishr ok dJ4_length_9 ?_
  exact zg_iret ok fin dJ4_length_10 ⟨Nat.le_of_ble_eq_true rfl, Nat.le_of_ble_eq_true rfl⟩ hE
set_option maxHeartbeats 8000000 in
theorem mt_J4_isLatin1 {l : Launch} (hl : l.stackTraces = false) {Z : zw_Z} {a0 : Option Nat} {h : zw_H} {Q : Int32 → zw_H → Prop} {X : String → Nat → zw_H → Prop} (hE : f_J4_isLatin1 Z.2.2.2 a0 h Q X) : zw_Met l Z yJ4_isLatin1 (ws_ yJ4_isLatin1 cJ4_isLatin1 1 (Option.some Jvm.ClassFile.FieldType.boolean)) rm_J4_isLatin1 [zA a0] h (zq_I Q) X := by
  refine zg_startF (own := "java/lang/String") (by decide +kernel) rfl (Nat.le_of_ble_eq_true rfl) hl (fun Xc ok tab fin hRm hXl hXZ => ?_)
  subst hXl
  subst hXZ
  unfold f_J4_isLatin1 at hE
  refine zg_getsI (C := "java/lang/String") (n := "COMPACT_STRINGS") (d' := "Z") (v := 1) ok (List.mem_of_getElem? (i := 0) rfl) q718 dJ4_isLatin1_0 ?_
  refine zg_if_eq (tgt := 17) ok dJ4_isLatin1_3 (by decide) hE (fun hE => ?_) (fun hE => ?_)
  · refine zg_iconst (v := 0) ok dJ4_isLatin1_17 (by decide) ?_
    exact zg_zret ok fin dJ4_isLatin1_18 ⟨Nat.le_of_ble_eq_true rfl, Nat.le_of_ble_eq_true rfl⟩ rfl hE
  · refine zg_aload_n ok dJ4_isLatin1_6 rfl 0 rfl ?_
    refine zg_getI ok lf_J4_15 dJ4_isLatin1_7 hE (fun v1 hE => ?_)
    refine zg_if_ne (tgt := 17) ok dJ4_isLatin1_10 (by decide) hE (fun hE => ?_) (fun hE => ?_)
    · refine zg_iconst (v := 0) ok dJ4_isLatin1_17 (by decide) ?_
      exact zg_zret ok fin dJ4_isLatin1_18 ⟨Nat.le_of_ble_eq_true rfl, Nat.le_of_ble_eq_true rfl⟩ rfl hE
    · refine zg_iconst (v := 1) ok dJ4_isLatin1_13 (by decide) ?_
      refine zg_goto (tgt := 18) ok dJ4_isLatin1_14 (by decide) ?_
      exact zg_zret ok fin dJ4_isLatin1_18 ⟨Nat.le_of_ble_eq_true rfl, Nat.le_of_ble_eq_true rfl⟩ rfl hE
set_option maxHeartbeats 8000000 in
theorem mt_J17_checkIndex {l : Launch} (hl : l.stackTraces = false) {Z : zw_Z} {a0 : Int32} {a1 : Int32} {a2 : Option Nat} {h : zw_H} {Q : Int32 → zw_H → Prop} {X : String → Nat → zw_H → Prop} (hE : f_J17_checkIndex Z.2.2.2 a0 a1 a2 h Q X) : zw_Met l Z yJ17_checkIndex (ws_ yJ17_checkIndex cJ17_checkIndex 3 (Option.some Jvm.ClassFile.FieldType.int)) rm_J17_checkIndex [zI a0, zI a1, zA a2] h (zq_I Q) X := by
  refine zg_start (own := "jdk/internal/util/Preconditions") (by decide +kernel) rfl (Nat.le_of_ble_eq_true rfl) hl (fun Xc ok tab fin hRm hXl hXZ => ?_)
  subst hXl
  subst hXZ
  unfold f_J17_checkIndex at hE
  refine zg_iload_n ok dJ17_checkIndex_0 rfl 0 rfl ?_
  refine zg_if_lt (tgt := 9) ok dJ17_checkIndex_1 (by decide) hE (fun hE => ?_) (fun hE => ?_)
  · exact hE.elim
  · refine zg_iload_n ok dJ17_checkIndex_4 rfl 0 rfl ?_
    refine zg_iload_n ok dJ17_checkIndex_5 rfl 1 rfl ?_
    refine zg_icmp_lt (tgt := 16) ok dJ17_checkIndex_6 (by decide) hE (fun hE => ?_) (fun hE => ?_)
    · refine zg_iload_n ok dJ17_checkIndex_16 rfl 0 rfl ?_
      exact zg_iret ok fin dJ17_checkIndex_17 ⟨Nat.le_of_ble_eq_true rfl, Nat.le_of_ble_eq_true rfl⟩ hE
    · exact hE.elim
set_option maxHeartbeats 8000000 in
theorem mt_J4_checkIndex {l : Launch} (hl : l.stackTraces = false) {Z : zw_Z} {a0 : Int32} {a1 : Int32} {h : zw_H} {Q : zw_H → Prop} {X : String → Nat → zw_H → Prop} (hE : f_J4_checkIndex Z.2.2.2 a0 a1 h Q X) : zw_Met l Z yJ4_checkIndex (ws_ yJ4_checkIndex cJ4_checkIndex 2 (Option.none : Option Jvm.ClassFile.FieldType)) rm_J4_checkIndex [zI a0, zI a1] h (zq_V Q) X := by
  refine zg_startF (own := "java/lang/String") (by decide +kernel) rfl (Nat.le_of_ble_eq_true rfl) hl (fun Xc ok tab fin hRm hXl hXZ => ?_)
  subst hXl
  subst hXZ
  unfold f_J4_checkIndex at hE
  refine zg_iload_n ok dJ4_checkIndex_0 rfl 0 rfl ?_
  refine zg_iload_n ok dJ4_checkIndex_1 rfl 1 rfl ?_
  refine zg_getsA (C := "jdk/internal/util/Preconditions") (n := "SIOOBE_FORMATTER") (d' := "Ljava/util/function/BiFunction;") (k := 3) ok (List.mem_of_getElem? (i := 3) rfl) q589 dJ4_checkIndex_2 ?_
  refine zg_callS (vs := [zI a0, zI a1, zA ((zw_Zf Xc).2.2.2 3)]) (rest := []) (rm := rm_J17_checkIndex) ok hRm lk_J4_1059 dJ4_checkIndex_5 hE (fun hE => mt_J17_checkIndex hl hE) rfl (Nat.le_of_ble_eq_true rfl) ⟨⟨Nat.le_of_ble_eq_true rfl, Nat.le_of_ble_eq_true rfl⟩, Nat.le_of_ble_eq_true rfl, Nat.le_of_ble_eq_true rfl⟩ (zg_retI (fun v1 h1 hE => ?_)) (zg_xok ok tab fin ⟨Nat.le_of_ble_eq_true rfl, Nat.le_of_ble_eq_true rfl⟩)
  refine zg_cost (kc2 := 0) (ks2 := 0) ⟨rfl, rfl⟩ ?_
  refine zg_pop ok dJ4_checkIndex_8 rfl ?_
  exact zg_vret ok fin dJ4_checkIndex_9 ⟨Nat.le_of_ble_eq_true rfl, Nat.le_of_ble_eq_true rfl⟩ hE
set_option maxHeartbeats 8000000 in
theorem mt_J16_charAt {l : Launch} (hl : l.stackTraces = false) {Z : zw_Z} {a0 : Option Nat} {a1 : Int32} {h : zw_H} {Q : Int32 → zw_H → Prop} {X : String → Nat → zw_H → Prop} (hE : f_J16_charAt Z.2.2.2 a0 a1 h Q X) : zw_Met l Z yJ16_charAt (ws_ yJ16_charAt cJ16_charAt 2 (Option.some Jvm.ClassFile.FieldType.char)) rm_J16_charAt [zA a0, zI a1] h (zq_I Q) X := by
  refine zg_start (own := "java/lang/StringLatin1") (by decide +kernel) rfl (Nat.le_of_ble_eq_true rfl) hl (fun Xc ok tab fin hRm hXl hXZ => ?_)
  subst hXl
  subst hXZ
  unfold f_J16_charAt at hE
  refine zg_iload_n ok dJ16_charAt_0 rfl 1 rfl ?_
  refine zg_aload_n ok dJ16_charAt_1 rfl 0 rfl ?_
  refine zg_alen ok dJ16_charAt_2 hE (fun v1 hE => ?_)
  refine zg_callS (vs := [zI a1, zI v1]) (rest := []) (rm := rm_J4_checkIndex) ok hRm lk_J16_9 dJ16_charAt_3 hE (fun hE => mt_J4_checkIndex hl hE) rfl (Nat.le_of_ble_eq_true rfl) ⟨⟨Nat.le_of_ble_eq_true rfl, Nat.le_of_ble_eq_true rfl⟩, Nat.le_of_ble_eq_true rfl, Nat.le_of_ble_eq_true rfl⟩ (zg_retV (fun h1 hE => ?_)) (zg_xok ok tab fin ⟨Nat.le_of_ble_eq_true rfl, Nat.le_of_ble_eq_true rfl⟩)
  refine zg_cost (kc2 := 0) (ks2 := 0) ⟨rfl, rfl⟩ ?_
  refine zg_aload_n ok dJ16_charAt_6 rfl 0 rfl ?_
  refine zg_iload_n ok dJ16_charAt_7 rfl 1 rfl ?_
  refine zg_bald ok dJ16_charAt_8 hE (fun v2 hE => ?_)
  refine zg_sipush (v := 255) ok dJ16_charAt_9 (by decide) ?_
  refine zg_iand ok dJ16_charAt_12 ?_
  refine zg_i2c ok dJ16_charAt_13 ?_
  exact zg_cret ok fin dJ16_charAt_14 ⟨Nat.le_of_ble_eq_true rfl, Nat.le_of_ble_eq_true rfl⟩ hE.1 hE.2
set_option maxHeartbeats 8000000 in
theorem mt_J5_length {l : Launch} (hl : l.stackTraces = false) {Z : zw_Z} {a0 : Option Nat} {h : zw_H} {Q : Int32 → zw_H → Prop} {X : String → Nat → zw_H → Prop} (hE : f_J5_length Z.2.2.2 a0 h Q X) : zw_Met l Z yJ5_length (ws_ yJ5_length cJ5_length 1 (Option.some Jvm.ClassFile.FieldType.int)) rm_J5_length [zA a0] h (zq_I Q) X := by
  refine zg_start (own := "java/lang/StringUTF16") (by decide +kernel) rfl (Nat.le_of_ble_eq_true rfl) hl (fun Xc ok tab fin hRm hXl hXZ => ?_)
  subst hXl
  subst hXZ
  unfold f_J5_length at hE
  refine zg_aload_n ok dJ5_length_0 rfl 0 rfl ?_
  refine zg_alen ok dJ5_length_1 hE (fun v1 hE => ?_)
  refine zg_iconst (v := 1) ok dJ5_length_2 (by decide) ?_
  refine zg_ishr ok dJ5_length_3 ?_
  exact zg_iret ok fin dJ5_length_4 ⟨Nat.le_of_ble_eq_true rfl, Nat.le_of_ble_eq_true rfl⟩ hE
set_option maxHeartbeats 8000000 in
theorem mt_J5_checkIndex {l : Launch} (hl : l.stackTraces = false) {Z : zw_Z} {a0 : Int32} {a1 : Option Nat} {h : zw_H} {Q : zw_H → Prop} {X : String → Nat → zw_H → Prop} (hE : f_J5_checkIndex Z.2.2.2 a0 a1 h Q X) : zw_Met l Z yJ5_checkIndex (ws_ yJ5_checkIndex cJ5_checkIndex 2 (Option.none : Option Jvm.ClassFile.FieldType)) rm_J5_checkIndex [zI a0, zA a1] h (zq_V Q) X := by
  refine zg_start (own := "java/lang/StringUTF16") (by decide +kernel) rfl (Nat.le_of_ble_eq_true rfl) hl (fun Xc ok tab fin hRm hXl hXZ => ?_)
  subst hXl
  subst hXZ
  unfold f_J5_checkIndex at hE
  refine zg_iload_n ok dJ5_checkIndex_0 rfl 0 rfl ?_
  refine zg_aload_n ok dJ5_checkIndex_1 rfl 1 rfl ?_
  refine zg_callS (vs := [zA a1]) (rest := [.int a0]) (rm := rm_J5_length) ok hRm lk_J5_48 dJ5_checkIndex_2 hE (fun hE => mt_J5_length hl hE) rfl (Nat.le_of_ble_eq_true rfl) ⟨⟨Nat.le_of_ble_eq_true rfl, Nat.le_of_ble_eq_true rfl⟩, Nat.le_of_ble_eq_true rfl, Nat.le_of_ble_eq_true rfl⟩ (zg_retI (fun v1 h1 hE => ?_)) (zg_xok ok tab fin ⟨Nat.le_of_ble_eq_true rfl, Nat.le_of_ble_eq_true rfl⟩)
  refine zg_cost (kc2 := 0) (ks2 := 0) ⟨rfl, rfl⟩ ?_
  refine zg_callS (vs := [zI a0, zI v1]) (rest := []) (rm := rm_J4_checkIndex) ok hRm lk_J5_414 dJ5_checkIndex_5 hE (fun hE => mt_J4_checkIndex hl hE) rfl (Nat.le_of_ble_eq_true rfl) ⟨⟨Nat.le_of_ble_eq_true rfl, Nat.le_of_ble_eq_true rfl⟩, Nat.le_of_ble_eq_true rfl, Nat.le_of_ble_eq_true rfl⟩ (zg_retV (fun h2 hE => ?_)) (zg_xok ok tab fin ⟨Nat.le_of_ble_eq_true rfl, Nat.le_of_ble_eq_true rfl⟩)
  refine zg_cost (kc2 := 0) (ks2 := 0) ⟨rfl, rfl⟩ ?_
  exact zg_vret ok fin dJ5_checkIndex_8 ⟨Nat.le_of_ble_eq_true rfl, Nat.le_of_ble_eq_true rfl⟩ hE
set_option maxHeartbeats 8000000 in
theorem gt_f_J5_getChar_J28 {Xc : zw_X} {Q : Int32 → zw_H → Prop} {X : String → Nat → zw_H → Prop} (hl : (zw_l Xc).stackTraces = false) (ok : zw_ok Xc cJ5_getChar "java/lang/StringUTF16" yJ5_getChar.name 2) (tab : zw_tab Xc []) (fin : zw_fin Xc (Option.some Jvm.ClassFile.FieldType.char) (zq_I Q) X 0 0) (hRm : zw_rm Xc = rm_J5_getChar)  {l0 : Option Nat} {l1 : Int32}  {h : zw_H} (hE : f_J5_getChar_J28 (zw_Zf Xc).2.2.2 Q X  l0 l1 h) : zw_G Xc 0 0 2 h 28 [(0, va_rf l0), (1, .int l1)] [] := by
  unfold f_J5_getChar_J28 at hE
  refine zg_iload_n ok dJ5_getChar_28 rfl 1 rfl ?_
  refine zg_iconst (v := 1) ok dJ5_getChar_29 (by decide) ?_
  refine zg_ishl ok dJ5_getChar_30 ?_
  refine zg_letI hE (fun v1 hE => ?_)
  refine zg_istore_nR (L' := [(1, .int v1), (0, va_rf l0)]) ok dJ5_getChar_31 rfl (by decide) 0 rfl rfl rfl ?_
  refine zg_aload_n ok dJ5_getChar_32 rfl 1 rfl ?_
  refine zg_iload_n ok dJ5_getChar_33 rfl 0 rfl ?_
  refine zg_iincLR (k := 0) (L' := fun v2 => [(1, .int v2), (0, va_rf l0)]) ok dJ5_getChar_34 (by decide +kernel) hE rfl (by decide) rfl (k9 := 1) rfl (fun _ => rfl) (fun v2 hE => ?_)
  refine zg_bald ok dJ5_getChar_37 hE (fun v3 hE => ?_)
  refine zg_sipush (v := 255) ok dJ5_getChar_38 (by decide) ?_
  refine zg_iand ok dJ5_getChar_41 ?_
  refine zg_getsI (C := "java/lang/StringUTF16") (n := "HI_BYTE_SHIFT") (d' := "I") (v := 0) ok (List.mem_of_getElem? (i := 2) rfl) q599 dJ5_getChar_42 ?_
  refine zg_ishl ok dJ5_getChar_45 ?_
  refine zg_aload_n ok dJ5_getChar_46 rfl 1 rfl ?_
  refine zg_iload_n ok dJ5_getChar_47 rfl 0 rfl ?_
  refine zg_bald ok dJ5_getChar_48 hE (fun v4 hE => ?_)
  refine zg_sipush (v := 255) ok dJ5_getChar_49 (by decide) ?_
  refine zg_iand ok dJ5_getChar_52 ?_
  refine zg_getsI (C := "java/lang/StringUTF16") (n := "LO_BYTE_SHIFT") (d' := "I") (v := 8) ok (List.mem_of_getElem? (i := 3) rfl) q601 dJ5_getChar_53 ?_
  refine zg_ishl ok dJ5_getChar_56 ?_
  refine zg_ior ok dJ5_getChar_57 ?_
  refine zg_i2c ok dJ5_getChar_58 ?_
  exact zg_cret ok fin dJ5_getChar_59 ⟨Nat.le_of_ble_eq_true rfl, Nat.le_of_ble_eq_true rfl⟩ hE.1 hE.2
set_option maxHeartbeats 8000000 in
theorem mt_J5_getChar {l : Launch} (hl : l.stackTraces = false) {Z : zw_Z} {a0 : Option Nat} {a1 : Int32} {h : zw_H} {Q : Int32 → zw_H → Prop} {X : String → Nat → zw_H → Prop} (hE : f_J5_getChar Z.2.2.2 a0 a1 h Q X) : zw_Met l Z yJ5_getChar (ws_ yJ5_getChar cJ5_getChar 2 (Option.some Jvm.ClassFile.FieldType.char)) rm_J5_getChar [zA a0, zI a1] h (zq_I Q) X := by
  refine zg_start (own := "java/lang/StringUTF16") (by decide +kernel) rfl (Nat.le_of_ble_eq_true rfl) hl (fun Xc ok tab fin hRm hXl hXZ => ?_)
  subst hXl
  subst hXZ
  unfold f_J5_getChar at hE
  refine zg_getsI (C := "java/lang/StringUTF16") (n := "$assertionsDisabled") (d' := "Z") (v := 1) ok (List.mem_of_getElem? (i := 1) rfl) q597 dJ5_getChar_0 ?_
  refine zg_if_ne (tgt := 28) ok dJ5_getChar_3 (by decide) hE (fun hE => ?_) (fun hE => ?_)
  · exact gt_f_J5_getChar_J28 hl ok tab fin hRm  hE
  · refine zg_iload_n ok dJ5_getChar_6 rfl 1 rfl ?_
    refine zg_if_lt (tgt := 18) ok dJ5_getChar_7 (by decide) hE (fun hE => ?_) (fun hE => ?_)
    · exact hE.elim
    · refine zg_iload_n ok dJ5_getChar_10 rfl 1 rfl ?_
      refine zg_aload_n ok dJ5_getChar_11 rfl 0 rfl ?_
      refine zg_callS (vs := [zA a0]) (rest := [.int a1]) (rm := rm_J5_length) ok hRm lk_J5_48 dJ5_getChar_12 hE (fun hE => mt_J5_length hl hE) rfl (Nat.le_of_ble_eq_true rfl) ⟨⟨Nat.le_of_ble_eq_true rfl, Nat.le_of_ble_eq_true rfl⟩, Nat.le_of_ble_eq_true rfl, Nat.le_of_ble_eq_true rfl⟩ (zg_retI (fun v5 h1 hE => ?_)) (zg_xok ok tab fin ⟨Nat.le_of_ble_eq_true rfl, Nat.le_of_ble_eq_true rfl⟩)
      refine zg_cost (kc2 := 0) (ks2 := 0) ⟨rfl, rfl⟩ ?_
      refine zg_icmp_lt (tgt := 28) ok dJ5_getChar_15 (by decide) hE (fun hE => ?_) (fun hE => ?_)
      · exact gt_f_J5_getChar_J28 hl ok tab fin hRm  hE
      · exact hE.elim
set_option maxHeartbeats 8000000 in
theorem mt_J5_charAt {l : Launch} (hl : l.stackTraces = false) {Z : zw_Z} {a0 : Option Nat} {a1 : Int32} {h : zw_H} {Q : Int32 → zw_H → Prop} {X : String → Nat → zw_H → Prop} (hE : f_J5_charAt Z.2.2.2 a0 a1 h Q X) : zw_Met l Z yJ5_charAt (ws_ yJ5_charAt cJ5_charAt 2 (Option.some Jvm.ClassFile.FieldType.char)) rm_J5_charAt [zA a0, zI a1] h (zq_I Q) X := by
  refine zg_start (own := "java/lang/StringUTF16") (by decide +kernel) rfl (Nat.le_of_ble_eq_true rfl) hl (fun Xc ok tab fin hRm hXl hXZ => ?_)
  subst hXl
  subst hXZ
  unfold f_J5_charAt at hE
  refine zg_iload_n ok dJ5_charAt_0 rfl 1 rfl ?_
  refine zg_aload_n ok dJ5_charAt_1 rfl 0 rfl ?_
  refine zg_callS (vs := [zI a1, zA a0]) (rest := []) (rm := rm_J5_checkIndex) ok hRm lk_J5_67 dJ5_charAt_2 hE (fun hE => mt_J5_checkIndex hl hE) rfl (Nat.le_of_ble_eq_true rfl) ⟨⟨Nat.le_of_ble_eq_true rfl, Nat.le_of_ble_eq_true rfl⟩, Nat.le_of_ble_eq_true rfl, Nat.le_of_ble_eq_true rfl⟩ (zg_retV (fun h1 hE => ?_)) (zg_xok ok tab fin ⟨Nat.le_of_ble_eq_true rfl, Nat.le_of_ble_eq_true rfl⟩)
  refine zg_cost (kc2 := 0) (ks2 := 0) ⟨rfl, rfl⟩ ?_
  refine zg_aload_n ok dJ5_charAt_5 rfl 0 rfl ?_
  refine zg_iload_n ok dJ5_charAt_6 rfl 1 rfl ?_
  refine zg_callS (vs := [zA a0, zI a1]) (rest := []) (rm := rm_J5_getChar) ok hRm lk_J5_71 dJ5_charAt_7 hE (fun hE => mt_J5_getChar hl hE) rfl (Nat.le_of_ble_eq_true rfl) ⟨⟨Nat.le_of_ble_eq_true rfl, Nat.le_of_ble_eq_true rfl⟩, Nat.le_of_ble_eq_true rfl, Nat.le_of_ble_eq_true rfl⟩ (zg_retI (fun v1 h2 hE => ?_)) (zg_xok ok tab fin ⟨Nat.le_of_ble_eq_true rfl, Nat.le_of_ble_eq_true rfl⟩)
  refine zg_cost (kc2 := 0) (ks2 := 0) ⟨rfl, rfl⟩ ?_
  exact zg_cret ok fin dJ5_charAt_10 ⟨Nat.le_of_ble_eq_true rfl, Nat.le_of_ble_eq_true rfl⟩ hE.1 hE.2
set_option maxHeartbeats 8000000 in
theorem mt_J4_charAt {l : Launch} (hl : l.stackTraces = false) {Z : zw_Z} {a0 : Option Nat} {a1 : Int32} {h : zw_H} {Q : Int32 → zw_H → Prop} {X : String → Nat → zw_H → Prop} (hE : f_J4_charAt Z.2.2.2 a0 a1 h Q X) : zw_Met l Z yJ4_charAt (ws_ yJ4_charAt cJ4_charAt 2 (Option.some Jvm.ClassFile.FieldType.char)) rm_J4_charAt [zA a0, zI a1] h (zq_I Q) X := by
  refine zg_startF (own := "java/lang/String") (by decide +kernel) rfl (Nat.le_of_ble_eq_true rfl) hl (fun Xc ok tab fin hRm hXl hXZ => ?_)
  subst hXl
  subst hXZ
  unfold f_J4_charAt at hE
  refine zg_aload_n ok dJ4_charAt_0 rfl 0 rfl ?_
  refine zg_callV (vs := []) (rest := []) (rm := rm_J4_isLatin1) ok hRm lk_J4_492 dJ4_charAt_1 hE (fun hE => mt_J4_isLatin1 hl hE) rfl (Nat.le_of_ble_eq_true rfl) ⟨⟨Nat.le_of_ble_eq_true rfl, Nat.le_of_ble_eq_true rfl⟩, Nat.le_of_ble_eq_true rfl, Nat.le_of_ble_eq_true rfl⟩ (zg_retI (fun v1 h1 hE => ?_)) (zg_xok ok tab fin ⟨Nat.le_of_ble_eq_true rfl, Nat.le_of_ble_eq_true rfl⟩)
  refine zg_cost (kc2 := 0) (ks2 := 0) ⟨rfl, rfl⟩ ?_
  refine zg_if_eq (tgt := 16) ok dJ4_charAt_4 (by decide) hE (fun hE => ?_) (fun hE => ?_)
  · refine zg_aload_n ok dJ4_charAt_16 rfl 0 rfl ?_
    refine zg_getA ok lf_J4_9 dJ4_charAt_17 hE (fun v2 hE => ?_)
    refine zg_iload_n ok dJ4_charAt_20 rfl 1 rfl ?_
    refine zg_callS (vs := [zA v2, zI a1]) (rest := []) (rm := rm_J5_charAt) ok hRm lk_J4_498 dJ4_charAt_21 hE (fun hE => mt_J5_charAt hl hE) rfl (Nat.le_of_ble_eq_true rfl) ⟨⟨Nat.le_of_ble_eq_true rfl, Nat.le_of_ble_eq_true rfl⟩, Nat.le_of_ble_eq_true rfl, Nat.le_of_ble_eq_true rfl⟩ (zg_retI (fun v3 h2 hE => ?_)) (zg_xok ok tab fin ⟨Nat.le_of_ble_eq_true rfl, Nat.le_of_ble_eq_true rfl⟩)
    refine zg_cost (kc2 := 0) (ks2 := 0) ⟨rfl, rfl⟩ ?_
    exact zg_cret ok fin dJ4_charAt_24 ⟨Nat.le_of_ble_eq_true rfl, Nat.le_of_ble_eq_true rfl⟩ hE.1 hE.2
  · refine zg_aload_n ok dJ4_charAt_7 rfl 0 rfl ?_
    refine zg_getA ok lf_J4_9 dJ4_charAt_8 hE (fun v4 hE => ?_)
    refine zg_iload_n ok dJ4_charAt_11 rfl 1 rfl ?_
    refine zg_callS (vs := [zA v4, zI a1]) (rest := []) (rm := rm_J16_charAt) ok hRm lk_J4_495 dJ4_charAt_12 hE (fun hE => mt_J16_charAt hl hE) rfl (Nat.le_of_ble_eq_true rfl) ⟨⟨Nat.le_of_ble_eq_true rfl, Nat.le_of_ble_eq_true rfl⟩, Nat.le_of_ble_eq_true rfl, Nat.le_of_ble_eq_true rfl⟩ (zg_retI (fun v5 h3 hE => ?_)) (zg_xok ok tab fin ⟨Nat.le_of_ble_eq_true rfl, Nat.le_of_ble_eq_true rfl⟩)
    refine zg_cost (kc2 := 0) (ks2 := 0) ⟨rfl, rfl⟩ ?_
    exact zg_cret ok fin dJ4_charAt_15 ⟨Nat.le_of_ble_eq_true rfl, Nat.le_of_ble_eq_true rfl⟩ hE.1 hE.2
set_option maxHeartbeats 8000000 in
theorem gt_f_X2_isWord_B28 {Xc : zw_X} {Q : Int32 → zw_H → Prop} {X : String → Nat → zw_H → Prop} (hl : (zw_l Xc).stackTraces = false) (ok : zw_ok Xc cX2_isWord "MultipoleLineModel" yX2_isWord.name 3) (tab : zw_tab Xc []) (fin : zw_fin Xc (Option.some Jvm.ClassFile.FieldType.boolean) (zq_I Q) X 0 0) (hRm : zw_rm Xc = rm_X2_isWord) {kc ks : Nat} (hb : kc ≤ 0 ∧ ks ≤ 0) {R : Int32 → zw_H → Prop} {l0 : Option Nat} {l1 : Option Nat} (hR : ∀ (l2 : Int32) (h : zw_H), R l2 h → zw_G Xc kc ks 3 h 28 [(0, va_rf l0), (1, va_rf l1), (2, .int l2)] []) {k55 : zw_H → Prop} (hk55 : ∀  (h : zw_H), k55  h → zw_G Xc kc ks 3 h 55 [] []) {k63 : zw_H → Prop} (hk63 : ∀  (h : zw_H), k63  h → zw_G Xc kc ks 3 h 63 [] [])  {l2 : Int32} {h : zw_H} (hE : f_X2_isWord_B28 (zw_Zf Xc).2.2.2 Q X k55 k63 l0 l1 R l2 h) : zw_G Xc kc ks 3 h 28 [(0, va_rf l0), (1, va_rf l1), (2, .int l2)] [] := by
  unfold f_X2_isWord_B28 at hE
  refine zg_iload_n ok dX2_isWord_28 rfl 2 rfl ?_
  refine zg_aload_n ok dX2_isWord_29 rfl 1 rfl ?_
  refine zg_callV (vs := []) (rest := [.int l2]) (rm := rm_J4_length) ok hRm lk_X2_103 dX2_isWord_30 hE (fun hE => mt_J4_length hl hE) rfl (Nat.le_of_ble_eq_true rfl) ⟨⟨Nat.le_of_ble_eq_true rfl, Nat.le_of_ble_eq_true rfl⟩, (by show kc + 0 ≤ 0; omega), (by show ks + 0 ≤ 0; omega)⟩ (zg_retI (fun v5 h3 hE => ?_)) (zg_xok ok tab fin ⟨(by show kc + 0 ≤ 0; omega), (by show ks + 0 ≤ 0; omega)⟩)
  refine zg_cost (kc2 := kc) (ks2 := ks) ⟨(by show kc + 0 = kc; omega), (by show ks + 0 = ks; omega)⟩ ?_
  refine zg_icmp_ge (tgt := 63) ok dX2_isWord_33 (by decide) hE (fun hE => ?_) (fun hE => ?_)
  · refine zg_sub (L' := []) [] rfl ?_
    exact hk63 _ hE
  · refine zg_aload_n ok dX2_isWord_36 rfl 0 rfl ?_
    refine zg_getA ok lf_X2_26 dX2_isWord_37 hE (fun v6 hE => ?_)
    refine zg_aload_n ok dX2_isWord_40 rfl 0 rfl ?_
    refine zg_getI ok lf_X2_84 dX2_isWord_41 hE (fun v7 hE => ?_)
    refine zg_iload_n ok dX2_isWord_44 rfl 2 rfl ?_
    refine zg_iadd ok dX2_isWord_45 ?_
    refine zg_bald ok dX2_isWord_46 hE (fun v8 hE => ?_)
    refine zg_aload_n ok dX2_isWord_47 rfl 1 rfl ?_
    refine zg_iload_n ok dX2_isWord_48 rfl 2 rfl ?_
    refine zg_callV (vs := [zI l2]) (rest := [.int v8]) (rm := rm_J4_charAt) ok hRm lk_X2_109 dX2_isWord_49 hE (fun hE => mt_J4_charAt hl hE) rfl (Nat.le_of_ble_eq_true rfl) ⟨⟨Nat.le_of_ble_eq_true rfl, Nat.le_of_ble_eq_true rfl⟩, (by show kc + 0 ≤ 0; omega), (by show ks + 0 ≤ 0; omega)⟩ (zg_retI (fun v9 h4 hE => ?_)) (zg_xok ok tab fin ⟨(by show kc + 0 ≤ 0; omega), (by show ks + 0 ≤ 0; omega)⟩)
    refine zg_cost (kc2 := kc) (ks2 := ks) ⟨(by show kc + 0 = kc; omega), (by show ks + 0 = ks; omega)⟩ ?_
    refine zg_icmp_eq (tgt := 57) ok dX2_isWord_52 (by decide) hE (fun hE => ?_) (fun hE => ?_)
    · refine zg_iincLR (k := 2) (L' := fun v10 => [(2, .int v10), (0, va_rf l0), (1, va_rf l1)]) ok dX2_isWord_57 (by decide +kernel) hE rfl (by decide) rfl (k9 := 1) rfl (fun _ => rfl) (fun v10 hE => ?_)
      refine zg_goto (tgt := 28) ok dX2_isWord_60 (by decide) ?_
      refine zg_sub (L' := [(0, va_rf l0), (1, va_rf l1), (2, .int v10)]) [1, 2, 0] rfl ?_
      exact hR _ _ hE
    · refine zg_sub (L' := []) [] rfl ?_
      exact hk55 _ hE
theorem gt_f_X2_isWord_L28 {Xc : zw_X} {Q : Int32 → zw_H → Prop} {X : String → Nat → zw_H → Prop} (hl : (zw_l Xc).stackTraces = false) (ok : zw_ok Xc cX2_isWord "MultipoleLineModel" yX2_isWord.name 3) (tab : zw_tab Xc []) (fin : zw_fin Xc (Option.some Jvm.ClassFile.FieldType.boolean) (zq_I Q) X 0 0) (hRm : zw_rm Xc = rm_X2_isWord) {kc ks : Nat} (hb : kc ≤ 0 ∧ ks ≤ 0) {l0 : Option Nat} {l1 : Option Nat} {k55 : zw_H → Prop} (hk55 : ∀  (h : zw_H), k55  h → zw_G Xc kc ks 3 h 55 [] []) {k63 : zw_H → Prop} (hk63 : ∀  (h : zw_H), k63  h → zw_G Xc kc ks 3 h 63 [] [])  : ∀ (n9 : Nat) (l2 : Int32) (h : zw_H), zl2 (f_X2_isWord_B28 (zw_Zf Xc).2.2.2 Q X k55 k63 l0 l1) n9 l2 h → zw_G Xc kc ks 3 h 28 [(0, va_rf l0), (1, va_rf l1), (2, .int l2)] [] := by
  intro n9
  induction n9 with
  | zero => intro l2 h hE; exact hE.elim
  | succ n9 ih => intro l2 h hE; exact gt_f_X2_isWord_B28 hl ok tab fin hRm hb ih hk55 hk63 hE
set_option maxHeartbeats 8000000 in
theorem mt_X2_isWord {l : Launch} (hl : l.stackTraces = false) {Z : zw_Z} {a0 : Option Nat} {a1 : Option Nat} {h : zw_H} {Q : Int32 → zw_H → Prop} {X : String → Nat → zw_H → Prop} (hE : f_X2_isWord Z.2.2.2 a0 a1 h Q X) : zw_Met l Z yX2_isWord (ws_ yX2_isWord cX2_isWord 3 (Option.some Jvm.ClassFile.FieldType.boolean)) rm_X2_isWord [zA a0, zA a1] h (zq_I Q) X := by
  refine zg_start (own := "MultipoleLineModel") (by decide +kernel) rfl (Nat.le_of_ble_eq_true rfl) hl (fun Xc ok tab fin hRm hXl hXZ => ?_)
  subst hXl
  subst hXZ
  unfold f_X2_isWord at hE
  refine zg_aload_n ok dX2_isWord_0 rfl 0 rfl ?_
  refine zg_iconst (v := 2) ok dX2_isWord_1 (by decide) ?_
  refine zg_callV (vs := [zI 2]) (rest := []) (rm := rm_X2_is) ok hRm lk_X2_100 dX2_isWord_2 hE (fun hE => mt_X2_is hl hE) rfl (Nat.le_of_ble_eq_true rfl) ⟨⟨Nat.le_of_ble_eq_true rfl, Nat.le_of_ble_eq_true rfl⟩, Nat.le_of_ble_eq_true rfl, Nat.le_of_ble_eq_true rfl⟩ (zg_retI (fun v1 h1 hE => ?_)) (zg_xok ok tab fin ⟨Nat.le_of_ble_eq_true rfl, Nat.le_of_ble_eq_true rfl⟩)
  refine zg_cost (kc2 := 0) (ks2 := 0) ⟨rfl, rfl⟩ ?_
  refine zg_if_eq (tgt := 24) ok dX2_isWord_5 (by decide) hE (fun hE => ?_) (fun hE => ?_)
  · refine zg_iconst (v := 0) ok dX2_isWord_24 (by decide) ?_
    exact zg_zret ok fin dX2_isWord_25 ⟨Nat.le_of_ble_eq_true rfl, Nat.le_of_ble_eq_true rfl⟩ rfl hE
  · refine zg_aload_n ok dX2_isWord_8 rfl 0 rfl ?_
    refine zg_getI ok lf_X2_81 dX2_isWord_9 hE (fun v2 hE => ?_)
    refine zg_aload_n ok dX2_isWord_12 rfl 0 rfl ?_
    refine zg_getI ok lf_X2_84 dX2_isWord_13 hE (fun v3 hE => ?_)
    refine zg_isub ok dX2_isWord_16 ?_
    refine zg_aload_n ok dX2_isWord_17 rfl 1 rfl ?_
    refine zg_callV (vs := []) (rest := [.int (v2 - v3)]) (rm := rm_J4_length) ok hRm lk_X2_103 dX2_isWord_18 hE (fun hE => mt_J4_length hl hE) rfl (Nat.le_of_ble_eq_true rfl) ⟨⟨Nat.le_of_ble_eq_true rfl, Nat.le_of_ble_eq_true rfl⟩, Nat.le_of_ble_eq_true rfl, Nat.le_of_ble_eq_true rfl⟩ (zg_retI (fun v4 h2 hE => ?_)) (zg_xok ok tab fin ⟨Nat.le_of_ble_eq_true rfl, Nat.le_of_ble_eq_true rfl⟩)
    refine zg_cost (kc2 := 0) (ks2 := 0) ⟨rfl, rfl⟩ ?_
    refine zg_icmp_eq (tgt := 26) ok dX2_isWord_21 (by decide) hE (fun hE => ?_) (fun hE => ?_)
    · refine zg_iconst (v := 0) ok dX2_isWord_26 (by decide) ?_
      refine zg_istore_nR (L' := [(2, .int 0), (0, va_rf a0), (1, va_rf a1)]) ok dX2_isWord_27 rfl (by decide) 1 rfl rfl rfl ?_
      refine zg_sub (L' := [(0, va_rf a0), (1, va_rf a1), (2, .int 0)]) [1, 2, 0] rfl ?_
      refine gt_f_X2_isWord_L28 hl ok tab fin hRm ⟨Nat.le_of_ble_eq_true rfl, Nat.le_of_ble_eq_true rfl⟩ ?_ ?_ _ _ _ hE
      · intro h5 hE
        refine zg_iconst (v := 0) ok dX2_isWord_55 (by decide) ?_
        exact zg_zret ok fin dX2_isWord_56 ⟨Nat.le_of_ble_eq_true rfl, Nat.le_of_ble_eq_true rfl⟩ rfl hE
      · intro h6 hE
        refine zg_iconst (v := 1) ok dX2_isWord_63 (by decide) ?_
        exact zg_zret ok fin dX2_isWord_64 ⟨Nat.le_of_ble_eq_true rfl, Nat.le_of_ble_eq_true rfl⟩ rfl hE
    · refine zg_iconst (v := 0) ok dX2_isWord_24 (by decide) ?_
      exact zg_zret ok fin dX2_isWord_25 ⟨Nat.le_of_ble_eq_true rfl, Nat.le_of_ble_eq_true rfl⟩ rfl hE
set_option maxHeartbeats 8000000 in
theorem mt_X2_faults {l : Launch} (hl : l.stackTraces = false) {Z : zw_Z} {a0 : Option Nat} {a1 : Int32} {h : zw_H} {Q : zw_H → Prop} {X : String → Nat → zw_H → Prop} (hE : f_X2_faults Z.2.2.2 a0 a1 h Q X) : zw_Met l Z yX2_faults (ws_ yX2_faults cX2_faults 2 (Option.none : Option Jvm.ClassFile.FieldType)) rm_X2_faults [zA a0, zI a1] h (zq_V Q) X := by
  refine zg_start (own := "MultipoleLineModel") (by decide +kernel) rfl (Nat.le_of_ble_eq_true rfl) hl (fun Xc ok tab fin hRm hXl hXZ => ?_)
  subst hXl
  subst hXZ
  unfold f_X2_faults at hE
  refine zg_aload_n ok dX2_faults_0 rfl 0 rfl ?_
  refine zg_getI ok lf_X2_71 dX2_faults_1 hE (fun v1 hE => ?_)
  refine zg_if_le (tgt := 8) ok dX2_faults_4 (by decide) hE (fun hE => ?_) (fun hE => ?_)
  · refine zg_aload_n ok dX2_faults_8 rfl 0 rfl ?_
    refine zg_iload_n ok dX2_faults_9 rfl 1 rfl ?_
    refine zg_put (ty := .int) ok lf_X2_71 (Or.inl rfl) (by decide) (by decide +kernel) rfl rfl dX2_faults_10 hE (fun h1 hE => ?_)
    refine zg_aload_n ok dX2_faults_13 rfl 0 rfl ?_
    refine zg_aload_n ok dX2_faults_14 rfl 0 rfl ?_
    refine zg_getI ok lf_X2_84 dX2_faults_15 hE (fun v2 hE => ?_)
    refine zg_put (ty := .int) ok lf_X2_30 (Or.inl rfl) (by decide) (by decide +kernel) rfl rfl dX2_faults_18 hE (fun h2 hE => ?_)
    exact zg_vret ok fin dX2_faults_21 ⟨Nat.le_of_ble_eq_true rfl, Nat.le_of_ble_eq_true rfl⟩ hE
  · exact zg_vret ok fin dX2_faults_7 ⟨Nat.le_of_ble_eq_true rfl, Nat.le_of_ble_eq_true rfl⟩ hE
set_option maxHeartbeats 8000000 in
theorem gt_f_X2_numberHere_J33 {Xc : zw_X} {Q : Int32 → zw_H → Prop} {X : String → Nat → zw_H → Prop} (hl : (zw_l Xc).stackTraces = false) (ok : zw_ok Xc cX2_numberHere "MultipoleLineModel" yX2_numberHere.name 3) (tab : zw_tab Xc []) (fin : zw_fin Xc (Option.some Jvm.ClassFile.FieldType.int) (zq_I Q) X 0 0) (hRm : zw_rm Xc = rm_X2_numberHere)  {l0 : Option Nat} {l1 : Int32}  {h : zw_H} (hE : f_X2_numberHere_J33 (zw_Zf Xc).2.2.2 Q X  l0 l1 h) : zw_G Xc 0 0 3 h 33 [(0, va_rf l0), (1, .int l1)] [] := by
  unfold f_X2_numberHere_J33 at hE
  refine zg_aload_n ok dX2_numberHere_33 rfl 0 rfl ?_
  refine zg_getI ok lf_X2_71 dX2_numberHere_34 hE (fun v4 hE => ?_)
  refine zg_if_le (tgt := 44) ok dX2_numberHere_37 (by decide) hE (fun hE => ?_) (fun hE => ?_)
  · refine zg_aload_n ok dX2_numberHere_44 rfl 0 rfl ?_
    refine zg_getI ok lf_X2_97 dX2_numberHere_45 hE (fun v5 hE => ?_)
    exact zg_iret ok fin dX2_numberHere_48 ⟨Nat.le_of_ble_eq_true rfl, Nat.le_of_ble_eq_true rfl⟩ hE
  · refine zg_iload_n ok dX2_numberHere_40 rfl 1 rfl ?_
    refine zg_goto (tgt := 48) ok dX2_numberHere_41 (by decide) ?_
    exact zg_iret ok fin dX2_numberHere_48 ⟨Nat.le_of_ble_eq_true rfl, Nat.le_of_ble_eq_true rfl⟩ hE
set_option maxHeartbeats 8000000 in
theorem mt_X2_numberHere {l : Launch} (hl : l.stackTraces = false) {Z : zw_Z} {a0 : Option Nat} {a1 : Int32} {a2 : Int32} {h : zw_H} {Q : Int32 → zw_H → Prop} {X : String → Nat → zw_H → Prop} (hE : f_X2_numberHere Z.2.2.2 a0 a1 a2 h Q X) : zw_Met l Z yX2_numberHere (ws_ yX2_numberHere cX2_numberHere 3 (Option.some Jvm.ClassFile.FieldType.int)) rm_X2_numberHere [zA a0, zI a1, zI a2] h (zq_I Q) X := by
  refine zg_start (own := "MultipoleLineModel") (by decide +kernel) rfl (Nat.le_of_ble_eq_true rfl) hl (fun Xc ok tab fin hRm hXl hXZ => ?_)
  subst hXl
  subst hXZ
  unfold f_X2_numberHere at hE
  refine zg_aload_n ok dX2_numberHere_0 rfl 0 rfl ?_
  refine zg_iconst (v := 3) ok dX2_numberHere_1 (by decide) ?_
  refine zg_callV (vs := [zI 3]) (rest := []) (rm := rm_X2_is) ok hRm lk_X2_100 dX2_numberHere_2 hE (fun hE => mt_X2_is hl hE) rfl (Nat.le_of_ble_eq_true rfl) ⟨⟨Nat.le_of_ble_eq_true rfl, Nat.le_of_ble_eq_true rfl⟩, Nat.le_of_ble_eq_true rfl, Nat.le_of_ble_eq_true rfl⟩ (zg_retI (fun v1 h1 hE => ?_)) (zg_xok ok tab fin ⟨Nat.le_of_ble_eq_true rfl, Nat.le_of_ble_eq_true rfl⟩)
  refine zg_cost (kc2 := 0) (ks2 := 0) ⟨rfl, rfl⟩ ?_
  refine zg_if_ne (tgt := 16) ok dX2_numberHere_5 (by decide) hE (fun hE => ?_) (fun hE => ?_)
  · refine zg_aload_n ok dX2_numberHere_16 rfl 0 rfl ?_
    refine zg_getI ok lf_X2_97 dX2_numberHere_17 hE (fun v2 hE => ?_)
    refine zg_iload_n ok dX2_numberHere_20 rfl 1 rfl ?_
    refine zg_iload_n ok dX2_numberHere_21 rfl 2 rfl ?_
    refine zg_callS (vs := [zI v2, zI a1, zI a2]) (rest := []) (rm := rm_X2_in) ok hRm lk_X2_77 dX2_numberHere_22 hE (fun hE => mt_X2_in hl hE) rfl (Nat.le_of_ble_eq_true rfl) ⟨⟨Nat.le_of_ble_eq_true rfl, Nat.le_of_ble_eq_true rfl⟩, Nat.le_of_ble_eq_true rfl, Nat.le_of_ble_eq_true rfl⟩ (zg_retI (fun v3 h2 hE => ?_)) (zg_xok ok tab fin ⟨Nat.le_of_ble_eq_true rfl, Nat.le_of_ble_eq_true rfl⟩)
    refine zg_cost (kc2 := 0) (ks2 := 0) ⟨rfl, rfl⟩ ?_
    refine zg_if_ne (tgt := 33) ok dX2_numberHere_25 (by decide) hE (fun hE => ?_) (fun hE => ?_)
    · refine zg_sub (L' := [(0, va_rf a0), (1, .int a1)]) [0, 1] rfl ?_
      exact gt_f_X2_numberHere_J33 hl ok tab fin hRm  hE
    · refine zg_aload_n ok dX2_numberHere_28 rfl 0 rfl ?_
      refine zg_iconst (v := 2) ok dX2_numberHere_29 (by decide) ?_
      refine zg_callV (vs := [zI 2]) (rest := []) (rm := rm_X2_faults) ok hRm lk_X2_113 dX2_numberHere_30 hE (fun hE => mt_X2_faults hl hE) rfl (Nat.le_of_ble_eq_true rfl) ⟨⟨Nat.le_of_ble_eq_true rfl, Nat.le_of_ble_eq_true rfl⟩, Nat.le_of_ble_eq_true rfl, Nat.le_of_ble_eq_true rfl⟩ (zg_retV (fun h3 hE => ?_)) (zg_xok ok tab fin ⟨Nat.le_of_ble_eq_true rfl, Nat.le_of_ble_eq_true rfl⟩)
      refine zg_cost (kc2 := 0) (ks2 := 0) ⟨rfl, rfl⟩ ?_
      refine zg_sub (L' := [(0, va_rf a0), (1, .int a1)]) [0, 1] rfl ?_
      exact gt_f_X2_numberHere_J33 hl ok tab fin hRm  hE
  · refine zg_aload_n ok dX2_numberHere_8 rfl 0 rfl ?_
    refine zg_iconst (v := 1) ok dX2_numberHere_9 (by decide) ?_
    refine zg_callV (vs := [zI 1]) (rest := []) (rm := rm_X2_faults) ok hRm lk_X2_113 dX2_numberHere_10 hE (fun hE => mt_X2_faults hl hE) rfl (Nat.le_of_ble_eq_true rfl) ⟨⟨Nat.le_of_ble_eq_true rfl, Nat.le_of_ble_eq_true rfl⟩, Nat.le_of_ble_eq_true rfl, Nat.le_of_ble_eq_true rfl⟩ (zg_retV (fun h4 hE => ?_)) (zg_xok ok tab fin ⟨Nat.le_of_ble_eq_true rfl, Nat.le_of_ble_eq_true rfl⟩)
    refine zg_cost (kc2 := 0) (ks2 := 0) ⟨rfl, rfl⟩ ?_
    refine zg_goto (tgt := 33) ok dX2_numberHere_13 (by decide) ?_
    refine zg_sub (L' := [(0, va_rf a0), (1, .int a1)]) [0, 1] rfl ?_
    exact gt_f_X2_numberHere_J33 hl ok tab fin hRm  hE
set_option maxHeartbeats 8000000 in
theorem mt_X2_number {l : Launch} (hl : l.stackTraces = false) {Z : zw_Z} {a0 : Option Nat} {a1 : Int32} {a2 : Int32} {h : zw_H} {Q : Int32 → zw_H → Prop} {X : String → Nat → zw_H → Prop} (hE : f_X2_number Z.2.2.2 a0 a1 a2 h Q X) : zw_Met l Z yX2_number (ws_ yX2_number cX2_number 4 (Option.some Jvm.ClassFile.FieldType.int)) rm_X2_number [zA a0, zI a1, zI a2] h (zq_I Q) X := by
  refine zg_start (own := "MultipoleLineModel") (by decide +kernel) rfl (Nat.le_of_ble_eq_true rfl) hl (fun Xc ok tab fin hRm hXl hXZ => ?_)
  subst hXl
  subst hXZ
  unfold f_X2_number at hE
  refine zg_aload_n ok dX2_number_0 rfl 0 rfl ?_
  refine zg_iload_n ok dX2_number_1 rfl 1 rfl ?_
  refine zg_iload_n ok dX2_number_2 rfl 2 rfl ?_
  refine zg_callV (vs := [zI a1, zI a2]) (rest := []) (rm := rm_X2_numberHere) ok hRm lk_X2_116 dX2_number_3 hE (fun hE => mt_X2_numberHere hl hE) rfl (Nat.le_of_ble_eq_true rfl) ⟨⟨Nat.le_of_ble_eq_true rfl, Nat.le_of_ble_eq_true rfl⟩, Nat.le_of_ble_eq_true rfl, Nat.le_of_ble_eq_true rfl⟩ (zg_retI (fun v1 h1 hE => ?_)) (zg_xok ok tab fin ⟨Nat.le_of_ble_eq_true rfl, Nat.le_of_ble_eq_true rfl⟩)
  refine zg_cost (kc2 := 0) (ks2 := 0) ⟨rfl, rfl⟩ ?_
  refine zg_istore_n (L' := [(3, .int v1), (0, va_rf a0), (1, .int a1), (2, .int a2)]) ok dX2_number_6 rfl (by decide) rfl ?_
  refine zg_aload_n ok dX2_number_7 rfl 1 rfl ?_
  refine zg_callV (vs := []) (rest := []) (rm := rm_X2_next) ok hRm lk_X2_120 dX2_number_8 hE (fun hE => mt_X2_next hl hE) rfl (Nat.le_of_ble_eq_true rfl) ⟨⟨Nat.le_of_ble_eq_true rfl, Nat.le_of_ble_eq_true rfl⟩, Nat.le_of_ble_eq_true rfl, Nat.le_of_ble_eq_true rfl⟩ (zg_retV (fun h2 hE => ?_)) (zg_xok ok tab fin ⟨Nat.le_of_ble_eq_true rfl, Nat.le_of_ble_eq_true rfl⟩)
  refine zg_cost (kc2 := 0) (ks2 := 0) ⟨rfl, rfl⟩ ?_
  refine zg_iload_n ok dX2_number_11 rfl 0 rfl ?_
  exact zg_iret ok fin dX2_number_12 ⟨Nat.le_of_ble_eq_true rfl, Nat.le_of_ble_eq_true rfl⟩ hE
set_option maxHeartbeats 8000000 in
theorem mt_X2_of {l : Launch} (hl : l.stackTraces = false) {Z : zw_Z} {a0 : Option Nat} {a1 : Int32} {a2 : Int32} {h : zw_H} {Q : Int32 → zw_H → Prop} {X : String → Nat → zw_H → Prop} (hE : f_X2_of Z.2.2.2 a0 a1 a2 h Q X) : zw_Met l Z yX2_of (ws_ yX2_of cX2_of 3 (Option.some Jvm.ClassFile.FieldType.int)) rm_X2_of [zA a0, zI a1, zI a2] h (zq_I Q) X := by
  refine zg_start (own := "MultipoleLineModel") (by decide +kernel) rfl (Nat.le_of_ble_eq_true rfl) hl (fun Xc ok tab fin hRm hXl hXZ => ?_)
  subst hXl
  subst hXZ
  unfold f_X2_of at hE
  refine zg_aload_n ok dX2_of_0 rfl 0 rfl ?_
  refine zg_getA ok lf_X2_9 dX2_of_1 hE (fun v1 hE => ?_)
  refine zg_bipush (v := 7) ok dX2_of_4 (by decide) ?_
  refine zg_iconst (v := 4) ok dX2_of_6 (by decide) ?_
  refine zg_iload_n ok dX2_of_7 rfl 1 rfl ?_
  refine zg_imul ok dX2_of_8 ?_
  refine zg_iadd ok dX2_of_9 ?_
  refine zg_iload_n ok dX2_of_10 rfl 2 rfl ?_
  refine zg_iadd ok dX2_of_11 ?_
  refine zg_iald ok dX2_of_12 hE (fun v2 hE => ?_)
  exact zg_iret ok fin dX2_of_13 ⟨Nat.le_of_ble_eq_true rfl, Nat.le_of_ble_eq_true rfl⟩ hE
set_option maxHeartbeats 8000000 in
theorem gt_f_X2_isFixedAt_J34 {Xc : zw_X} {Q : Int32 → zw_H → Prop} {X : String → Nat → zw_H → Prop} (hl : (zw_l Xc).stackTraces = false) (ok : zw_ok Xc cX2_isFixedAt "MultipoleLineModel" yX2_isFixedAt.name 3) (tab : zw_tab Xc []) (fin : zw_fin Xc (Option.some Jvm.ClassFile.FieldType.boolean) (zq_I Q) X 0 0) (hRm : zw_rm Xc = rm_X2_isFixedAt) {kc ks : Nat} (hb : kc ≤ 0 ∧ ks ≤ 0) {R : Int32 → zw_H → Prop} {l0 : Option Nat} {l1 : Int32} (hR : ∀ (l2 : Int32) (h : zw_H), R l2 h → zw_G Xc kc ks 3 h 2 [(0, va_rf l0), (1, .int l1), (2, .int l2)] []) {k32 : zw_H → Prop} (hk32 : ∀  (h : zw_H), k32  h → zw_G Xc kc ks 3 h 32 [] []) {k40 : zw_H → Prop} (hk40 : ∀  (h : zw_H), k40  h → zw_G Xc kc ks 3 h 40 [] [])  {l2 : Int32}  {h : zw_H} (hE : f_X2_isFixedAt_J34 (zw_Zf Xc).2.2.2 Q X R k32 k40 l0 l1 l2 h) : zw_G Xc kc ks 3 h 34 [(0, va_rf l0), (1, .int l1), (2, .int l2)] [] := by
  unfold f_X2_isFixedAt_J34 at hE
  refine zg_iincL (k := 2) (L' := fun v4 => [(2, .int v4), (0, va_rf l0), (1, .int l1)]) ok dX2_isFixedAt_34 (by decide +kernel) hE rfl (by decide) (fun _ => rfl) (fun v4 hE => ?_)
  refine zg_goto (tgt := 2) ok dX2_isFixedAt_37 (by decide) ?_
  refine zg_sub (L' := [(0, va_rf l0), (1, .int l1), (2, .int v4)]) [1, 2, 0] rfl ?_
  exact hR _ _ hE
set_option maxHeartbeats 8000000 in
theorem gt_f_X2_isFixedAt_B2 {Xc : zw_X} {Q : Int32 → zw_H → Prop} {X : String → Nat → zw_H → Prop} (hl : (zw_l Xc).stackTraces = false) (ok : zw_ok Xc cX2_isFixedAt "MultipoleLineModel" yX2_isFixedAt.name 3) (tab : zw_tab Xc []) (fin : zw_fin Xc (Option.some Jvm.ClassFile.FieldType.boolean) (zq_I Q) X 0 0) (hRm : zw_rm Xc = rm_X2_isFixedAt) {kc ks : Nat} (hb : kc ≤ 0 ∧ ks ≤ 0) {R : Int32 → zw_H → Prop} {l0 : Option Nat} {l1 : Int32} (hR : ∀ (l2 : Int32) (h : zw_H), R l2 h → zw_G Xc kc ks 3 h 2 [(0, va_rf l0), (1, .int l1), (2, .int l2)] []) {k32 : zw_H → Prop} (hk32 : ∀  (h : zw_H), k32  h → zw_G Xc kc ks 3 h 32 [] []) {k40 : zw_H → Prop} (hk40 : ∀  (h : zw_H), k40  h → zw_G Xc kc ks 3 h 40 [] [])  {l2 : Int32} {h : zw_H} (hE : f_X2_isFixedAt_B2 (zw_Zf Xc).2.2.2 Q X k32 k40 l0 l1 R l2 h) : zw_G Xc kc ks 3 h 2 [(0, va_rf l0), (1, .int l1), (2, .int l2)] [] := by
  unfold f_X2_isFixedAt_B2 at hE
  refine zg_iload_n ok dX2_isFixedAt_2 rfl 2 rfl ?_
  refine zg_aload_n ok dX2_isFixedAt_3 rfl 0 rfl ?_
  refine zg_getA ok lf_X2_9 dX2_isFixedAt_4 hE (fun v1 hE => ?_)
  refine zg_iconst (v := 0) ok dX2_isFixedAt_7 (by decide) ?_
  refine zg_iald ok dX2_isFixedAt_8 hE (fun v2 hE => ?_)
  refine zg_icmp_ge (tgt := 40) ok dX2_isFixedAt_9 (by decide) hE (fun hE => ?_) (fun hE => ?_)
  · refine zg_sub (L' := []) [] rfl ?_
    exact hk40 _ hE
  · refine zg_aload_n ok dX2_isFixedAt_12 rfl 0 rfl ?_
    refine zg_iload_n ok dX2_isFixedAt_13 rfl 2 rfl ?_
    refine zg_iconst (v := 2) ok dX2_isFixedAt_14 (by decide) ?_
    refine zg_callV (vs := [zI l2, zI 2]) (rest := []) (rm := rm_X2_of) ok hRm lk_X2_163 dX2_isFixedAt_15 hE (fun hE => mt_X2_of hl hE) rfl (Nat.le_of_ble_eq_true rfl) ⟨⟨Nat.le_of_ble_eq_true rfl, Nat.le_of_ble_eq_true rfl⟩, (by show kc + 0 ≤ 0; omega), (by show ks + 0 ≤ 0; omega)⟩ (zg_retI (fun v3 h1 hE => ?_)) (zg_xok ok tab fin ⟨(by show kc + 0 ≤ 0; omega), (by show ks + 0 ≤ 0; omega)⟩)
    refine zg_cost (kc2 := kc) (ks2 := ks) ⟨(by show kc + 0 = kc; omega), (by show ks + 0 = ks; omega)⟩ ?_
    refine zg_iconst (v := 1) ok dX2_isFixedAt_18 (by decide) ?_
    refine zg_icmp_ne (tgt := 34) ok dX2_isFixedAt_19 (by decide) hE (fun hE => ?_) (fun hE => ?_)
    · exact gt_f_X2_isFixedAt_J34 hl ok tab fin hRm hb hR hk32 hk40 hE
    · refine zg_aload_n ok dX2_isFixedAt_22 rfl 0 rfl ?_
      refine zg_iload_n ok dX2_isFixedAt_23 rfl 2 rfl ?_
      refine zg_iconst (v := 0) ok dX2_isFixedAt_24 (by decide) ?_
      refine zg_callV (vs := [zI l2, zI 0]) (rest := []) (rm := rm_X2_of) ok hRm lk_X2_163 dX2_isFixedAt_25 hE (fun hE => mt_X2_of hl hE) rfl (Nat.le_of_ble_eq_true rfl) ⟨⟨Nat.le_of_ble_eq_true rfl, Nat.le_of_ble_eq_true rfl⟩, (by show kc + 0 ≤ 0; omega), (by show ks + 0 ≤ 0; omega)⟩ (zg_retI (fun v5 h2 hE => ?_)) (zg_xok ok tab fin ⟨(by show kc + 0 ≤ 0; omega), (by show ks + 0 ≤ 0; omega)⟩)
      refine zg_cost (kc2 := kc) (ks2 := ks) ⟨(by show kc + 0 = kc; omega), (by show ks + 0 = ks; omega)⟩ ?_
      refine zg_iload_n ok dX2_isFixedAt_28 rfl 1 rfl ?_
      refine zg_icmp_ne (tgt := 34) ok dX2_isFixedAt_29 (by decide) hE (fun hE => ?_) (fun hE => ?_)
      · exact gt_f_X2_isFixedAt_J34 hl ok tab fin hRm hb hR hk32 hk40 hE
      · refine zg_sub (L' := []) [] rfl ?_
        exact hk32 _ hE
theorem gt_f_X2_isFixedAt_L2 {Xc : zw_X} {Q : Int32 → zw_H → Prop} {X : String → Nat → zw_H → Prop} (hl : (zw_l Xc).stackTraces = false) (ok : zw_ok Xc cX2_isFixedAt "MultipoleLineModel" yX2_isFixedAt.name 3) (tab : zw_tab Xc []) (fin : zw_fin Xc (Option.some Jvm.ClassFile.FieldType.boolean) (zq_I Q) X 0 0) (hRm : zw_rm Xc = rm_X2_isFixedAt) {kc ks : Nat} (hb : kc ≤ 0 ∧ ks ≤ 0) {l0 : Option Nat} {l1 : Int32} {k32 : zw_H → Prop} (hk32 : ∀  (h : zw_H), k32  h → zw_G Xc kc ks 3 h 32 [] []) {k40 : zw_H → Prop} (hk40 : ∀  (h : zw_H), k40  h → zw_G Xc kc ks 3 h 40 [] [])  : ∀ (n9 : Nat) (l2 : Int32) (h : zw_H), zl2 (f_X2_isFixedAt_B2 (zw_Zf Xc).2.2.2 Q X k32 k40 l0 l1) n9 l2 h → zw_G Xc kc ks 3 h 2 [(0, va_rf l0), (1, .int l1), (2, .int l2)] [] := by
  intro n9
  induction n9 with
  | zero => intro l2 h hE; exact hE.elim
  | succ n9 ih => intro l2 h hE; exact gt_f_X2_isFixedAt_B2 hl ok tab fin hRm hb ih hk32 hk40 hE
set_option maxHeartbeats 8000000 in
theorem mt_X2_isFixedAt {l : Launch} (hl : l.stackTraces = false) {Z : zw_Z} {a0 : Option Nat} {a1 : Int32} {h : zw_H} {Q : Int32 → zw_H → Prop} {X : String → Nat → zw_H → Prop} (hE : f_X2_isFixedAt Z.2.2.2 a0 a1 h Q X) : zw_Met l Z yX2_isFixedAt (ws_ yX2_isFixedAt cX2_isFixedAt 3 (Option.some Jvm.ClassFile.FieldType.boolean)) rm_X2_isFixedAt [zA a0, zI a1] h (zq_I Q) X := by
  refine zg_start (own := "MultipoleLineModel") (by decide +kernel) rfl (Nat.le_of_ble_eq_true rfl) hl (fun Xc ok tab fin hRm hXl hXZ => ?_)
  subst hXl
  subst hXZ
  unfold f_X2_isFixedAt at hE
  refine zg_iconst (v := 0) ok dX2_isFixedAt_0 (by decide) ?_
  refine zg_istore_n (L' := [(2, .int 0), (0, va_rf a0), (1, .int a1)]) ok dX2_isFixedAt_1 rfl (by decide) rfl ?_
  refine zg_sub (L' := [(0, va_rf a0), (1, .int a1), (2, .int 0)]) [1, 2, 0] rfl ?_
  refine gt_f_X2_isFixedAt_L2 hl ok tab fin hRm ⟨Nat.le_of_ble_eq_true rfl, Nat.le_of_ble_eq_true rfl⟩ ?_ ?_ _ _ _ hE
  · intro h3 hE
    refine zg_iconst (v := 1) ok dX2_isFixedAt_32 (by decide) ?_
    exact zg_zret ok fin dX2_isFixedAt_33 ⟨Nat.le_of_ble_eq_true rfl, Nat.le_of_ble_eq_true rfl⟩ rfl hE
  · intro h4 hE
    refine zg_iconst (v := 0) ok dX2_isFixedAt_40 (by decide) ?_
    exact zg_zret ok fin dX2_isFixedAt_41 ⟨Nat.le_of_ble_eq_true rfl, Nat.le_of_ble_eq_true rfl⟩ rfl hE
set_option maxHeartbeats 8000000 in
theorem mt_X2_puts {l : Launch} (hl : l.stackTraces = false) {Z : zw_Z} {a0 : Option Nat} {a1 : Int32} {a2 : Int32} {a3 : Int32} {h : zw_H} {Q : zw_H → Prop} {X : String → Nat → zw_H → Prop} (hE : f_X2_puts Z.2.2.2 a0 a1 a2 a3 h Q X) : zw_Met l Z yX2_puts (ws_ yX2_puts cX2_puts 4 (Option.none : Option Jvm.ClassFile.FieldType)) rm_X2_puts [zA a0, zI a1, zI a2, zI a3] h (zq_V Q) X := by
  refine zg_start (own := "MultipoleLineModel") (by decide +kernel) rfl (Nat.le_of_ble_eq_true rfl) hl (fun Xc ok tab fin hRm hXl hXZ => ?_)
  subst hXl
  subst hXZ
  unfold f_X2_puts at hE
  refine zg_aload_n ok dX2_puts_0 rfl 0 rfl ?_
  refine zg_getA ok lf_X2_9 dX2_puts_1 hE (fun v1 hE => ?_)
  refine zg_bipush (v := 7) ok dX2_puts_4 (by decide) ?_
  refine zg_iconst (v := 4) ok dX2_puts_6 (by decide) ?_
  refine zg_iload_n ok dX2_puts_7 rfl 1 rfl ?_
  refine zg_imul ok dX2_puts_8 ?_
  refine zg_iadd ok dX2_puts_9 ?_
  refine zg_iload_n ok dX2_puts_10 rfl 2 rfl ?_
  refine zg_iadd ok dX2_puts_11 ?_
  refine zg_iload_n ok dX2_puts_12 rfl 3 rfl ?_
  refine zg_iast ok dX2_puts_13 hE (fun h1 hE => ?_)
  exact zg_vret ok fin dX2_puts_14 ⟨Nat.le_of_ble_eq_true rfl, Nat.le_of_ble_eq_true rfl⟩ hE
set_option maxHeartbeats 8000000 in
theorem mt_X2_one {l : Launch} (hl : l.stackTraces = false) {Z : zw_Z} {a0 : Int32} {h : zw_H} {Q : Int32 → zw_H → Prop} {X : String → Nat → zw_H → Prop} (hE : f_X2_one Z.2.2.2 a0 h Q X) : zw_Met l Z yX2_one (ws_ yX2_one cX2_one 1 (Option.some Jvm.ClassFile.FieldType.int)) rm_X2_one [zI a0] h (zq_I Q) X := by
  refine zg_start (own := "MultipoleLineModel") (by decide +kernel) rfl (Nat.le_of_ble_eq_true rfl) hl (fun Xc ok tab fin hRm hXl hXZ => ?_)
  subst hXl
  subst hXZ
  unfold f_X2_one at hE
  refine zg_iload_n ok dX2_one_0 rfl 0 rfl ?_
  refine zg_if_eq (tgt := 8) ok dX2_one_1 (by decide) hE (fun hE => ?_) (fun hE => ?_)
  · refine zg_iconst (v := 0) ok dX2_one_8 (by decide) ?_
    exact zg_iret ok fin dX2_one_9 ⟨Nat.le_of_ble_eq_true rfl, Nat.le_of_ble_eq_true rfl⟩ hE
  · refine zg_iconst (v := 1) ok dX2_one_4 (by decide) ?_
    refine zg_goto (tgt := 9) ok dX2_one_5 (by decide) ?_
    exact zg_iret ok fin dX2_one_9 ⟨Nat.le_of_ble_eq_true rfl, Nat.le_of_ble_eq_true rfl⟩ hE
set_option maxHeartbeats 8000000 in
theorem mt_X2_addsBody {l : Launch} (hl : l.stackTraces = false) {Z : zw_Z} {a0 : Option Nat} {a1 : Int32} {a2 : Int32} {a3 : Int32} {h : zw_H} {Q : zw_H → Prop} {X : String → Nat → zw_H → Prop} (hE : f_X2_addsBody Z.2.2.2 a0 a1 a2 a3 h Q X) : zw_Met l Z yX2_addsBody (ws_ yX2_addsBody cX2_addsBody 5 (Option.none : Option Jvm.ClassFile.FieldType)) rm_X2_addsBody [zA a0, zI a1, zI a2, zI a3] h (zq_V Q) X := by
  refine zg_start (own := "MultipoleLineModel") (by decide +kernel) rfl (Nat.le_of_ble_eq_true rfl) hl (fun Xc ok tab fin hRm hXl hXZ => ?_)
  subst hXl
  subst hXZ
  unfold f_X2_addsBody at hE
  refine zg_aload_n ok dX2_addsBody_0 rfl 0 rfl ?_
  refine zg_getA ok lf_X2_9 dX2_addsBody_1 hE (fun v1 hE => ?_)
  refine zg_iconst (v := 0) ok dX2_addsBody_4 (by decide) ?_
  refine zg_iald ok dX2_addsBody_5 hE (fun v2 hE => ?_)
  refine zg_istore (L' := [(4, .int v2), (0, va_rf a0), (1, .int a1), (2, .int a2), (3, .int a3)]) ok dX2_addsBody_6 (by decide) rfl ?_
  refine zg_aload_n ok dX2_addsBody_8 rfl 1 rfl ?_
  refine zg_getA ok lf_X2_9 dX2_addsBody_9 hE (fun v3 hE => ?_)
  refine zg_iconst (v := 0) ok dX2_addsBody_12 (by decide) ?_
  refine zg_dup2_11 ok dX2_addsBody_13 rfl (zw_rfc _) ?_
  refine zg_iald ok dX2_addsBody_14 hE (fun v4 hE => ?_)
  refine zg_iconst (v := 1) ok dX2_addsBody_15 (by decide) ?_
  refine zg_iadd ok dX2_addsBody_16 ?_
  refine zg_iast ok dX2_addsBody_17 hE (fun h1 hE => ?_)
  refine zg_aload_n ok dX2_addsBody_18 rfl 1 rfl ?_
  refine zg_iload ok dX2_addsBody_19 0 rfl ?_
  refine zg_iconst (v := 0) ok dX2_addsBody_21 (by decide) ?_
  refine zg_iload_n ok dX2_addsBody_22 rfl 3 rfl ?_
  refine zg_callV (vs := [zI v2, zI 0, zI a2]) (rest := []) (rm := rm_X2_puts) ok hRm lk_X2_166 dX2_addsBody_23 hE (fun hE => mt_X2_puts hl hE) rfl (Nat.le_of_ble_eq_true rfl) ⟨⟨Nat.le_of_ble_eq_true rfl, Nat.le_of_ble_eq_true rfl⟩, Nat.le_of_ble_eq_true rfl, Nat.le_of_ble_eq_true rfl⟩ (zg_retV (fun h2 hE => ?_)) (zg_xok ok tab fin ⟨Nat.le_of_ble_eq_true rfl, Nat.le_of_ble_eq_true rfl⟩)
  refine zg_cost (kc2 := 0) (ks2 := 0) ⟨rfl, rfl⟩ ?_
  refine zg_aload_n ok dX2_addsBody_26 rfl 1 rfl ?_
  refine zg_iload ok dX2_addsBody_27 0 rfl ?_
  refine zg_iconst (v := 1) ok dX2_addsBody_29 (by decide) ?_
  refine zg_iload_n ok dX2_addsBody_30 rfl 4 rfl ?_
  refine zg_callV (vs := [zI v2, zI 1, zI a3]) (rest := []) (rm := rm_X2_puts) ok hRm lk_X2_166 dX2_addsBody_31 hE (fun hE => mt_X2_puts hl hE) rfl (Nat.le_of_ble_eq_true rfl) ⟨⟨Nat.le_of_ble_eq_true rfl, Nat.le_of_ble_eq_true rfl⟩, Nat.le_of_ble_eq_true rfl, Nat.le_of_ble_eq_true rfl⟩ (zg_retV (fun h3 hE => ?_)) (zg_xok ok tab fin ⟨Nat.le_of_ble_eq_true rfl, Nat.le_of_ble_eq_true rfl⟩)
  refine zg_cost (kc2 := 0) (ks2 := 0) ⟨rfl, rfl⟩ ?_
  refine zg_aload_n ok dX2_addsBody_34 rfl 1 rfl ?_
  refine zg_iload ok dX2_addsBody_35 0 rfl ?_
  refine zg_iconst (v := 2) ok dX2_addsBody_37 (by decide) ?_
  refine zg_iload_n ok dX2_addsBody_38 rfl 2 rfl ?_
  refine zg_callS (vs := [zI a1]) (rest := [.int 2, .int v2, va_rf a0]) (rm := rm_X2_one) ok hRm lk_X2_170 dX2_addsBody_39 hE (fun hE => mt_X2_one hl hE) rfl (Nat.le_of_ble_eq_true rfl) ⟨⟨Nat.le_of_ble_eq_true rfl, Nat.le_of_ble_eq_true rfl⟩, Nat.le_of_ble_eq_true rfl, Nat.le_of_ble_eq_true rfl⟩ (zg_retI (fun v5 h4 hE => ?_)) (zg_xok ok tab fin ⟨Nat.le_of_ble_eq_true rfl, Nat.le_of_ble_eq_true rfl⟩)
  refine zg_cost (kc2 := 0) (ks2 := 0) ⟨rfl, rfl⟩ ?_
  refine zg_callV (vs := [zI v2, zI 2, zI v5]) (rest := []) (rm := rm_X2_puts) ok hRm lk_X2_166 dX2_addsBody_42 hE (fun hE => mt_X2_puts hl hE) rfl (Nat.le_of_ble_eq_true rfl) ⟨⟨Nat.le_of_ble_eq_true rfl, Nat.le_of_ble_eq_true rfl⟩, Nat.le_of_ble_eq_true rfl, Nat.le_of_ble_eq_true rfl⟩ (zg_retV (fun h5 hE => ?_)) (zg_xok ok tab fin ⟨Nat.le_of_ble_eq_true rfl, Nat.le_of_ble_eq_true rfl⟩)
  refine zg_cost (kc2 := 0) (ks2 := 0) ⟨rfl, rfl⟩ ?_
  refine zg_aload_n ok dX2_addsBody_45 rfl 1 rfl ?_
  refine zg_iload ok dX2_addsBody_46 0 rfl ?_
  refine zg_iconst (v := 3) ok dX2_addsBody_48 (by decide) ?_
  refine zg_iconst (v := 0) ok dX2_addsBody_49 (by decide) ?_
  refine zg_callV (vs := [zI v2, zI 3, zI 0]) (rest := []) (rm := rm_X2_puts) ok hRm lk_X2_166 dX2_addsBody_50 hE (fun hE => mt_X2_puts hl hE) rfl (Nat.le_of_ble_eq_true rfl) ⟨⟨Nat.le_of_ble_eq_true rfl, Nat.le_of_ble_eq_true rfl⟩, Nat.le_of_ble_eq_true rfl, Nat.le_of_ble_eq_true rfl⟩ (zg_retV (fun h6 hE => ?_)) (zg_xok ok tab fin ⟨Nat.le_of_ble_eq_true rfl, Nat.le_of_ble_eq_true rfl⟩)
  refine zg_cost (kc2 := 0) (ks2 := 0) ⟨rfl, rfl⟩ ?_
  exact zg_vret ok fin dX2_addsBody_53 ⟨Nat.le_of_ble_eq_true rfl, Nat.le_of_ble_eq_true rfl⟩ hE
set_option maxHeartbeats 8000000 in
theorem gt_f_X2_readsBody_J103 {Xc : zw_X} {Q : zw_H → Prop} {X : String → Nat → zw_H → Prop} (hl : (zw_l Xc).stackTraces = false) (ok : zw_ok Xc cX2_readsBody "MultipoleLineModel" yX2_readsBody.name 5) (tab : zw_tab Xc []) (fin : zw_fin Xc (Option.none : Option Jvm.ClassFile.FieldType) (zq_V Q) X 0 0) (hRm : zw_rm Xc = rm_X2_readsBody)   {s0 : Int32} {s1 : Int32} {s2 : Int32} {s3 : Option Nat} {h : zw_H} (hE : f_X2_readsBody_J103 (zw_Zf Xc).2.2.2 Q X  s0 s1 s2 s3 h) : zw_G Xc 0 0 5 h 103 [] [.int s0, .int s1, .int s2, va_rf s3] := by
  unfold f_X2_readsBody_J103 at hE
  refine zg_callV (vs := [zI s2, zI s1, zI s0]) (rest := []) (rm := rm_X2_addsBody) ok hRm lk_X2_135 dX2_readsBody_103 hE (fun hE => mt_X2_addsBody hl hE) rfl (Nat.le_of_ble_eq_true rfl) ⟨⟨Nat.le_of_ble_eq_true rfl, Nat.le_of_ble_eq_true rfl⟩, Nat.le_of_ble_eq_true rfl, Nat.le_of_ble_eq_true rfl⟩ (zg_retV (fun h6 hE => ?_)) (zg_xok ok tab fin ⟨Nat.le_of_ble_eq_true rfl, Nat.le_of_ble_eq_true rfl⟩)
  refine zg_cost (kc2 := 0) (ks2 := 0) ⟨rfl, rfl⟩ ?_
  exact zg_vret ok fin dX2_readsBody_106 ⟨Nat.le_of_ble_eq_true rfl, Nat.le_of_ble_eq_true rfl⟩ hE
set_option maxHeartbeats 8000000 in
theorem gt_f_X2_readsBody_J72 {Xc : zw_X} {Q : zw_H → Prop} {X : String → Nat → zw_H → Prop} (hl : (zw_l Xc).stackTraces = false) (ok : zw_ok Xc cX2_readsBody "MultipoleLineModel" yX2_readsBody.name 5) (tab : zw_tab Xc []) (fin : zw_fin Xc (Option.none : Option Jvm.ClassFile.FieldType) (zq_V Q) X 0 0) (hRm : zw_rm Xc = rm_X2_readsBody)  {l0 : Option Nat} {l1 : Int32} {l2 : Int32} {l3 : Int32}  {h : zw_H} (hE : f_X2_readsBody_J72 (zw_Zf Xc).2.2.2 Q X  l0 l1 l2 l3 h) : zw_G Xc 0 0 5 h 72 [(0, va_rf l0), (1, .int l1), (2, .int l2), (3, .int l3)] [] := by
  unfold f_X2_readsBody_J72 at hE
  refine zg_aload_n ok dX2_readsBody_72 rfl 0 rfl ?_
  refine zg_iconst (v := 1) ok dX2_readsBody_73 (by decide) ?_
  refine zg_bipush (v := 99) ok dX2_readsBody_74 (by decide) ?_
  refine zg_callV (vs := [zI 1, zI 99]) (rest := []) (rm := rm_X2_number) ok hRm lk_X2_132 dX2_readsBody_76 hE (fun hE => mt_X2_number hl hE) rfl (Nat.le_of_ble_eq_true rfl) ⟨⟨Nat.le_of_ble_eq_true rfl, Nat.le_of_ble_eq_true rfl⟩, Nat.le_of_ble_eq_true rfl, Nat.le_of_ble_eq_true rfl⟩ (zg_retI (fun v6 h5 hE => ?_)) (zg_xok ok tab fin ⟨Nat.le_of_ble_eq_true rfl, Nat.le_of_ble_eq_true rfl⟩)
  refine zg_cost (kc2 := 0) (ks2 := 0) ⟨rfl, rfl⟩ ?_
  refine zg_istore (L' := [(4, .int v6), (0, va_rf l0), (1, .int l1), (2, .int l2), (3, .int l3)]) ok dX2_readsBody_79 (by decide) rfl ?_
  refine zg_aload_n ok dX2_readsBody_81 rfl 1 rfl ?_
  refine zg_getI ok lf_X2_71 dX2_readsBody_82 hE (fun v7 hE => ?_)
  refine zg_if_ne (tgt := 106) ok dX2_readsBody_85 (by decide) hE (fun hE => ?_) (fun hE => ?_)
  · exact zg_vret ok fin dX2_readsBody_106 ⟨Nat.le_of_ble_eq_true rfl, Nat.le_of_ble_eq_true rfl⟩ hE
  · refine zg_aload_n ok dX2_readsBody_88 rfl 1 rfl ?_
    refine zg_iload_n ok dX2_readsBody_89 rfl 2 rfl ?_
    refine zg_iload_n ok dX2_readsBody_90 rfl 3 rfl ?_
    refine zg_iload_n ok dX2_readsBody_91 rfl 4 rfl ?_
    refine zg_if_eq (tgt := 101) ok dX2_readsBody_92 (by decide) hE (fun hE => ?_) (fun hE => ?_)
    · refine zg_iload ok dX2_readsBody_101 0 rfl ?_
      refine zg_sub (L' := []) [] rfl ?_
      exact gt_f_X2_readsBody_J103 hl ok tab fin hRm  hE
    · refine zg_iload ok dX2_readsBody_95 0 rfl ?_
      refine zg_ineg ok dX2_readsBody_97 ?_
      refine zg_goto (tgt := 103) ok dX2_readsBody_98 (by decide) ?_
      refine zg_sub (L' := []) [] rfl ?_
      exact gt_f_X2_readsBody_J103 hl ok tab fin hRm  hE
set_option maxHeartbeats 8000000 in
theorem gt_f_X2_readsBody_J53 {Xc : zw_X} {Q : zw_H → Prop} {X : String → Nat → zw_H → Prop} (hl : (zw_l Xc).stackTraces = false) (ok : zw_ok Xc cX2_readsBody "MultipoleLineModel" yX2_readsBody.name 5) (tab : zw_tab Xc []) (fin : zw_fin Xc (Option.none : Option Jvm.ClassFile.FieldType) (zq_V Q) X 0 0) (hRm : zw_rm Xc = rm_X2_readsBody)  {l0 : Option Nat} {l1 : Int32} {l2 : Int32}  {h : zw_H} (hE : f_X2_readsBody_J53 (zw_Zf Xc).2.2.2 Q X  l0 l1 l2 h) : zw_G Xc 0 0 5 h 53 [(0, va_rf l0), (1, .int l1), (2, .int l2)] [] := by
  unfold f_X2_readsBody_J53 at hE
  refine zg_aload_n ok dX2_readsBody_53 rfl 0 rfl ?_
  refine zg_callV (vs := []) (rest := []) (rm := rm_X2_next) ok hRm lk_X2_120 dX2_readsBody_54 hE (fun hE => mt_X2_next hl hE) rfl (Nat.le_of_ble_eq_true rfl) ⟨⟨Nat.le_of_ble_eq_true rfl, Nat.le_of_ble_eq_true rfl⟩, Nat.le_of_ble_eq_true rfl, Nat.le_of_ble_eq_true rfl⟩ (zg_retV (fun h3 hE => ?_)) (zg_xok ok tab fin ⟨Nat.le_of_ble_eq_true rfl, Nat.le_of_ble_eq_true rfl⟩)
  refine zg_cost (kc2 := 0) (ks2 := 0) ⟨rfl, rfl⟩ ?_
  refine zg_aload_n ok dX2_readsBody_57 rfl 0 rfl ?_
  refine zg_ldcS ok ls_X2_126 dX2_readsBody_58 ?_
  refine zg_callV (vs := [zA ((zw_Zf Xc).2.2.2 19)]) (rest := []) (rm := rm_X2_isWord) ok hRm lk_X2_128 dX2_readsBody_60 hE (fun hE => mt_X2_isWord hl hE) rfl (Nat.le_of_ble_eq_true rfl) ⟨⟨Nat.le_of_ble_eq_true rfl, Nat.le_of_ble_eq_true rfl⟩, Nat.le_of_ble_eq_true rfl, Nat.le_of_ble_eq_true rfl⟩ (zg_retI (fun v5 h4 hE => ?_)) (zg_xok ok tab fin ⟨Nat.le_of_ble_eq_true rfl, Nat.le_of_ble_eq_true rfl⟩)
  refine zg_cost (kc2 := 0) (ks2 := 0) ⟨rfl, rfl⟩ ?_
  refine zg_istore_n (L' := [(3, .int v5), (0, va_rf l0), (1, .int l1), (2, .int l2)]) ok dX2_readsBody_63 rfl (by decide) rfl ?_
  refine zg_iload_n ok dX2_readsBody_64 rfl 0 rfl ?_
  refine zg_if_eq (tgt := 72) ok dX2_readsBody_65 (by decide) hE (fun hE => ?_) (fun hE => ?_)
  · refine zg_sub (L' := [(0, va_rf l0), (1, .int l1), (2, .int l2), (3, .int v5)]) [1, 2, 3, 0] rfl ?_
    exact gt_f_X2_readsBody_J72 hl ok tab fin hRm  hE
  · refine zg_aload_n ok dX2_readsBody_68 rfl 1 rfl ?_
    refine zg_callV (vs := []) (rest := []) (rm := rm_X2_next) ok hRm lk_X2_120 dX2_readsBody_69 hE (fun hE => mt_X2_next hl hE) rfl (Nat.le_of_ble_eq_true rfl) ⟨⟨Nat.le_of_ble_eq_true rfl, Nat.le_of_ble_eq_true rfl⟩, Nat.le_of_ble_eq_true rfl, Nat.le_of_ble_eq_true rfl⟩ (zg_retV (fun h7 hE => ?_)) (zg_xok ok tab fin ⟨Nat.le_of_ble_eq_true rfl, Nat.le_of_ble_eq_true rfl⟩)
    refine zg_cost (kc2 := 0) (ks2 := 0) ⟨rfl, rfl⟩ ?_
    refine zg_sub (L' := [(0, va_rf l0), (1, .int l1), (2, .int l2), (3, .int v5)]) [1, 2, 3, 0] rfl ?_
    exact gt_f_X2_readsBody_J72 hl ok tab fin hRm  hE
set_option maxHeartbeats 8000000 in
theorem gt_f_X2_readsBody_J16 {Xc : zw_X} {Q : zw_H → Prop} {X : String → Nat → zw_H → Prop} (hl : (zw_l Xc).stackTraces = false) (ok : zw_ok Xc cX2_readsBody "MultipoleLineModel" yX2_readsBody.name 5) (tab : zw_tab Xc []) (fin : zw_fin Xc (Option.none : Option Jvm.ClassFile.FieldType) (zq_V Q) X 0 0) (hRm : zw_rm Xc = rm_X2_readsBody)  {l0 : Option Nat} {l1 : Int32}  {h : zw_H} (hE : f_X2_readsBody_J16 (zw_Zf Xc).2.2.2 Q X  l0 l1 h) : zw_G Xc 0 0 5 h 16 [(0, va_rf l0), (1, .int l1)] [] := by
  unfold f_X2_readsBody_J16 at hE
  refine zg_aload_n ok dX2_readsBody_16 rfl 0 rfl ?_
  refine zg_callV (vs := []) (rest := []) (rm := rm_X2_next) ok hRm lk_X2_120 dX2_readsBody_17 hE (fun hE => mt_X2_next hl hE) rfl (Nat.le_of_ble_eq_true rfl) ⟨⟨Nat.le_of_ble_eq_true rfl, Nat.le_of_ble_eq_true rfl⟩, Nat.le_of_ble_eq_true rfl, Nat.le_of_ble_eq_true rfl⟩ (zg_retV (fun h1 hE => ?_)) (zg_xok ok tab fin ⟨Nat.le_of_ble_eq_true rfl, Nat.le_of_ble_eq_true rfl⟩)
  refine zg_cost (kc2 := 0) (ks2 := 0) ⟨rfl, rfl⟩ ?_
  refine zg_aload_n ok dX2_readsBody_20 rfl 0 rfl ?_
  refine zg_iconst (v := 0) ok dX2_readsBody_21 (by decide) ?_
  refine zg_sipush (v := 255) ok dX2_readsBody_22 (by decide) ?_
  refine zg_callV (vs := [zI 0, zI 255]) (rest := []) (rm := rm_X2_numberHere) ok hRm lk_X2_116 dX2_readsBody_25 hE (fun hE => mt_X2_numberHere hl hE) rfl (Nat.le_of_ble_eq_true rfl) ⟨⟨Nat.le_of_ble_eq_true rfl, Nat.le_of_ble_eq_true rfl⟩, Nat.le_of_ble_eq_true rfl, Nat.le_of_ble_eq_true rfl⟩ (zg_retI (fun v3 h2 hE => ?_)) (zg_xok ok tab fin ⟨Nat.le_of_ble_eq_true rfl, Nat.le_of_ble_eq_true rfl⟩)
  refine zg_cost (kc2 := 0) (ks2 := 0) ⟨rfl, rfl⟩ ?_
  refine zg_istore_n (L' := [(2, .int v3), (0, va_rf l0), (1, .int l1)]) ok dX2_readsBody_28 rfl (by decide) rfl ?_
  refine zg_aload_n ok dX2_readsBody_29 rfl 1 rfl ?_
  refine zg_getI ok lf_X2_71 dX2_readsBody_30 hE (fun v4 hE => ?_)
  refine zg_if_ne (tgt := 53) ok dX2_readsBody_33 (by decide) hE (fun hE => ?_) (fun hE => ?_)
  · refine zg_sub (L' := [(0, va_rf l0), (1, .int l1), (2, .int v3)]) [1, 2, 0] rfl ?_
    exact gt_f_X2_readsBody_J53 hl ok tab fin hRm  hE
  · refine zg_iload_n ok dX2_readsBody_36 rfl 2 rfl ?_
    refine zg_if_eq (tgt := 53) ok dX2_readsBody_37 (by decide) hE (fun hE => ?_) (fun hE => ?_)
    · refine zg_sub (L' := [(0, va_rf l0), (1, .int l1), (2, .int v3)]) [1, 2, 0] rfl ?_
      exact gt_f_X2_readsBody_J53 hl ok tab fin hRm  hE
    · refine zg_aload_n ok dX2_readsBody_40 rfl 1 rfl ?_
      refine zg_iload_n ok dX2_readsBody_41 rfl 0 rfl ?_
      refine zg_callV (vs := [zI v3]) (rest := []) (rm := rm_X2_isFixedAt) ok hRm lk_X2_123 dX2_readsBody_42 hE (fun hE => mt_X2_isFixedAt hl hE) rfl (Nat.le_of_ble_eq_true rfl) ⟨⟨Nat.le_of_ble_eq_true rfl, Nat.le_of_ble_eq_true rfl⟩, Nat.le_of_ble_eq_true rfl, Nat.le_of_ble_eq_true rfl⟩ (zg_retI (fun v8 h8 hE => ?_)) (zg_xok ok tab fin ⟨Nat.le_of_ble_eq_true rfl, Nat.le_of_ble_eq_true rfl⟩)
      refine zg_cost (kc2 := 0) (ks2 := 0) ⟨rfl, rfl⟩ ?_
      refine zg_if_eq (tgt := 53) ok dX2_readsBody_45 (by decide) hE (fun hE => ?_) (fun hE => ?_)
      · refine zg_sub (L' := [(0, va_rf l0), (1, .int l1), (2, .int v3)]) [1, 2, 0] rfl ?_
        exact gt_f_X2_readsBody_J53 hl ok tab fin hRm  hE
      · refine zg_aload_n ok dX2_readsBody_48 rfl 1 rfl ?_
        refine zg_iconst (v := 3) ok dX2_readsBody_49 (by decide) ?_
        refine zg_callV (vs := [zI 3]) (rest := []) (rm := rm_X2_faults) ok hRm lk_X2_113 dX2_readsBody_50 hE (fun hE => mt_X2_faults hl hE) rfl (Nat.le_of_ble_eq_true rfl) ⟨⟨Nat.le_of_ble_eq_true rfl, Nat.le_of_ble_eq_true rfl⟩, Nat.le_of_ble_eq_true rfl, Nat.le_of_ble_eq_true rfl⟩ (zg_retV (fun h9 hE => ?_)) (zg_xok ok tab fin ⟨Nat.le_of_ble_eq_true rfl, Nat.le_of_ble_eq_true rfl⟩)
        refine zg_cost (kc2 := 0) (ks2 := 0) ⟨rfl, rfl⟩ ?_
        refine zg_sub (L' := [(0, va_rf l0), (1, .int l1), (2, .int v3)]) [1, 2, 0] rfl ?_
        exact gt_f_X2_readsBody_J53 hl ok tab fin hRm  hE
set_option maxHeartbeats 8000000 in
theorem mt_X2_readsBody {l : Launch} (hl : l.stackTraces = false) {Z : zw_Z} {a0 : Option Nat} {a1 : Int32} {h : zw_H} {Q : zw_H → Prop} {X : String → Nat → zw_H → Prop} (hE : f_X2_readsBody Z.2.2.2 a0 a1 h Q X) : zw_Met l Z yX2_readsBody (ws_ yX2_readsBody cX2_readsBody 5 (Option.none : Option Jvm.ClassFile.FieldType)) rm_X2_readsBody [zA a0, zI a1] h (zq_V Q) X := by
  refine zg_start (own := "MultipoleLineModel") (by decide +kernel) rfl (Nat.le_of_ble_eq_true rfl) hl (fun Xc ok tab fin hRm hXl hXZ => ?_)
  subst hXl
  subst hXZ
  unfold f_X2_readsBody at hE
  refine zg_aload_n ok dX2_readsBody_0 rfl 0 rfl ?_
  refine zg_getA ok lf_X2_9 dX2_readsBody_1 hE (fun v1 hE => ?_)
  refine zg_iconst (v := 0) ok dX2_readsBody_4 (by decide) ?_
  refine zg_iald ok dX2_readsBody_5 hE (fun v2 hE => ?_)
  refine zg_bipush (v := 24) ok dX2_readsBody_6 (by decide) ?_
  refine zg_icmp_ne (tgt := 16) ok dX2_readsBody_8 (by decide) hE (fun hE => ?_) (fun hE => ?_)
  · exact gt_f_X2_readsBody_J16 hl ok tab fin hRm  hE
  · refine zg_aload_n ok dX2_readsBody_11 rfl 0 rfl ?_
    refine zg_iconst (v := 4) ok dX2_readsBody_12 (by decide) ?_
    refine zg_callV (vs := [zI 4]) (rest := []) (rm := rm_X2_faults) ok hRm lk_X2_113 dX2_readsBody_13 hE (fun hE => mt_X2_faults hl hE) rfl (Nat.le_of_ble_eq_true rfl) ⟨⟨Nat.le_of_ble_eq_true rfl, Nat.le_of_ble_eq_true rfl⟩, Nat.le_of_ble_eq_true rfl, Nat.le_of_ble_eq_true rfl⟩ (zg_retV (fun h10 hE => ?_)) (zg_xok ok tab fin ⟨Nat.le_of_ble_eq_true rfl, Nat.le_of_ble_eq_true rfl⟩)
    refine zg_cost (kc2 := 0) (ks2 := 0) ⟨rfl, rfl⟩ ?_
    exact gt_f_X2_readsBody_J16 hl ok tab fin hRm  hE
set_option maxHeartbeats 8000000 in
theorem gt_f_X2_readsText_J105 {Xc : zw_X} {Q : zw_H → Prop} {X : String → Nat → zw_H → Prop} (hl : (zw_l Xc).stackTraces = false) (ok : zw_ok Xc cX2_readsText "MultipoleLineModel" yX2_readsText.name 2) (tab : zw_tab Xc []) (fin : zw_fin Xc (Option.none : Option Jvm.ClassFile.FieldType) (zq_V Q) X 0 0) (hRm : zw_rm Xc = rm_X2_readsText) {kc ks : Nat} (hb : kc ≤ 0 ∧ ks ≤ 0) {R : zw_H → Prop} {l0 : Option Nat} (hR : ∀  (h : zw_H), R  h → zw_G Xc kc ks 2 h 60 [(0, va_rf l0)] []) {k108 : zw_H → Prop} (hk108 : ∀  (h : zw_H), k108  h → zw_G Xc kc ks 2 h 108 [(0, va_rf l0)] [])    {h : zw_H} (hE : f_X2_readsText_J105 (zw_Zf Xc).2.2.2 Q X R k108 l0 h) : zw_G Xc kc ks 2 h 105 [(0, va_rf l0)] [] := by
  unfold f_X2_readsText_J105 at hE
  refine zg_goto (tgt := 60) ok dX2_readsText_105 (by decide) ?_
  exact hR _ hE
set_option maxHeartbeats 8000000 in
theorem gt_f_X2_readsText_J92 {Xc : zw_X} {Q : zw_H → Prop} {X : String → Nat → zw_H → Prop} (hl : (zw_l Xc).stackTraces = false) (ok : zw_ok Xc cX2_readsText "MultipoleLineModel" yX2_readsText.name 2) (tab : zw_tab Xc []) (fin : zw_fin Xc (Option.none : Option Jvm.ClassFile.FieldType) (zq_V Q) X 0 0) (hRm : zw_rm Xc = rm_X2_readsText) {kc ks : Nat} (hb : kc ≤ 0 ∧ ks ≤ 0) {R : zw_H → Prop} {l0 : Option Nat} (hR : ∀  (h : zw_H), R  h → zw_G Xc kc ks 2 h 60 [(0, va_rf l0)] []) {k108 : zw_H → Prop} (hk108 : ∀  (h : zw_H), k108  h → zw_G Xc kc ks 2 h 108 [(0, va_rf l0)] [])  {l1 : Int32}  {h : zw_H} (hE : f_X2_readsText_J92 (zw_Zf Xc).2.2.2 Q X R k108 l0 l1 h) : zw_G Xc kc ks 2 h 92 [(0, va_rf l0), (1, .int l1)] [] := by
  unfold f_X2_readsText_J92 at hE
  refine zg_aload_n ok dX2_readsText_92 rfl 0 rfl ?_
  refine zg_iload_n ok dX2_readsText_93 rfl 1 rfl ?_
  refine zg_callV (vs := [zI l1]) (rest := []) (rm := rm_X2_readsBody) ok hRm lk_X2_145 dX2_readsText_94 hE (fun hE => mt_X2_readsBody hl hE) rfl (Nat.le_of_ble_eq_true rfl) ⟨⟨Nat.le_of_ble_eq_true rfl, Nat.le_of_ble_eq_true rfl⟩, (by show kc + 0 ≤ 0; omega), (by show ks + 0 ≤ 0; omega)⟩ (zg_retV (fun h13 hE => ?_)) (zg_xok ok tab fin ⟨(by show kc + 0 ≤ 0; omega), (by show ks + 0 ≤ 0; omega)⟩)
  refine zg_cost (kc2 := kc) (ks2 := ks) ⟨(by show kc + 0 = kc; omega), (by show ks + 0 = ks; omega)⟩ ?_
  refine zg_goto (tgt := 105) ok dX2_readsText_97 (by decide) ?_
  refine zg_sub (L' := [(0, va_rf l0)]) [0] rfl ?_
  exact gt_f_X2_readsText_J105 hl ok tab fin hRm hb hR hk108 hE
set_option maxHeartbeats 8000000 in
theorem gt_f_X2_readsText_B60 {Xc : zw_X} {Q : zw_H → Prop} {X : String → Nat → zw_H → Prop} (hl : (zw_l Xc).stackTraces = false) (ok : zw_ok Xc cX2_readsText "MultipoleLineModel" yX2_readsText.name 2) (tab : zw_tab Xc []) (fin : zw_fin Xc (Option.none : Option Jvm.ClassFile.FieldType) (zq_V Q) X 0 0) (hRm : zw_rm Xc = rm_X2_readsText) {kc ks : Nat} (hb : kc ≤ 0 ∧ ks ≤ 0) {R : zw_H → Prop} {l0 : Option Nat} (hR : ∀  (h : zw_H), R  h → zw_G Xc kc ks 2 h 60 [(0, va_rf l0)] []) {k108 : zw_H → Prop} (hk108 : ∀  (h : zw_H), k108  h → zw_G Xc kc ks 2 h 108 [(0, va_rf l0)] [])   {h : zw_H} (hE : f_X2_readsText_B60 (zw_Zf Xc).2.2.2 Q X k108 l0 R  h) : zw_G Xc kc ks 2 h 60 [(0, va_rf l0)] [] := by
  unfold f_X2_readsText_B60 at hE
  refine zg_aload_n ok dX2_readsText_60 rfl 0 rfl ?_
  refine zg_iconst (v := 4) ok dX2_readsText_61 (by decide) ?_
  refine zg_callV (vs := [zI 4]) (rest := []) (rm := rm_X2_is) ok hRm lk_X2_100 dX2_readsText_62 hE (fun hE => mt_X2_is hl hE) rfl (Nat.le_of_ble_eq_true rfl) ⟨⟨Nat.le_of_ble_eq_true rfl, Nat.le_of_ble_eq_true rfl⟩, (by show kc + 0 ≤ 0; omega), (by show ks + 0 ≤ 0; omega)⟩ (zg_retI (fun v8 h10 hE => ?_)) (zg_xok ok tab fin ⟨(by show kc + 0 ≤ 0; omega), (by show ks + 0 ≤ 0; omega)⟩)
  refine zg_cost (kc2 := kc) (ks2 := ks) ⟨(by show kc + 0 = kc; omega), (by show ks + 0 = ks; omega)⟩ ?_
  refine zg_if_eq (tgt := 108) ok dX2_readsText_65 (by decide) hE (fun hE => ?_) (fun hE => ?_)
  · exact hk108 _ hE
  · refine zg_aload_n ok dX2_readsText_68 rfl 0 rfl ?_
    refine zg_callV (vs := []) (rest := []) (rm := rm_X2_next) ok hRm lk_X2_120 dX2_readsText_69 hE (fun hE => mt_X2_next hl hE) rfl (Nat.le_of_ble_eq_true rfl) ⟨⟨Nat.le_of_ble_eq_true rfl, Nat.le_of_ble_eq_true rfl⟩, (by show kc + 0 ≤ 0; omega), (by show ks + 0 ≤ 0; omega)⟩ (zg_retV (fun h11 hE => ?_)) (zg_xok ok tab fin ⟨(by show kc + 0 ≤ 0; omega), (by show ks + 0 ≤ 0; omega)⟩)
    refine zg_cost (kc2 := kc) (ks2 := ks) ⟨(by show kc + 0 = kc; omega), (by show ks + 0 = ks; omega)⟩ ?_
    refine zg_aload_n ok dX2_readsText_72 rfl 0 rfl ?_
    refine zg_ldcS ok ls_X2_141 dX2_readsText_73 ?_
    refine zg_callV (vs := [zA ((zw_Zf Xc).2.2.2 17)]) (rest := []) (rm := rm_X2_isWord) ok hRm lk_X2_128 dX2_readsText_75 hE (fun hE => mt_X2_isWord hl hE) rfl (Nat.le_of_ble_eq_true rfl) ⟨⟨Nat.le_of_ble_eq_true rfl, Nat.le_of_ble_eq_true rfl⟩, (by show kc + 0 ≤ 0; omega), (by show ks + 0 ≤ 0; omega)⟩ (zg_retI (fun v9 h12 hE => ?_)) (zg_xok ok tab fin ⟨(by show kc + 0 ≤ 0; omega), (by show ks + 0 ≤ 0; omega)⟩)
    refine zg_cost (kc2 := kc) (ks2 := ks) ⟨(by show kc + 0 = kc; omega), (by show ks + 0 = ks; omega)⟩ ?_
    refine zg_istore_nR (L' := [(1, .int v9), (0, va_rf l0)]) ok dX2_readsText_78 rfl (by decide) 0 rfl rfl rfl ?_
    refine zg_iload_n ok dX2_readsText_79 rfl 0 rfl ?_
    refine zg_if_ne (tgt := 92) ok dX2_readsText_80 (by decide) hE (fun hE => ?_) (fun hE => ?_)
    · refine zg_sub (L' := [(0, va_rf l0), (1, .int v9)]) [1, 0] rfl ?_
      exact gt_f_X2_readsText_J92 hl ok tab fin hRm hb hR hk108 hE
    · refine zg_aload_n ok dX2_readsText_83 rfl 1 rfl ?_
      refine zg_ldcS ok ls_X2_143 dX2_readsText_84 ?_
      refine zg_callV (vs := [zA ((zw_Zf Xc).2.2.2 18)]) (rest := []) (rm := rm_X2_isWord) ok hRm lk_X2_128 dX2_readsText_86 hE (fun hE => mt_X2_isWord hl hE) rfl (Nat.le_of_ble_eq_true rfl) ⟨⟨Nat.le_of_ble_eq_true rfl, Nat.le_of_ble_eq_true rfl⟩, (by show kc + 0 ≤ 0; omega), (by show ks + 0 ≤ 0; omega)⟩ (zg_retI (fun v10 h14 hE => ?_)) (zg_xok ok tab fin ⟨(by show kc + 0 ≤ 0; omega), (by show ks + 0 ≤ 0; omega)⟩)
      refine zg_cost (kc2 := kc) (ks2 := ks) ⟨(by show kc + 0 = kc; omega), (by show ks + 0 = ks; omega)⟩ ?_
      refine zg_if_eq (tgt := 100) ok dX2_readsText_89 (by decide) hE (fun hE => ?_) (fun hE => ?_)
      · refine zg_aload_n ok dX2_readsText_100 rfl 1 rfl ?_
        refine zg_iconst (v := 1) ok dX2_readsText_101 (by decide) ?_
        refine zg_callV (vs := [zI 1]) (rest := []) (rm := rm_X2_faults) ok hRm lk_X2_113 dX2_readsText_102 hE (fun hE => mt_X2_faults hl hE) rfl (Nat.le_of_ble_eq_true rfl) ⟨⟨Nat.le_of_ble_eq_true rfl, Nat.le_of_ble_eq_true rfl⟩, (by show kc + 0 ≤ 0; omega), (by show ks + 0 ≤ 0; omega)⟩ (zg_retV (fun h15 hE => ?_)) (zg_xok ok tab fin ⟨(by show kc + 0 ≤ 0; omega), (by show ks + 0 ≤ 0; omega)⟩)
        refine zg_cost (kc2 := kc) (ks2 := ks) ⟨(by show kc + 0 = kc; omega), (by show ks + 0 = ks; omega)⟩ ?_
        refine zg_sub (L' := [(0, va_rf l0)]) [1] rfl ?_
        exact gt_f_X2_readsText_J105 hl ok tab fin hRm hb hR hk108 hE
      · refine zg_sub (L' := [(0, va_rf l0), (1, .int v9)]) [1, 0] rfl ?_
        exact gt_f_X2_readsText_J92 hl ok tab fin hRm hb hR hk108 hE
theorem gt_f_X2_readsText_L60 {Xc : zw_X} {Q : zw_H → Prop} {X : String → Nat → zw_H → Prop} (hl : (zw_l Xc).stackTraces = false) (ok : zw_ok Xc cX2_readsText "MultipoleLineModel" yX2_readsText.name 2) (tab : zw_tab Xc []) (fin : zw_fin Xc (Option.none : Option Jvm.ClassFile.FieldType) (zq_V Q) X 0 0) (hRm : zw_rm Xc = rm_X2_readsText) {kc ks : Nat} (hb : kc ≤ 0 ∧ ks ≤ 0) {l0 : Option Nat} {k108 : zw_H → Prop} (hk108 : ∀  (h : zw_H), k108  h → zw_G Xc kc ks 2 h 108 [(0, va_rf l0)] [])  : ∀ (n9 : Nat)  (h : zw_H), zl1 (f_X2_readsText_B60 (zw_Zf Xc).2.2.2 Q X k108 l0) n9  h → zw_G Xc kc ks 2 h 60 [(0, va_rf l0)] [] := by
  intro n9
  induction n9 with
  | zero => intro  h hE; exact hE.elim
  | succ n9 ih => intro  h hE; exact gt_f_X2_readsText_B60 hl ok tab fin hRm hb ih hk108 hE
set_option maxHeartbeats 8000000 in
theorem gt_f_X2_readsText_J121 {Xc : zw_X} {Q : zw_H → Prop} {X : String → Nat → zw_H → Prop} (hl : (zw_l Xc).stackTraces = false) (ok : zw_ok Xc cX2_readsText "MultipoleLineModel" yX2_readsText.name 2) (tab : zw_tab Xc []) (fin : zw_fin Xc (Option.none : Option Jvm.ClassFile.FieldType) (zq_V Q) X 0 0) (hRm : zw_rm Xc = rm_X2_readsText)  {l0 : Option Nat}  {h : zw_H} (hE : f_X2_readsText_J121 (zw_Zf Xc).2.2.2 Q X  l0 h) : zw_G Xc 0 0 2 h 121 [(0, va_rf l0)] [] := by
  unfold f_X2_readsText_J121 at hE
  refine zg_aload_n ok dX2_readsText_121 rfl 0 rfl ?_
  refine zg_getA ok lf_X2_9 dX2_readsText_122 hE (fun v12 hE => ?_)
  refine zg_iconst (v := 0) ok dX2_readsText_125 (by decide) ?_
  refine zg_iald ok dX2_readsText_126 hE (fun v13 hE => ?_)
  refine zg_if_ne (tgt := 135) ok dX2_readsText_127 (by decide) hE (fun hE => ?_) (fun hE => ?_)
  · exact zg_vret ok fin dX2_readsText_135 ⟨Nat.le_of_ble_eq_true rfl, Nat.le_of_ble_eq_true rfl⟩ hE
  · refine zg_aload_n ok dX2_readsText_130 rfl 0 rfl ?_
    refine zg_iconst (v := 5) ok dX2_readsText_131 (by decide) ?_
    refine zg_callV (vs := [zI 5]) (rest := []) (rm := rm_X2_faults) ok hRm lk_X2_113 dX2_readsText_132 hE (fun hE => mt_X2_faults hl hE) rfl (Nat.le_of_ble_eq_true rfl) ⟨⟨Nat.le_of_ble_eq_true rfl, Nat.le_of_ble_eq_true rfl⟩, Nat.le_of_ble_eq_true rfl, Nat.le_of_ble_eq_true rfl⟩ (zg_retV (fun h18 hE => ?_)) (zg_xok ok tab fin ⟨Nat.le_of_ble_eq_true rfl, Nat.le_of_ble_eq_true rfl⟩)
    refine zg_cost (kc2 := 0) (ks2 := 0) ⟨rfl, rfl⟩ ?_
    exact zg_vret ok fin dX2_readsText_135 ⟨Nat.le_of_ble_eq_true rfl, Nat.le_of_ble_eq_true rfl⟩ hE
set_option maxHeartbeats 8000000 in
theorem gt_f_X2_readsText_J18 {Xc : zw_X} {Q : zw_H → Prop} {X : String → Nat → zw_H → Prop} (hl : (zw_l Xc).stackTraces = false) (ok : zw_ok Xc cX2_readsText "MultipoleLineModel" yX2_readsText.name 2) (tab : zw_tab Xc []) (fin : zw_fin Xc (Option.none : Option Jvm.ClassFile.FieldType) (zq_V Q) X 0 0) (hRm : zw_rm Xc = rm_X2_readsText)  {l0 : Option Nat}  {h : zw_H} (hE : f_X2_readsText_J18 (zw_Zf Xc).2.2.2 Q X  l0 h) : zw_G Xc 0 0 2 h 18 [(0, va_rf l0)] [] := by
  unfold f_X2_readsText_J18 at hE
  refine zg_aload_n ok dX2_readsText_18 rfl 0 rfl ?_
  refine zg_callV (vs := []) (rest := []) (rm := rm_X2_next) ok hRm lk_X2_120 dX2_readsText_19 hE (fun hE => mt_X2_next hl hE) rfl (Nat.le_of_ble_eq_true rfl) ⟨⟨Nat.le_of_ble_eq_true rfl, Nat.le_of_ble_eq_true rfl⟩, Nat.le_of_ble_eq_true rfl, Nat.le_of_ble_eq_true rfl⟩ (zg_retV (fun h3 hE => ?_)) (zg_xok ok tab fin ⟨Nat.le_of_ble_eq_true rfl, Nat.le_of_ble_eq_true rfl⟩)
  refine zg_cost (kc2 := 0) (ks2 := 0) ⟨rfl, rfl⟩ ?_
  refine zg_aload_n ok dX2_readsText_22 rfl 0 rfl ?_
  refine zg_getA ok lf_X2_9 dX2_readsText_23 hE (fun v2 hE => ?_)
  refine zg_iconst (v := 3) ok dX2_readsText_26 (by decide) ?_
  refine zg_aload_n ok dX2_readsText_27 rfl 0 rfl ?_
  refine zg_iconst (v := 2) ok dX2_readsText_28 (by decide) ?_
  refine zg_iconst (v := 5) ok dX2_readsText_29 (by decide) ?_
  refine zg_callV (vs := [zI 2, zI 5]) (rest := [.int 3, va_rf v2]) (rm := rm_X2_number) ok hRm lk_X2_132 dX2_readsText_30 hE (fun hE => mt_X2_number hl hE) rfl (Nat.le_of_ble_eq_true rfl) ⟨⟨Nat.le_of_ble_eq_true rfl, Nat.le_of_ble_eq_true rfl⟩, Nat.le_of_ble_eq_true rfl, Nat.le_of_ble_eq_true rfl⟩ (zg_retI (fun v3 h4 hE => ?_)) (zg_xok ok tab fin ⟨Nat.le_of_ble_eq_true rfl, Nat.le_of_ble_eq_true rfl⟩)
  refine zg_cost (kc2 := 0) (ks2 := 0) ⟨rfl, rfl⟩ ?_
  refine zg_iast ok dX2_readsText_33 hE (fun h5 hE => ?_)
  refine zg_aload_n ok dX2_readsText_34 rfl 0 rfl ?_
  refine zg_getA ok lf_X2_9 dX2_readsText_35 hE (fun v4 hE => ?_)
  refine zg_iconst (v := 4) ok dX2_readsText_38 (by decide) ?_
  refine zg_aload_n ok dX2_readsText_39 rfl 0 rfl ?_
  refine zg_iconst (v := 0) ok dX2_readsText_40 (by decide) ?_
  refine zg_iconst (v := 4) ok dX2_readsText_41 (by decide) ?_
  refine zg_callV (vs := [zI 0, zI 4]) (rest := [.int 4, va_rf v4]) (rm := rm_X2_number) ok hRm lk_X2_132 dX2_readsText_42 hE (fun hE => mt_X2_number hl hE) rfl (Nat.le_of_ble_eq_true rfl) ⟨⟨Nat.le_of_ble_eq_true rfl, Nat.le_of_ble_eq_true rfl⟩, Nat.le_of_ble_eq_true rfl, Nat.le_of_ble_eq_true rfl⟩ (zg_retI (fun v5 h6 hE => ?_)) (zg_xok ok tab fin ⟨Nat.le_of_ble_eq_true rfl, Nat.le_of_ble_eq_true rfl⟩)
  refine zg_cost (kc2 := 0) (ks2 := 0) ⟨rfl, rfl⟩ ?_
  refine zg_iast ok dX2_readsText_45 hE (fun h7 hE => ?_)
  refine zg_aload_n ok dX2_readsText_46 rfl 0 rfl ?_
  refine zg_getA ok lf_X2_9 dX2_readsText_47 hE (fun v6 hE => ?_)
  refine zg_iconst (v := 5) ok dX2_readsText_50 (by decide) ?_
  refine zg_aload_n ok dX2_readsText_51 rfl 0 rfl ?_
  refine zg_iconst (v := 0) ok dX2_readsText_52 (by decide) ?_
  refine zg_sipush (v := 999) ok dX2_readsText_53 (by decide) ?_
  refine zg_callV (vs := [zI 0, zI 999]) (rest := [.int 5, va_rf v6]) (rm := rm_X2_number) ok hRm lk_X2_132 dX2_readsText_56 hE (fun hE => mt_X2_number hl hE) rfl (Nat.le_of_ble_eq_true rfl) ⟨⟨Nat.le_of_ble_eq_true rfl, Nat.le_of_ble_eq_true rfl⟩, Nat.le_of_ble_eq_true rfl, Nat.le_of_ble_eq_true rfl⟩ (zg_retI (fun v7 h8 hE => ?_)) (zg_xok ok tab fin ⟨Nat.le_of_ble_eq_true rfl, Nat.le_of_ble_eq_true rfl⟩)
  refine zg_cost (kc2 := 0) (ks2 := 0) ⟨rfl, rfl⟩ ?_
  refine zg_iast ok dX2_readsText_59 hE (fun h9 hE => ?_)
  refine gt_f_X2_readsText_L60 hl ok tab fin hRm ⟨Nat.le_of_ble_eq_true rfl, Nat.le_of_ble_eq_true rfl⟩ ?_ _ _ hE
  · intro h16 hE
    refine zg_aload_n ok dX2_readsText_108 rfl 0 rfl ?_
    refine zg_iconst (v := 1) ok dX2_readsText_109 (by decide) ?_
    refine zg_callV (vs := [zI 1]) (rest := []) (rm := rm_X2_is) ok hRm lk_X2_100 dX2_readsText_110 hE (fun hE => mt_X2_is hl hE) rfl (Nat.le_of_ble_eq_true rfl) ⟨⟨Nat.le_of_ble_eq_true rfl, Nat.le_of_ble_eq_true rfl⟩, Nat.le_of_ble_eq_true rfl, Nat.le_of_ble_eq_true rfl⟩ (zg_retI (fun v11 h17 hE => ?_)) (zg_xok ok tab fin ⟨Nat.le_of_ble_eq_true rfl, Nat.le_of_ble_eq_true rfl⟩)
    refine zg_cost (kc2 := 0) (ks2 := 0) ⟨rfl, rfl⟩ ?_
    refine zg_if_ne (tgt := 121) ok dX2_readsText_113 (by decide) hE (fun hE => ?_) (fun hE => ?_)
    · exact gt_f_X2_readsText_J121 hl ok tab fin hRm  hE
    · refine zg_aload_n ok dX2_readsText_116 rfl 0 rfl ?_
      refine zg_iconst (v := 1) ok dX2_readsText_117 (by decide) ?_
      refine zg_callV (vs := [zI 1]) (rest := []) (rm := rm_X2_faults) ok hRm lk_X2_113 dX2_readsText_118 hE (fun hE => mt_X2_faults hl hE) rfl (Nat.le_of_ble_eq_true rfl) ⟨⟨Nat.le_of_ble_eq_true rfl, Nat.le_of_ble_eq_true rfl⟩, Nat.le_of_ble_eq_true rfl, Nat.le_of_ble_eq_true rfl⟩ (zg_retV (fun h19 hE => ?_)) (zg_xok ok tab fin ⟨Nat.le_of_ble_eq_true rfl, Nat.le_of_ble_eq_true rfl⟩)
      refine zg_cost (kc2 := 0) (ks2 := 0) ⟨rfl, rfl⟩ ?_
      exact gt_f_X2_readsText_J121 hl ok tab fin hRm  hE
set_option maxHeartbeats 8000000 in
theorem mt_X2_readsText {l : Launch} (hl : l.stackTraces = false) {Z : zw_Z} {a0 : Option Nat} {h : zw_H} {Q : zw_H → Prop} {X : String → Nat → zw_H → Prop} (hE : f_X2_readsText Z.2.2.2 a0 h Q X) : zw_Met l Z yX2_readsText (ws_ yX2_readsText cX2_readsText 2 (Option.none : Option Jvm.ClassFile.FieldType)) rm_X2_readsText [zA a0] h (zq_V Q) X := by
  refine zg_start (own := "MultipoleLineModel") (by decide +kernel) rfl (Nat.le_of_ble_eq_true rfl) hl (fun Xc ok tab fin hRm hXl hXZ => ?_)
  subst hXl
  subst hXZ
  unfold f_X2_readsText at hE
  refine zg_aload_n ok dX2_readsText_0 rfl 0 rfl ?_
  refine zg_callV (vs := []) (rest := []) (rm := rm_X2_next) ok hRm lk_X2_120 dX2_readsText_1 hE (fun hE => mt_X2_next hl hE) rfl (Nat.le_of_ble_eq_true rfl) ⟨⟨Nat.le_of_ble_eq_true rfl, Nat.le_of_ble_eq_true rfl⟩, Nat.le_of_ble_eq_true rfl, Nat.le_of_ble_eq_true rfl⟩ (zg_retV (fun h1 hE => ?_)) (zg_xok ok tab fin ⟨Nat.le_of_ble_eq_true rfl, Nat.le_of_ble_eq_true rfl⟩)
  refine zg_cost (kc2 := 0) (ks2 := 0) ⟨rfl, rfl⟩ ?_
  refine zg_aload_n ok dX2_readsText_4 rfl 0 rfl ?_
  refine zg_ldcS ok ls_X2_139 dX2_readsText_5 ?_
  refine zg_callV (vs := [zA ((zw_Zf Xc).2.2.2 16)]) (rest := []) (rm := rm_X2_isWord) ok hRm lk_X2_128 dX2_readsText_7 hE (fun hE => mt_X2_isWord hl hE) rfl (Nat.le_of_ble_eq_true rfl) ⟨⟨Nat.le_of_ble_eq_true rfl, Nat.le_of_ble_eq_true rfl⟩, Nat.le_of_ble_eq_true rfl, Nat.le_of_ble_eq_true rfl⟩ (zg_retI (fun v1 h2 hE => ?_)) (zg_xok ok tab fin ⟨Nat.le_of_ble_eq_true rfl, Nat.le_of_ble_eq_true rfl⟩)
  refine zg_cost (kc2 := 0) (ks2 := 0) ⟨rfl, rfl⟩ ?_
  refine zg_if_ne (tgt := 18) ok dX2_readsText_10 (by decide) hE (fun hE => ?_) (fun hE => ?_)
  · exact gt_f_X2_readsText_J18 hl ok tab fin hRm  hE
  · refine zg_aload_n ok dX2_readsText_13 rfl 0 rfl ?_
    refine zg_iconst (v := 1) ok dX2_readsText_14 (by decide) ?_
    refine zg_callV (vs := [zI 1]) (rest := []) (rm := rm_X2_faults) ok hRm lk_X2_113 dX2_readsText_15 hE (fun hE => mt_X2_faults hl hE) rfl (Nat.le_of_ble_eq_true rfl) ⟨⟨Nat.le_of_ble_eq_true rfl, Nat.le_of_ble_eq_true rfl⟩, Nat.le_of_ble_eq_true rfl, Nat.le_of_ble_eq_true rfl⟩ (zg_retV (fun h20 hE => ?_)) (zg_xok ok tab fin ⟨Nat.le_of_ble_eq_true rfl, Nat.le_of_ble_eq_true rfl⟩)
    refine zg_cost (kc2 := 0) (ks2 := 0) ⟨rfl, rfl⟩ ?_
    exact gt_f_X2_readsText_J18 hl ok tab fin hRm  hE
set_option maxHeartbeats 8000000 in
theorem gt_f_X2_load_B60 {Xc : zw_X} {Q : Int32 → zw_H → Prop} {X : String → Nat → zw_H → Prop} (hl : (zw_l Xc).stackTraces = false) (ok : zw_ok Xc cX2_load "MultipoleLineModel" yX2_load.name 3) (tab : zw_tab Xc []) (fin : zw_fin Xc (Option.some Jvm.ClassFile.FieldType.int) (zq_I Q) X 0 0) (hRm : zw_rm Xc = rm_X2_load) {kc ks : Nat} (hb : kc ≤ 0 ∧ ks ≤ 0) {R : Int32 → zw_H → Prop} {l0 : Option Nat} (hR : ∀ (l2 : Int32) (h : zw_H), R l2 h → zw_G Xc kc ks 3 h 60 [(0, va_rf l0), (2, .int l2)] []) {k79 : zw_H → Prop} (hk79 : ∀  (h : zw_H), k79  h → zw_G Xc kc ks 3 h 79 [(0, va_rf l0)] [])  {l2 : Int32} {h : zw_H} (hE : f_X2_load_B60 (zw_Zf Xc).2.2.2 Q X k79 l0 R l2 h) : zw_G Xc kc ks 3 h 60 [(0, va_rf l0), (2, .int l2)] [] := by
  unfold f_X2_load_B60 at hE
  refine zg_iload_n ok dX2_load_60 rfl 1 rfl ?_
  refine zg_bipush (v := 103) ok dX2_load_61 (by decide) ?_
  refine zg_icmp_ge (tgt := 79) ok dX2_load_63 (by decide) hE (fun hE => ?_) (fun hE => ?_)
  · refine zg_sub (L' := [(0, va_rf l0)]) [0] rfl ?_
    exact hk79 _ hE
  · refine zg_aload_n ok dX2_load_66 rfl 0 rfl ?_
    refine zg_getA ok lf_X2_9 dX2_load_67 hE (fun v6 hE => ?_)
    refine zg_iload_n ok dX2_load_70 rfl 1 rfl ?_
    refine zg_iconst (v := 0) ok dX2_load_71 (by decide) ?_
    refine zg_iast ok dX2_load_72 hE (fun h9 hE => ?_)
    refine zg_iincL (k := 1) (L' := fun v7 => [(2, .int v7), (0, va_rf l0)]) ok dX2_load_73 (by decide +kernel) hE rfl (by decide) (fun _ => rfl) (fun v7 hE => ?_)
    refine zg_goto (tgt := 60) ok dX2_load_76 (by decide) ?_
    refine zg_sub (L' := [(0, va_rf l0), (2, .int v7)]) [1, 0] rfl ?_
    exact hR _ _ hE
theorem gt_f_X2_load_L60 {Xc : zw_X} {Q : Int32 → zw_H → Prop} {X : String → Nat → zw_H → Prop} (hl : (zw_l Xc).stackTraces = false) (ok : zw_ok Xc cX2_load "MultipoleLineModel" yX2_load.name 3) (tab : zw_tab Xc []) (fin : zw_fin Xc (Option.some Jvm.ClassFile.FieldType.int) (zq_I Q) X 0 0) (hRm : zw_rm Xc = rm_X2_load) {kc ks : Nat} (hb : kc ≤ 0 ∧ ks ≤ 0) {l0 : Option Nat} {k79 : zw_H → Prop} (hk79 : ∀  (h : zw_H), k79  h → zw_G Xc kc ks 3 h 79 [(0, va_rf l0)] [])  : ∀ (n9 : Nat) (l2 : Int32) (h : zw_H), zl2 (f_X2_load_B60 (zw_Zf Xc).2.2.2 Q X k79 l0) n9 l2 h → zw_G Xc kc ks 3 h 60 [(0, va_rf l0), (2, .int l2)] [] := by
  intro n9
  induction n9 with
  | zero => intro l2 h hE; exact hE.elim
  | succ n9 ih => intro l2 h hE; exact gt_f_X2_load_B60 hl ok tab fin hRm hb ih hk79 hE
set_option maxHeartbeats 8000000 in
theorem mt_X2_load {l : Launch} (hl : l.stackTraces = false) {Z : zw_Z} {a0 : Option Nat} {a1 : Int32} {h : zw_H} {Q : Int32 → zw_H → Prop} {X : String → Nat → zw_H → Prop} (hE : f_X2_load Z.2.2.2 a0 a1 h Q X) : zw_Met l Z yX2_load (ws_ yX2_load cX2_load 3 (Option.some Jvm.ClassFile.FieldType.int)) rm_X2_load [zA a0, zI a1] h (zq_I Q) X := by
  refine zg_start (own := "MultipoleLineModel") (by decide +kernel) rfl (Nat.le_of_ble_eq_true rfl) hl (fun Xc ok tab fin hRm hXl hXZ => ?_)
  subst hXl
  subst hXZ
  unfold f_X2_load at hE
  refine zg_aload_n ok dX2_load_0 rfl 0 rfl ?_
  refine zg_iload_n ok dX2_load_1 rfl 1 rfl ?_
  refine zg_iconst (v := 0) ok dX2_load_2 (by decide) ?_
  refine zg_aload_n ok dX2_load_3 rfl 0 rfl ?_
  refine zg_getI ok lf_X2_64 dX2_load_4 hE (fun v1 hE => ?_)
  refine zg_callS (vs := [zI a1, zI 0, zI v1]) (rest := [va_rf a0]) (rm := rm_X2_in) ok hRm lk_X2_77 dX2_load_7 hE (fun hE => mt_X2_in hl hE) rfl (Nat.le_of_ble_eq_true rfl) ⟨⟨Nat.le_of_ble_eq_true rfl, Nat.le_of_ble_eq_true rfl⟩, Nat.le_of_ble_eq_true rfl, Nat.le_of_ble_eq_true rfl⟩ (zg_retI (fun v2 h1 hE => ?_)) (zg_xok ok tab fin ⟨Nat.le_of_ble_eq_true rfl, Nat.le_of_ble_eq_true rfl⟩)
  refine zg_cost (kc2 := 0) (ks2 := 0) ⟨rfl, rfl⟩ ?_
  refine zg_iconst (v := 1) ok dX2_load_10 (by decide) ?_
  refine zg_iconst (v := 1) ok dX2_load_11 (by decide) ?_
  refine zg_callV (vs := [zI v2, zI 1, zI 1]) (rest := []) (rm := rm_X2_may) ok hRm lk_X2_60 dX2_load_12 hE (fun hE => mt_X2_may hl hE) rfl (Nat.le_of_ble_eq_true rfl) ⟨⟨Nat.le_of_ble_eq_true rfl, Nat.le_of_ble_eq_true rfl⟩, Nat.le_of_ble_eq_true rfl, Nat.le_of_ble_eq_true rfl⟩ (zg_retI (fun v3 h2 hE => ?_)) (zg_xok ok tab fin ⟨Nat.le_of_ble_eq_true rfl, Nat.le_of_ble_eq_true rfl⟩)
  refine zg_cost (kc2 := 0) (ks2 := 0) ⟨rfl, rfl⟩ ?_
  refine zg_if_ne (tgt := 20) ok dX2_load_15 (by decide) hE (fun hE => ?_) (fun hE => ?_)
  · refine zg_aload_n ok dX2_load_20 rfl 0 rfl ?_
    refine zg_iload_n ok dX2_load_21 rfl 1 rfl ?_
    refine zg_put (ty := .int) ok lf_X2_74 (Or.inl rfl) (by decide) (by decide +kernel) rfl rfl dX2_load_22 hE (fun h3 hE => ?_)
    refine zg_aload_n ok dX2_load_25 rfl 0 rfl ?_
    refine zg_iconst (v := 0) ok dX2_load_26 (by decide) ?_
    refine zg_put (ty := .int) ok lf_X2_81 (Or.inl rfl) (by decide) (by decide +kernel) rfl rfl dX2_load_27 hE (fun h4 hE => ?_)
    refine zg_aload_n ok dX2_load_30 rfl 0 rfl ?_
    refine zg_iconst (v := 0) ok dX2_load_31 (by decide) ?_
    refine zg_put (ty := .int) ok lf_X2_64 (Or.inl rfl) (by decide) (by decide +kernel) rfl rfl dX2_load_32 hE (fun h5 hE => ?_)
    refine zg_aload_n ok dX2_load_35 rfl 0 rfl ?_
    refine zg_iconst (v := 0) ok dX2_load_36 (by decide) ?_
    refine zg_put (ty := .int) ok lf_X2_71 (Or.inl rfl) (by decide) (by decide +kernel) rfl rfl dX2_load_37 hE (fun h6 hE => ?_)
    refine zg_aload_n ok dX2_load_40 rfl 0 rfl ?_
    refine zg_iconst (v := (-1)) ok dX2_load_41 (by decide) ?_
    refine zg_put (ty := .int) ok lf_X2_30 (Or.inl rfl) (by decide) (by decide +kernel) rfl rfl dX2_load_42 hE (fun h7 hE => ?_)
    refine zg_aload_n ok dX2_load_45 rfl 0 rfl ?_
    refine zg_getA ok lf_X2_9 dX2_load_46 hE (fun v4 hE => ?_)
    refine zg_iconst (v := 0) ok dX2_load_49 (by decide) ?_
    refine zg_aload_n ok dX2_load_50 rfl 0 rfl ?_
    refine zg_getA ok lf_X2_13 dX2_load_51 hE (fun v5 hE => ?_)
    refine zg_iconst (v := 0) ok dX2_load_54 (by decide) ?_
    refine zg_callS (vs := [zA v4, zI 0, zA v5, zI 0]) (rest := []) (rm := rm_X2_lays) ok hRm lk_X2_149 dX2_load_55 hE (fun hE => mt_X2_lays hl hE) rfl (Nat.le_of_ble_eq_true rfl) ⟨⟨Nat.le_of_ble_eq_true rfl, Nat.le_of_ble_eq_true rfl⟩, Nat.le_of_ble_eq_true rfl, Nat.le_of_ble_eq_true rfl⟩ (zg_retV (fun h8 hE => ?_)) (zg_xok ok tab fin ⟨Nat.le_of_ble_eq_true rfl, Nat.le_of_ble_eq_true rfl⟩)
    refine zg_cost (kc2 := 0) (ks2 := 0) ⟨rfl, rfl⟩ ?_
    refine zg_iconst (v := 0) ok dX2_load_58 (by decide) ?_
    refine zg_istore_n (L' := [(2, .int 0), (0, va_rf a0), (1, .int a1)]) ok dX2_load_59 rfl (by decide) rfl ?_
    refine zg_sub (L' := [(0, va_rf a0), (2, .int 0)]) [1, 0] rfl ?_
    refine gt_f_X2_load_L60 hl ok tab fin hRm ⟨Nat.le_of_ble_eq_true rfl, Nat.le_of_ble_eq_true rfl⟩ ?_ _ _ _ hE
    · intro h10 hE
      refine zg_aload_n ok dX2_load_79 rfl 0 rfl ?_
      refine zg_callV (vs := []) (rest := []) (rm := rm_X2_readsText) ok hRm lk_X2_153 dX2_load_80 hE (fun hE => mt_X2_readsText hl hE) rfl (Nat.le_of_ble_eq_true rfl) ⟨⟨Nat.le_of_ble_eq_true rfl, Nat.le_of_ble_eq_true rfl⟩, Nat.le_of_ble_eq_true rfl, Nat.le_of_ble_eq_true rfl⟩ (zg_retV (fun h11 hE => ?_)) (zg_xok ok tab fin ⟨Nat.le_of_ble_eq_true rfl, Nat.le_of_ble_eq_true rfl⟩)
      refine zg_cost (kc2 := 0) (ks2 := 0) ⟨rfl, rfl⟩ ?_
      refine zg_aload_n ok dX2_load_83 rfl 0 rfl ?_
      refine zg_getI ok lf_X2_71 dX2_load_84 hE (fun v8 hE => ?_)
      refine zg_if_le (tgt := 110) ok dX2_load_87 (by decide) hE (fun hE => ?_) (fun hE => ?_)
      · refine zg_aload_n ok dX2_load_110 rfl 0 rfl ?_
        refine zg_iconst (v := 1) ok dX2_load_111 (by decide) ?_
        refine zg_put (ty := .boolean) ok lf_X2_156 (Or.inl rfl) (by decide) (by decide +kernel) rfl rfl dX2_load_112 hE (fun h12 hE => ?_)
        refine zg_aload_n ok dX2_load_115 rfl 0 rfl ?_
        refine zg_iconst (v := 0) ok dX2_load_116 (by decide) ?_
        refine zg_put (ty := .int) ok lf_X2_160 (Or.inl rfl) (by decide) (by decide +kernel) rfl rfl dX2_load_117 hE (fun h13 hE => ?_)
        refine zg_aload_n ok dX2_load_120 rfl 0 rfl ?_
        refine zg_getA ok lf_X2_22 dX2_load_121 hE (fun v9 hE => ?_)
        refine zg_iconst (v := 0) ok dX2_load_124 (by decide) ?_
        refine zg_iconst (v := 0) ok dX2_load_125 (by decide) ?_
        refine zg_zast ok dX2_load_126 hE (fun h14 hE => ?_)
        refine zg_aload_n ok dX2_load_127 rfl 0 rfl ?_
        refine zg_getA ok lf_X2_22 dX2_load_128 hE (fun v10 hE => ?_)
        refine zg_iconst (v := 1) ok dX2_load_131 (by decide) ?_
        refine zg_iconst (v := 0) ok dX2_load_132 (by decide) ?_
        refine zg_zast ok dX2_load_133 hE (fun h15 hE => ?_)
        refine zg_aload_n ok dX2_load_134 rfl 0 rfl ?_
        refine zg_getA ok lf_X2_9 dX2_load_135 hE (fun v11 hE => ?_)
        refine zg_iconst (v := 0) ok dX2_load_138 (by decide) ?_
        refine zg_iald ok dX2_load_139 hE (fun v12 hE => ?_)
        exact zg_iret ok fin dX2_load_140 ⟨Nat.le_of_ble_eq_true rfl, Nat.le_of_ble_eq_true rfl⟩ hE
      · refine zg_aload_n ok dX2_load_90 rfl 0 rfl ?_
        refine zg_getA ok lf_X2_13 dX2_load_91 hE (fun v13 hE => ?_)
        refine zg_iconst (v := 0) ok dX2_load_94 (by decide) ?_
        refine zg_aload_n ok dX2_load_95 rfl 0 rfl ?_
        refine zg_getA ok lf_X2_9 dX2_load_96 hE (fun v14 hE => ?_)
        refine zg_iconst (v := 0) ok dX2_load_99 (by decide) ?_
        refine zg_callS (vs := [zA v13, zI 0, zA v14, zI 0]) (rest := []) (rm := rm_X2_lays) ok hRm lk_X2_149 dX2_load_100 hE (fun hE => mt_X2_lays hl hE) rfl (Nat.le_of_ble_eq_true rfl) ⟨⟨Nat.le_of_ble_eq_true rfl, Nat.le_of_ble_eq_true rfl⟩, Nat.le_of_ble_eq_true rfl, Nat.le_of_ble_eq_true rfl⟩ (zg_retV (fun h16 hE => ?_)) (zg_xok ok tab fin ⟨Nat.le_of_ble_eq_true rfl, Nat.le_of_ble_eq_true rfl⟩)
        refine zg_cost (kc2 := 0) (ks2 := 0) ⟨rfl, rfl⟩ ?_
        refine zg_aload_n ok dX2_load_103 rfl 0 rfl ?_
        refine zg_iconst (v := 2) ok dX2_load_104 (by decide) ?_
        refine zg_put (ty := .int) ok lf_X2_57 (Or.inl rfl) (by decide) (by decide +kernel) rfl rfl dX2_load_105 hE (fun h17 hE => ?_)
        refine zg_iconst (v := 0) ok dX2_load_108 (by decide) ?_
        exact zg_iret ok fin dX2_load_109 ⟨Nat.le_of_ble_eq_true rfl, Nat.le_of_ble_eq_true rfl⟩ hE
  · refine zg_iconst (v := 0) ok dX2_load_18 (by decide) ?_
    exact zg_iret ok fin dX2_load_19 ⟨Nat.le_of_ble_eq_true rfl, Nat.le_of_ble_eq_true rfl⟩ hE
set_option maxHeartbeats 8000000 in
theorem mt_X2_mayTwo {l : Launch} (hl : l.stackTraces = false) {Z : zw_Z} {a0 : Option Nat} {a1 : Int32} {a2 : Int32} {h : zw_H} {Q : Int32 → zw_H → Prop} {X : String → Nat → zw_H → Prop} (hE : f_X2_mayTwo Z.2.2.2 a0 a1 a2 h Q X) : zw_Met l Z yX2_mayTwo (ws_ yX2_mayTwo cX2_mayTwo 3 (Option.some Jvm.ClassFile.FieldType.boolean)) rm_X2_mayTwo [zA a0, zI a1, zI a2] h (zq_I Q) X := by
  refine zg_start (own := "MultipoleLineModel") (by decide +kernel) rfl (Nat.le_of_ble_eq_true rfl) hl (fun Xc ok tab fin hRm hXl hXZ => ?_)
  subst hXl
  subst hXZ
  unfold f_X2_mayTwo at hE
  refine zg_aload_n ok dX2_mayTwo_0 rfl 0 rfl ?_
  refine zg_iload_n ok dX2_mayTwo_1 rfl 1 rfl ?_
  refine zg_iload_n ok dX2_mayTwo_2 rfl 2 rfl ?_
  refine zg_iconst (v := 1) ok dX2_mayTwo_3 (by decide) ?_
  refine zg_callV (vs := [zI a1, zI a2, zI 1]) (rest := []) (rm := rm_X2_may) ok hRm lk_X2_60 dX2_mayTwo_4 hE (fun hE => mt_X2_may hl hE) rfl (Nat.le_of_ble_eq_true rfl) ⟨⟨Nat.le_of_ble_eq_true rfl, Nat.le_of_ble_eq_true rfl⟩, Nat.le_of_ble_eq_true rfl, Nat.le_of_ble_eq_true rfl⟩ (zg_retI (fun v1 h1 hE => ?_)) (zg_xok ok tab fin ⟨Nat.le_of_ble_eq_true rfl, Nat.le_of_ble_eq_true rfl⟩)
  refine zg_cost (kc2 := 0) (ks2 := 0) ⟨rfl, rfl⟩ ?_
  exact zg_zretE (ret := none) ok fin dX2_mayTwo_7 ⟨Nat.le_of_ble_eq_true rfl, Nat.le_of_ble_eq_true rfl⟩ hE
set_option maxHeartbeats 8000000 in
theorem gt_f_X2_fixedMany_B4 {Xc : zw_X} {Q : Int32 → zw_H → Prop} {X : String → Nat → zw_H → Prop} (hl : (zw_l Xc).stackTraces = false) (ok : zw_ok Xc cX2_fixedMany "MultipoleLineModel" yX2_fixedMany.name 3) (tab : zw_tab Xc []) (fin : zw_fin Xc (Option.some Jvm.ClassFile.FieldType.int) (zq_I Q) X 0 0) (hRm : zw_rm Xc = rm_X2_fixedMany) {kc ks : Nat} (hb : kc ≤ 0 ∧ ks ≤ 0) {R : Int32 → Int32 → zw_H → Prop} {l0 : Option Nat} (hR : ∀ (l1 : Int32) (l2 : Int32) (h : zw_H), R l1 l2 h → zw_G Xc kc ks 3 h 4 [(0, va_rf l0), (1, .int l1), (2, .int l2)] []) {k29 : Int32 → zw_H → Prop} (hk29 : ∀ (l1 : Int32) (h : zw_H), k29 l1 h → zw_G Xc kc ks 3 h 29 [(1, .int l1)] [])  {l1 : Int32} {l2 : Int32} {h : zw_H} (hE : f_X2_fixedMany_B4 (zw_Zf Xc).2.2.2 Q X k29 l0 R l1 l2 h) : zw_G Xc kc ks 3 h 4 [(0, va_rf l0), (1, .int l1), (2, .int l2)] [] := by
  unfold f_X2_fixedMany_B4 at hE
  refine zg_iload_n ok dX2_fixedMany_4 rfl 2 rfl ?_
  refine zg_aload_n ok dX2_fixedMany_5 rfl 0 rfl ?_
  refine zg_getA ok lf_X2_9 dX2_fixedMany_6 hE (fun v1 hE => ?_)
  refine zg_iconst (v := 0) ok dX2_fixedMany_9 (by decide) ?_
  refine zg_iald ok dX2_fixedMany_10 hE (fun v2 hE => ?_)
  refine zg_icmp_ge (tgt := 29) ok dX2_fixedMany_11 (by decide) hE (fun hE => ?_) (fun hE => ?_)
  · refine zg_sub (L' := [(1, .int l1)]) [1] rfl ?_
    exact hk29 _ _ hE
  · refine zg_iload_n ok dX2_fixedMany_14 rfl 1 rfl ?_
    refine zg_aload_n ok dX2_fixedMany_15 rfl 0 rfl ?_
    refine zg_iload_n ok dX2_fixedMany_16 rfl 2 rfl ?_
    refine zg_iconst (v := 2) ok dX2_fixedMany_17 (by decide) ?_
    refine zg_callV (vs := [zI l2, zI 2]) (rest := [.int l1]) (rm := rm_X2_of) ok hRm lk_X2_163 dX2_fixedMany_18 hE (fun hE => mt_X2_of hl hE) rfl (Nat.le_of_ble_eq_true rfl) ⟨⟨Nat.le_of_ble_eq_true rfl, Nat.le_of_ble_eq_true rfl⟩, (by show kc + 0 ≤ 0; omega), (by show ks + 0 ≤ 0; omega)⟩ (zg_retI (fun v3 h1 hE => ?_)) (zg_xok ok tab fin ⟨(by show kc + 0 ≤ 0; omega), (by show ks + 0 ≤ 0; omega)⟩)
    refine zg_cost (kc2 := kc) (ks2 := ks) ⟨(by show kc + 0 = kc; omega), (by show ks + 0 = ks; omega)⟩ ?_
    refine zg_iadd ok dX2_fixedMany_21 ?_
    refine zg_letI hE (fun v4 hE => ?_)
    refine zg_istore_nR (L' := [(1, .int v4), (0, va_rf l0), (2, .int l2)]) ok dX2_fixedMany_22 rfl (by decide) 0 rfl rfl rfl ?_
    refine zg_iincL (k := 2) (L' := fun v5 => [(2, .int v5), (1, .int v4), (0, va_rf l0)]) ok dX2_fixedMany_23 (by decide +kernel) hE rfl (by decide) (fun _ => rfl) (fun v5 hE => ?_)
    refine zg_goto (tgt := 4) ok dX2_fixedMany_26 (by decide) ?_
    refine zg_sub (L' := [(0, va_rf l0), (1, .int v4), (2, .int v5)]) [2, 1, 0] rfl ?_
    exact hR _ _ _ hE
theorem gt_f_X2_fixedMany_L4 {Xc : zw_X} {Q : Int32 → zw_H → Prop} {X : String → Nat → zw_H → Prop} (hl : (zw_l Xc).stackTraces = false) (ok : zw_ok Xc cX2_fixedMany "MultipoleLineModel" yX2_fixedMany.name 3) (tab : zw_tab Xc []) (fin : zw_fin Xc (Option.some Jvm.ClassFile.FieldType.int) (zq_I Q) X 0 0) (hRm : zw_rm Xc = rm_X2_fixedMany) {kc ks : Nat} (hb : kc ≤ 0 ∧ ks ≤ 0) {l0 : Option Nat} {k29 : Int32 → zw_H → Prop} (hk29 : ∀ (l1 : Int32) (h : zw_H), k29 l1 h → zw_G Xc kc ks 3 h 29 [(1, .int l1)] [])  : ∀ (n9 : Nat) (l1 : Int32) (l2 : Int32) (h : zw_H), zl3 (f_X2_fixedMany_B4 (zw_Zf Xc).2.2.2 Q X k29 l0) n9 l1 l2 h → zw_G Xc kc ks 3 h 4 [(0, va_rf l0), (1, .int l1), (2, .int l2)] [] := by
  intro n9
  induction n9 with
  | zero => intro l1 l2 h hE; exact hE.elim
  | succ n9 ih => intro l1 l2 h hE; exact gt_f_X2_fixedMany_B4 hl ok tab fin hRm hb ih hk29 hE
set_option maxHeartbeats 8000000 in
theorem mt_X2_fixedMany {l : Launch} (hl : l.stackTraces = false) {Z : zw_Z} {a0 : Option Nat} {h : zw_H} {Q : Int32 → zw_H → Prop} {X : String → Nat → zw_H → Prop} (hE : f_X2_fixedMany Z.2.2.2 a0 h Q X) : zw_Met l Z yX2_fixedMany (ws_ yX2_fixedMany cX2_fixedMany 3 (Option.some Jvm.ClassFile.FieldType.int)) rm_X2_fixedMany [zA a0] h (zq_I Q) X := by
  refine zg_start (own := "MultipoleLineModel") (by decide +kernel) rfl (Nat.le_of_ble_eq_true rfl) hl (fun Xc ok tab fin hRm hXl hXZ => ?_)
  subst hXl
  subst hXZ
  unfold f_X2_fixedMany at hE
  refine zg_iconst (v := 0) ok dX2_fixedMany_0 (by decide) ?_
  refine zg_istore_nR (L' := [(1, .int 0), (0, va_rf a0)]) ok dX2_fixedMany_1 rfl (by decide) 0 rfl rfl rfl ?_
  refine zg_iconst (v := 0) ok dX2_fixedMany_2 (by decide) ?_
  refine zg_istore_n (L' := [(2, .int 0), (1, .int 0), (0, va_rf a0)]) ok dX2_fixedMany_3 rfl (by decide) rfl ?_
  refine zg_sub (L' := [(0, va_rf a0), (1, .int 0), (2, .int 0)]) [2, 1, 0] rfl ?_
  refine gt_f_X2_fixedMany_L4 hl ok tab fin hRm ⟨Nat.le_of_ble_eq_true rfl, Nat.le_of_ble_eq_true rfl⟩ ?_ _ _ _ _ hE
  · intro v6 h2 hE
    refine zg_iload_n ok dX2_fixedMany_29 rfl 0 rfl ?_
    exact zg_iret ok fin dX2_fixedMany_30 ⟨Nat.le_of_ble_eq_true rfl, Nat.le_of_ble_eq_true rfl⟩ hE
set_option maxHeartbeats 8000000 in
theorem mt_X2_wide {l : Launch} (hl : l.stackTraces = false) {Z : zw_Z} {a0 : Int32} {h : zw_H} {Q : Int32 → zw_H → Prop} {X : String → Nat → zw_H → Prop} (hE : f_X2_wide Z.2.2.2 a0 h Q X) : zw_Met l Z yX2_wide (ws_ yX2_wide cX2_wide 1 (Option.some Jvm.ClassFile.FieldType.int)) rm_X2_wide [zI a0] h (zq_I Q) X := by
  refine zg_start (own := "MultipoleLineModel") (by decide +kernel) rfl (Nat.le_of_ble_eq_true rfl) hl (fun Xc ok tab fin hRm hXl hXZ => ?_)
  subst hXl
  subst hXZ
  unfold f_X2_wide at hE
  refine zg_sipush (v := 256) ok dX2_wide_0 (by decide) ?_
  refine zg_iload_n ok dX2_wide_3 rfl 0 rfl ?_
  refine zg_ishr ok dX2_wide_4 ?_
  exact zg_iret ok fin dX2_wide_5 ⟨Nat.le_of_ble_eq_true rfl, Nat.le_of_ble_eq_true rfl⟩ hE
set_option maxHeartbeats 8000000 in
theorem mt_X2_boxOf {l : Launch} (hl : l.stackTraces = false) {Z : zw_Z} {a0 : Int32} {a1 : Int32} {h : zw_H} {Q : Int32 → zw_H → Prop} {X : String → Nat → zw_H → Prop} (hE : f_X2_boxOf Z.2.2.2 a0 a1 h Q X) : zw_Met l Z yX2_boxOf (ws_ yX2_boxOf cX2_boxOf 2 (Option.some Jvm.ClassFile.FieldType.int)) rm_X2_boxOf [zI a0, zI a1] h (zq_I Q) X := by
  refine zg_start (own := "MultipoleLineModel") (by decide +kernel) rfl (Nat.le_of_ble_eq_true rfl) hl (fun Xc ok tab fin hRm hXl hXZ => ?_)
  subst hXl
  subst hXZ
  unfold f_X2_boxOf at hE
  refine zg_iload_n ok dX2_boxOf_0 rfl 1 rfl ?_
  refine zg_iload_n ok dX2_boxOf_1 rfl 0 rfl ?_
  refine zg_callS (vs := [zI a0]) (rest := [.int a1]) (rm := rm_X2_wide) ok hRm lk_X2_174 dX2_boxOf_2 hE (fun hE => mt_X2_wide hl hE) rfl (Nat.le_of_ble_eq_true rfl) ⟨⟨Nat.le_of_ble_eq_true rfl, Nat.le_of_ble_eq_true rfl⟩, Nat.le_of_ble_eq_true rfl, Nat.le_of_ble_eq_true rfl⟩ (zg_retI (fun v1 h1 hE => ?_)) (zg_xok ok tab fin ⟨Nat.le_of_ble_eq_true rfl, Nat.le_of_ble_eq_true rfl⟩)
  refine zg_cost (kc2 := 0) (ks2 := 0) ⟨rfl, rfl⟩ ?_
  refine zg_idivE ok dX2_boxOf_5 hE (fun hE => ?_)
  exact zg_iret ok fin dX2_boxOf_6 ⟨Nat.le_of_ble_eq_true rfl, Nat.le_of_ble_eq_true rfl⟩ hE
set_option maxHeartbeats 8000000 in
theorem mt_X2_isIn {l : Launch} (hl : l.stackTraces = false) {Z : zw_Z} {a0 : Option Nat} {a1 : Int32} {a2 : Int32} {a3 : Int32} {h : zw_H} {Q : Int32 → zw_H → Prop} {X : String → Nat → zw_H → Prop} (hE : f_X2_isIn Z.2.2.2 a0 a1 a2 a3 h Q X) : zw_Met l Z yX2_isIn (ws_ yX2_isIn cX2_isIn 4 (Option.some Jvm.ClassFile.FieldType.boolean)) rm_X2_isIn [zA a0, zI a1, zI a2, zI a3] h (zq_I Q) X := by
  refine zg_start (own := "MultipoleLineModel") (by decide +kernel) rfl (Nat.le_of_ble_eq_true rfl) hl (fun Xc ok tab fin hRm hXl hXZ => ?_)
  subst hXl
  subst hXZ
  unfold f_X2_isIn at hE
  refine zg_iload_n ok dX2_isIn_0 rfl 2 rfl ?_
  refine zg_aload_n ok dX2_isIn_1 rfl 0 rfl ?_
  refine zg_iload_n ok dX2_isIn_2 rfl 1 rfl ?_
  refine zg_iconst (v := 0) ok dX2_isIn_3 (by decide) ?_
  refine zg_callV (vs := [zI a1, zI 0]) (rest := [.int a2]) (rm := rm_X2_of) ok hRm lk_X2_163 dX2_isIn_4 hE (fun hE => mt_X2_of hl hE) rfl (Nat.le_of_ble_eq_true rfl) ⟨⟨Nat.le_of_ble_eq_true rfl, Nat.le_of_ble_eq_true rfl⟩, Nat.le_of_ble_eq_true rfl, Nat.le_of_ble_eq_true rfl⟩ (zg_retI (fun v1 h1 hE => ?_)) (zg_xok ok tab fin ⟨Nat.le_of_ble_eq_true rfl, Nat.le_of_ble_eq_true rfl⟩)
  refine zg_cost (kc2 := 0) (ks2 := 0) ⟨rfl, rfl⟩ ?_
  refine zg_callS (vs := [zI a2, zI v1]) (rest := []) (rm := rm_X2_boxOf) ok hRm lk_X2_178 dX2_isIn_7 hE (fun hE => mt_X2_boxOf hl hE) rfl (Nat.le_of_ble_eq_true rfl) ⟨⟨Nat.le_of_ble_eq_true rfl, Nat.le_of_ble_eq_true rfl⟩, Nat.le_of_ble_eq_true rfl, Nat.le_of_ble_eq_true rfl⟩ (zg_retI (fun v2 h2 hE => ?_)) (zg_xok ok tab fin ⟨Nat.le_of_ble_eq_true rfl, Nat.le_of_ble_eq_true rfl⟩)
  refine zg_cost (kc2 := 0) (ks2 := 0) ⟨rfl, rfl⟩ ?_
  refine zg_iload_n ok dX2_isIn_10 rfl 3 rfl ?_
  refine zg_icmp_ne (tgt := 18) ok dX2_isIn_11 (by decide) hE (fun hE => ?_) (fun hE => ?_)
  · refine zg_iconst (v := 0) ok dX2_isIn_18 (by decide) ?_
    exact zg_zret ok fin dX2_isIn_19 ⟨Nat.le_of_ble_eq_true rfl, Nat.le_of_ble_eq_true rfl⟩ rfl hE
  · refine zg_iconst (v := 1) ok dX2_isIn_14 (by decide) ?_
    refine zg_goto (tgt := 19) ok dX2_isIn_15 (by decide) ?_
    exact zg_zret ok fin dX2_isIn_19 ⟨Nat.le_of_ble_eq_true rfl, Nat.le_of_ble_eq_true rfl⟩ rfl hE
set_option maxHeartbeats 8000000 in
theorem mt_X2_far {l : Launch} (hl : l.stackTraces = false) {Z : zw_Z} {a0 : Int32} {a1 : Int32} {h : zw_H} {Q : Int32 → zw_H → Prop} {X : String → Nat → zw_H → Prop} (hE : f_X2_far Z.2.2.2 a0 a1 h Q X) : zw_Met l Z yX2_far (ws_ yX2_far cX2_far 2 (Option.some Jvm.ClassFile.FieldType.int)) rm_X2_far [zI a0, zI a1] h (zq_I Q) X := by
  refine zg_start (own := "MultipoleLineModel") (by decide +kernel) rfl (Nat.le_of_ble_eq_true rfl) hl (fun Xc ok tab fin hRm hXl hXZ => ?_)
  subst hXl
  subst hXZ
  unfold f_X2_far at hE
  refine zg_iload_n ok dX2_far_0 rfl 0 rfl ?_
  refine zg_iload_n ok dX2_far_1 rfl 1 rfl ?_
  refine zg_icmp_ge (tgt := 11) ok dX2_far_2 (by decide) hE (fun hE => ?_) (fun hE => ?_)
  · refine zg_iload_n ok dX2_far_11 rfl 0 rfl ?_
    refine zg_iload_n ok dX2_far_12 rfl 1 rfl ?_
    refine zg_isub ok dX2_far_13 ?_
    exact zg_iret ok fin dX2_far_14 ⟨Nat.le_of_ble_eq_true rfl, Nat.le_of_ble_eq_true rfl⟩ hE
  · refine zg_iload_n ok dX2_far_5 rfl 1 rfl ?_
    refine zg_iload_n ok dX2_far_6 rfl 0 rfl ?_
    refine zg_isub ok dX2_far_7 ?_
    refine zg_goto (tgt := 14) ok dX2_far_8 (by decide) ?_
    exact zg_iret ok fin dX2_far_14 ⟨Nat.le_of_ble_eq_true rfl, Nat.le_of_ble_eq_true rfl⟩ hE
set_option maxHeartbeats 8000000 in
theorem gt_f_X2_charge_J61 {Xc : zw_X} {Q : Int32 → zw_H → Prop} {X : String → Nat → zw_H → Prop} (hl : (zw_l Xc).stackTraces = false) (ok : zw_ok Xc cX2_charge "MultipoleLineModel" yX2_charge.name 6) (tab : zw_tab Xc []) (fin : zw_fin Xc (Option.some Jvm.ClassFile.FieldType.int) (zq_I Q) X 0 0) (hRm : zw_rm Xc = rm_X2_charge) {kc ks : Nat} (hb : kc ≤ 0 ∧ ks ≤ 0) {R : Int32 → Int32 → zw_H → Prop} {l0 : Option Nat} {l1 : Int32} {l2 : Int32} {l3 : Int32} (hR : ∀ (l4 : Int32) (l5 : Int32) (h : zw_H), R l4 l5 h → zw_G Xc kc ks 6 h 6 [(0, va_rf l0), (1, .int l1), (2, .int l2), (3, .int l3), (4, .int l4), (5, .int l5)] []) {k67 : Int32 → zw_H → Prop} (hk67 : ∀ (l4 : Int32) (h : zw_H), k67 l4 h → zw_G Xc kc ks 6 h 67 [(4, .int l4)] [])  {l4 : Int32} {l5 : Int32}  {h : zw_H} (hE : f_X2_charge_J61 (zw_Zf Xc).2.2.2 Q X R k67 l0 l1 l2 l3 l4 l5 h) : zw_G Xc kc ks 6 h 61 [(0, va_rf l0), (1, .int l1), (2, .int l2), (3, .int l3), (4, .int l4), (5, .int l5)] [] := by
  unfold f_X2_charge_J61 at hE
  refine zg_iincL (k := 5) (L' := fun v6 => [(5, .int v6), (0, va_rf l0), (1, .int l1), (2, .int l2), (3, .int l3), (4, .int l4)]) ok dX2_charge_61 (by decide +kernel) hE rfl (by decide) (fun _ => rfl) (fun v6 hE => ?_)
  refine zg_goto (tgt := 6) ok dX2_charge_64 (by decide) ?_
  refine zg_sub (L' := [(0, va_rf l0), (1, .int l1), (2, .int l2), (3, .int l3), (4, .int l4), (5, .int v6)]) [1, 2, 3, 4, 5, 0] rfl ?_
  exact hR _ _ _ hE
set_option maxHeartbeats 8000000 in
theorem gt_f_X2_charge_J58 {Xc : zw_X} {Q : Int32 → zw_H → Prop} {X : String → Nat → zw_H → Prop} (hl : (zw_l Xc).stackTraces = false) (ok : zw_ok Xc cX2_charge "MultipoleLineModel" yX2_charge.name 6) (tab : zw_tab Xc []) (fin : zw_fin Xc (Option.some Jvm.ClassFile.FieldType.int) (zq_I Q) X 0 0) (hRm : zw_rm Xc = rm_X2_charge) {kc ks : Nat} (hb : kc ≤ 0 ∧ ks ≤ 0) {R : Int32 → Int32 → zw_H → Prop} {l0 : Option Nat} {l1 : Int32} {l2 : Int32} {l3 : Int32} (hR : ∀ (l4 : Int32) (l5 : Int32) (h : zw_H), R l4 l5 h → zw_G Xc kc ks 6 h 6 [(0, va_rf l0), (1, .int l1), (2, .int l2), (3, .int l3), (4, .int l4), (5, .int l5)] []) {k67 : Int32 → zw_H → Prop} (hk67 : ∀ (l4 : Int32) (h : zw_H), k67 l4 h → zw_G Xc kc ks 6 h 67 [(4, .int l4)] [])  {l5 : Int32} {s0 : Int32} {s1 : Int32} {h : zw_H} (hE : f_X2_charge_J58 (zw_Zf Xc).2.2.2 Q X R k67 l0 l1 l2 l3 l5 s0 s1 h) : zw_G Xc kc ks 6 h 58 [(0, va_rf l0), (1, .int l1), (2, .int l2), (3, .int l3), (5, .int l5)] [.int s0, .int s1] := by
  unfold f_X2_charge_J58 at hE
  refine zg_iadd ok dX2_charge_58 ?_
  refine zg_letI hE (fun v5 hE => ?_)
  refine zg_istore (L' := [(4, .int v5), (0, va_rf l0), (1, .int l1), (2, .int l2), (3, .int l3), (5, .int l5)]) ok dX2_charge_59 (by decide) rfl ?_
  refine zg_sub (L' := [(0, va_rf l0), (1, .int l1), (2, .int l2), (3, .int l3), (4, .int v5), (5, .int l5)]) [1, 2, 3, 4, 0, 5] rfl ?_
  exact gt_f_X2_charge_J61 hl ok tab fin hRm hb hR hk67 hE
set_option maxHeartbeats 8000000 in
theorem gt_f_X2_charge_B6 {Xc : zw_X} {Q : Int32 → zw_H → Prop} {X : String → Nat → zw_H → Prop} (hl : (zw_l Xc).stackTraces = false) (ok : zw_ok Xc cX2_charge "MultipoleLineModel" yX2_charge.name 6) (tab : zw_tab Xc []) (fin : zw_fin Xc (Option.some Jvm.ClassFile.FieldType.int) (zq_I Q) X 0 0) (hRm : zw_rm Xc = rm_X2_charge) {kc ks : Nat} (hb : kc ≤ 0 ∧ ks ≤ 0) {R : Int32 → Int32 → zw_H → Prop} {l0 : Option Nat} {l1 : Int32} {l2 : Int32} {l3 : Int32} (hR : ∀ (l4 : Int32) (l5 : Int32) (h : zw_H), R l4 l5 h → zw_G Xc kc ks 6 h 6 [(0, va_rf l0), (1, .int l1), (2, .int l2), (3, .int l3), (4, .int l4), (5, .int l5)] []) {k67 : Int32 → zw_H → Prop} (hk67 : ∀ (l4 : Int32) (h : zw_H), k67 l4 h → zw_G Xc kc ks 6 h 67 [(4, .int l4)] [])  {l4 : Int32} {l5 : Int32} {h : zw_H} (hE : f_X2_charge_B6 (zw_Zf Xc).2.2.2 Q X k67 l0 l1 l2 l3 R l4 l5 h) : zw_G Xc kc ks 6 h 6 [(0, va_rf l0), (1, .int l1), (2, .int l2), (3, .int l3), (4, .int l4), (5, .int l5)] [] := by
  unfold f_X2_charge_B6 at hE
  refine zg_iload ok dX2_charge_6 5 rfl ?_
  refine zg_aload_n ok dX2_charge_8 rfl 0 rfl ?_
  refine zg_getA ok lf_X2_9 dX2_charge_9 hE (fun v1 hE => ?_)
  refine zg_iconst (v := 0) ok dX2_charge_12 (by decide) ?_
  refine zg_iald ok dX2_charge_13 hE (fun v2 hE => ?_)
  refine zg_icmp_ge (tgt := 67) ok dX2_charge_14 (by decide) hE (fun hE => ?_) (fun hE => ?_)
  · refine zg_sub (L' := [(4, .int l4)]) [4] rfl ?_
    exact hk67 _ _ hE
  · refine zg_aload_n ok dX2_charge_17 rfl 0 rfl ?_
    refine zg_iload ok dX2_charge_18 5 rfl ?_
    refine zg_iload_n ok dX2_charge_20 rfl 1 rfl ?_
    refine zg_iload_n ok dX2_charge_21 rfl 2 rfl ?_
    refine zg_callV (vs := [zI l5, zI l1, zI l2]) (rest := []) (rm := rm_X2_isIn) ok hRm lk_X2_184 dX2_charge_22 hE (fun hE => mt_X2_isIn hl hE) rfl (Nat.le_of_ble_eq_true rfl) ⟨⟨Nat.le_of_ble_eq_true rfl, Nat.le_of_ble_eq_true rfl⟩, (by show kc + 0 ≤ 0; omega), (by show ks + 0 ≤ 0; omega)⟩ (zg_retI (fun v3 h1 hE => ?_)) (zg_xok ok tab fin ⟨(by show kc + 0 ≤ 0; omega), (by show ks + 0 ≤ 0; omega)⟩)
    refine zg_cost (kc2 := kc) (ks2 := ks) ⟨(by show kc + 0 = kc; omega), (by show ks + 0 = ks; omega)⟩ ?_
    refine zg_if_ne (tgt := 31) ok dX2_charge_25 (by decide) hE (fun hE => ?_) (fun hE => ?_)
    · refine zg_iload ok dX2_charge_31 4 rfl ?_
      refine zg_iload_n ok dX2_charge_33 rfl 3 rfl ?_
      refine zg_if_eq (tgt := 51) ok dX2_charge_34 (by decide) hE (fun hE => ?_) (fun hE => ?_)
      · refine zg_aload_n ok dX2_charge_51 rfl 0 rfl ?_
        refine zg_iload ok dX2_charge_52 5 rfl ?_
        refine zg_iconst (v := 1) ok dX2_charge_54 (by decide) ?_
        refine zg_callV (vs := [zI l5, zI 1]) (rest := [.int l4]) (rm := rm_X2_of) ok hRm lk_X2_163 dX2_charge_55 hE (fun hE => mt_X2_of hl hE) rfl (Nat.le_of_ble_eq_true rfl) ⟨⟨Nat.le_of_ble_eq_true rfl, Nat.le_of_ble_eq_true rfl⟩, (by show kc + 0 ≤ 0; omega), (by show ks + 0 ≤ 0; omega)⟩ (zg_retI (fun v4 h2 hE => ?_)) (zg_xok ok tab fin ⟨(by show kc + 0 ≤ 0; omega), (by show ks + 0 ≤ 0; omega)⟩)
        refine zg_cost (kc2 := kc) (ks2 := ks) ⟨(by show kc + 0 = kc; omega), (by show ks + 0 = ks; omega)⟩ ?_
        refine zg_sub (L' := [(0, va_rf l0), (1, .int l1), (2, .int l2), (3, .int l3), (5, .int l5)]) [0, 1, 2, 3, 5] rfl ?_
        exact gt_f_X2_charge_J58 hl ok tab fin hRm hb hR hk67 hE
      · refine zg_aload_n ok dX2_charge_37 rfl 0 rfl ?_
        refine zg_iload ok dX2_charge_38 5 rfl ?_
        refine zg_iconst (v := 1) ok dX2_charge_40 (by decide) ?_
        refine zg_callV (vs := [zI l5, zI 1]) (rest := [.int l4]) (rm := rm_X2_of) ok hRm lk_X2_163 dX2_charge_41 hE (fun hE => mt_X2_of hl hE) rfl (Nat.le_of_ble_eq_true rfl) ⟨⟨Nat.le_of_ble_eq_true rfl, Nat.le_of_ble_eq_true rfl⟩, (by show kc + 0 ≤ 0; omega), (by show ks + 0 ≤ 0; omega)⟩ (zg_retI (fun v7 h3 hE => ?_)) (zg_xok ok tab fin ⟨(by show kc + 0 ≤ 0; omega), (by show ks + 0 ≤ 0; omega)⟩)
        refine zg_cost (kc2 := kc) (ks2 := ks) ⟨(by show kc + 0 = kc; omega), (by show ks + 0 = ks; omega)⟩ ?_
        refine zg_iconst (v := 0) ok dX2_charge_44 (by decide) ?_
        refine zg_callS (vs := [zI v7, zI 0]) (rest := [.int l4]) (rm := rm_X2_far) ok hRm lk_X2_187 dX2_charge_45 hE (fun hE => mt_X2_far hl hE) rfl (Nat.le_of_ble_eq_true rfl) ⟨⟨Nat.le_of_ble_eq_true rfl, Nat.le_of_ble_eq_true rfl⟩, (by show kc + 0 ≤ 0; omega), (by show ks + 0 ≤ 0; omega)⟩ (zg_retI (fun v8 h4 hE => ?_)) (zg_xok ok tab fin ⟨(by show kc + 0 ≤ 0; omega), (by show ks + 0 ≤ 0; omega)⟩)
        refine zg_cost (kc2 := kc) (ks2 := ks) ⟨(by show kc + 0 = kc; omega), (by show ks + 0 = ks; omega)⟩ ?_
        refine zg_goto (tgt := 58) ok dX2_charge_48 (by decide) ?_
        refine zg_sub (L' := [(0, va_rf l0), (1, .int l1), (2, .int l2), (3, .int l3), (5, .int l5)]) [0, 1, 2, 3, 5] rfl ?_
        exact gt_f_X2_charge_J58 hl ok tab fin hRm hb hR hk67 hE
    · refine zg_goto (tgt := 61) ok dX2_charge_28 (by decide) ?_
      exact gt_f_X2_charge_J61 hl ok tab fin hRm hb hR hk67 hE
theorem gt_f_X2_charge_L6 {Xc : zw_X} {Q : Int32 → zw_H → Prop} {X : String → Nat → zw_H → Prop} (hl : (zw_l Xc).stackTraces = false) (ok : zw_ok Xc cX2_charge "MultipoleLineModel" yX2_charge.name 6) (tab : zw_tab Xc []) (fin : zw_fin Xc (Option.some Jvm.ClassFile.FieldType.int) (zq_I Q) X 0 0) (hRm : zw_rm Xc = rm_X2_charge) {kc ks : Nat} (hb : kc ≤ 0 ∧ ks ≤ 0) {l0 : Option Nat} {l1 : Int32} {l2 : Int32} {l3 : Int32} {k67 : Int32 → zw_H → Prop} (hk67 : ∀ (l4 : Int32) (h : zw_H), k67 l4 h → zw_G Xc kc ks 6 h 67 [(4, .int l4)] [])  : ∀ (n9 : Nat) (l4 : Int32) (l5 : Int32) (h : zw_H), zl3 (f_X2_charge_B6 (zw_Zf Xc).2.2.2 Q X k67 l0 l1 l2 l3) n9 l4 l5 h → zw_G Xc kc ks 6 h 6 [(0, va_rf l0), (1, .int l1), (2, .int l2), (3, .int l3), (4, .int l4), (5, .int l5)] [] := by
  intro n9
  induction n9 with
  | zero => intro l4 l5 h hE; exact hE.elim
  | succ n9 ih => intro l4 l5 h hE; exact gt_f_X2_charge_B6 hl ok tab fin hRm hb ih hk67 hE
set_option maxHeartbeats 8000000 in
theorem mt_X2_charge {l : Launch} (hl : l.stackTraces = false) {Z : zw_Z} {a0 : Option Nat} {a1 : Int32} {a2 : Int32} {a3 : Int32} {h : zw_H} {Q : Int32 → zw_H → Prop} {X : String → Nat → zw_H → Prop} (hE : f_X2_charge Z.2.2.2 a0 a1 a2 a3 h Q X) : zw_Met l Z yX2_charge (ws_ yX2_charge cX2_charge 6 (Option.some Jvm.ClassFile.FieldType.int)) rm_X2_charge [zA a0, zI a1, zI a2, zI a3] h (zq_I Q) X := by
  refine zg_start (own := "MultipoleLineModel") (by decide +kernel) rfl (Nat.le_of_ble_eq_true rfl) hl (fun Xc ok tab fin hRm hXl hXZ => ?_)
  subst hXl
  subst hXZ
  unfold f_X2_charge at hE
  refine zg_iconst (v := 0) ok dX2_charge_0 (by decide) ?_
  refine zg_istore (L' := [(4, .int 0), (0, va_rf a0), (1, .int a1), (2, .int a2), (3, .int a3)]) ok dX2_charge_1 (by decide) rfl ?_
  refine zg_iconst (v := 0) ok dX2_charge_3 (by decide) ?_
  refine zg_istore (L' := [(5, .int 0), (4, .int 0), (0, va_rf a0), (1, .int a1), (2, .int a2), (3, .int a3)]) ok dX2_charge_4 (by decide) rfl ?_
  refine zg_sub (L' := [(0, va_rf a0), (1, .int a1), (2, .int a2), (3, .int a3), (4, .int 0), (5, .int 0)]) [2, 3, 4, 5, 1, 0] rfl ?_
  refine gt_f_X2_charge_L6 hl ok tab fin hRm ⟨Nat.le_of_ble_eq_true rfl, Nat.le_of_ble_eq_true rfl⟩ ?_ _ _ _ _ hE
  · intro v9 h5 hE
    refine zg_iload ok dX2_charge_67 0 rfl ?_
    exact zg_iret ok fin dX2_charge_69 ⟨Nat.le_of_ble_eq_true rfl, Nat.le_of_ble_eq_true rfl⟩ hE
set_option maxHeartbeats 8000000 in
theorem gt_f_X2_bodiesIn_B5 {Xc : zw_X} {Q : Int32 → zw_H → Prop} {X : String → Nat → zw_H → Prop} (hl : (zw_l Xc).stackTraces = false) (ok : zw_ok Xc cX2_bodiesIn "MultipoleLineModel" yX2_bodiesIn.name 5) (tab : zw_tab Xc []) (fin : zw_fin Xc (Option.some Jvm.ClassFile.FieldType.int) (zq_I Q) X 0 0) (hRm : zw_rm Xc = rm_X2_bodiesIn) {kc ks : Nat} (hb : kc ≤ 0 ∧ ks ≤ 0) {R : Int32 → Int32 → zw_H → Prop} {l0 : Option Nat} {l1 : Int32} {l2 : Int32} (hR : ∀ (l3 : Int32) (l4 : Int32) (h : zw_H), R l3 l4 h → zw_G Xc kc ks 5 h 5 [(0, va_rf l0), (1, .int l1), (2, .int l2), (3, .int l3), (4, .int l4)] []) {k36 : Int32 → zw_H → Prop} (hk36 : ∀ (l3 : Int32) (h : zw_H), k36 l3 h → zw_G Xc kc ks 5 h 36 [(3, .int l3)] [])  {l3 : Int32} {l4 : Int32} {h : zw_H} (hE : f_X2_bodiesIn_B5 (zw_Zf Xc).2.2.2 Q X k36 l0 l1 l2 R l3 l4 h) : zw_G Xc kc ks 5 h 5 [(0, va_rf l0), (1, .int l1), (2, .int l2), (3, .int l3), (4, .int l4)] [] := by
  unfold f_X2_bodiesIn_B5 at hE
  refine zg_iload ok dX2_bodiesIn_5 4 rfl ?_
  refine zg_aload_n ok dX2_bodiesIn_7 rfl 0 rfl ?_
  refine zg_getA ok lf_X2_9 dX2_bodiesIn_8 hE (fun v1 hE => ?_)
  refine zg_iconst (v := 0) ok dX2_bodiesIn_11 (by decide) ?_
  refine zg_iald ok dX2_bodiesIn_12 hE (fun v2 hE => ?_)
  refine zg_icmp_ge (tgt := 36) ok dX2_bodiesIn_13 (by decide) hE (fun hE => ?_) (fun hE => ?_)
  · refine zg_sub (L' := [(3, .int l3)]) [3] rfl ?_
    exact hk36 _ _ hE
  · refine zg_iload_n ok dX2_bodiesIn_16 rfl 3 rfl ?_
    refine zg_aload_n ok dX2_bodiesIn_17 rfl 0 rfl ?_
    refine zg_iload ok dX2_bodiesIn_18 4 rfl ?_
    refine zg_iload_n ok dX2_bodiesIn_20 rfl 1 rfl ?_
    refine zg_iload_n ok dX2_bodiesIn_21 rfl 2 rfl ?_
    refine zg_callV (vs := [zI l4, zI l1, zI l2]) (rest := [.int l3]) (rm := rm_X2_isIn) ok hRm lk_X2_184 dX2_bodiesIn_22 hE (fun hE => mt_X2_isIn hl hE) rfl (Nat.le_of_ble_eq_true rfl) ⟨⟨Nat.le_of_ble_eq_true rfl, Nat.le_of_ble_eq_true rfl⟩, (by show kc + 0 ≤ 0; omega), (by show ks + 0 ≤ 0; omega)⟩ (zg_retI (fun v3 h1 hE => ?_)) (zg_xok ok tab fin ⟨(by show kc + 0 ≤ 0; omega), (by show ks + 0 ≤ 0; omega)⟩)
    refine zg_cost (kc2 := kc) (ks2 := ks) ⟨(by show kc + 0 = kc; omega), (by show ks + 0 = ks; omega)⟩ ?_
    refine zg_callS (vs := [zI v3]) (rest := [.int l3]) (rm := rm_X2_one) ok hRm lk_X2_170 dX2_bodiesIn_25 hE (fun hE => mt_X2_one hl hE) rfl (Nat.le_of_ble_eq_true rfl) ⟨⟨Nat.le_of_ble_eq_true rfl, Nat.le_of_ble_eq_true rfl⟩, (by show kc + 0 ≤ 0; omega), (by show ks + 0 ≤ 0; omega)⟩ (zg_retI (fun v4 h2 hE => ?_)) (zg_xok ok tab fin ⟨(by show kc + 0 ≤ 0; omega), (by show ks + 0 ≤ 0; omega)⟩)
    refine zg_cost (kc2 := kc) (ks2 := ks) ⟨(by show kc + 0 = kc; omega), (by show ks + 0 = ks; omega)⟩ ?_
    refine zg_iadd ok dX2_bodiesIn_28 ?_
    refine zg_letI hE (fun v5 hE => ?_)
    refine zg_istore_n (L' := [(3, .int v5), (0, va_rf l0), (1, .int l1), (2, .int l2), (4, .int l4)]) ok dX2_bodiesIn_29 rfl (by decide) rfl ?_
    refine zg_iincL (k := 4) (L' := fun v6 => [(4, .int v6), (3, .int v5), (0, va_rf l0), (1, .int l1), (2, .int l2)]) ok dX2_bodiesIn_30 (by decide +kernel) hE rfl (by decide) (fun _ => rfl) (fun v6 hE => ?_)
    refine zg_goto (tgt := 5) ok dX2_bodiesIn_33 (by decide) ?_
    refine zg_sub (L' := [(0, va_rf l0), (1, .int l1), (2, .int l2), (3, .int v5), (4, .int v6)]) [2, 3, 4, 1, 0] rfl ?_
    exact hR _ _ _ hE
theorem gt_f_X2_bodiesIn_L5 {Xc : zw_X} {Q : Int32 → zw_H → Prop} {X : String → Nat → zw_H → Prop} (hl : (zw_l Xc).stackTraces = false) (ok : zw_ok Xc cX2_bodiesIn "MultipoleLineModel" yX2_bodiesIn.name 5) (tab : zw_tab Xc []) (fin : zw_fin Xc (Option.some Jvm.ClassFile.FieldType.int) (zq_I Q) X 0 0) (hRm : zw_rm Xc = rm_X2_bodiesIn) {kc ks : Nat} (hb : kc ≤ 0 ∧ ks ≤ 0) {l0 : Option Nat} {l1 : Int32} {l2 : Int32} {k36 : Int32 → zw_H → Prop} (hk36 : ∀ (l3 : Int32) (h : zw_H), k36 l3 h → zw_G Xc kc ks 5 h 36 [(3, .int l3)] [])  : ∀ (n9 : Nat) (l3 : Int32) (l4 : Int32) (h : zw_H), zl3 (f_X2_bodiesIn_B5 (zw_Zf Xc).2.2.2 Q X k36 l0 l1 l2) n9 l3 l4 h → zw_G Xc kc ks 5 h 5 [(0, va_rf l0), (1, .int l1), (2, .int l2), (3, .int l3), (4, .int l4)] [] := by
  intro n9
  induction n9 with
  | zero => intro l3 l4 h hE; exact hE.elim
  | succ n9 ih => intro l3 l4 h hE; exact gt_f_X2_bodiesIn_B5 hl ok tab fin hRm hb ih hk36 hE
set_option maxHeartbeats 8000000 in
theorem mt_X2_bodiesIn {l : Launch} (hl : l.stackTraces = false) {Z : zw_Z} {a0 : Option Nat} {a1 : Int32} {a2 : Int32} {h : zw_H} {Q : Int32 → zw_H → Prop} {X : String → Nat → zw_H → Prop} (hE : f_X2_bodiesIn Z.2.2.2 a0 a1 a2 h Q X) : zw_Met l Z yX2_bodiesIn (ws_ yX2_bodiesIn cX2_bodiesIn 5 (Option.some Jvm.ClassFile.FieldType.int)) rm_X2_bodiesIn [zA a0, zI a1, zI a2] h (zq_I Q) X := by
  refine zg_start (own := "MultipoleLineModel") (by decide +kernel) rfl (Nat.le_of_ble_eq_true rfl) hl (fun Xc ok tab fin hRm hXl hXZ => ?_)
  subst hXl
  subst hXZ
  unfold f_X2_bodiesIn at hE
  refine zg_iconst (v := 0) ok dX2_bodiesIn_0 (by decide) ?_
  refine zg_istore_n (L' := [(3, .int 0), (0, va_rf a0), (1, .int a1), (2, .int a2)]) ok dX2_bodiesIn_1 rfl (by decide) rfl ?_
  refine zg_iconst (v := 0) ok dX2_bodiesIn_2 (by decide) ?_
  refine zg_istore (L' := [(4, .int 0), (3, .int 0), (0, va_rf a0), (1, .int a1), (2, .int a2)]) ok dX2_bodiesIn_3 (by decide) rfl ?_
  refine zg_sub (L' := [(0, va_rf a0), (1, .int a1), (2, .int a2), (3, .int 0), (4, .int 0)]) [2, 3, 4, 1, 0] rfl ?_
  refine gt_f_X2_bodiesIn_L5 hl ok tab fin hRm ⟨Nat.le_of_ble_eq_true rfl, Nat.le_of_ble_eq_true rfl⟩ ?_ _ _ _ _ hE
  · intro v7 h3 hE
    refine zg_iload_n ok dX2_bodiesIn_36 rfl 0 rfl ?_
    exact zg_iret ok fin dX2_bodiesIn_37 ⟨Nat.le_of_ble_eq_true rfl, Nat.le_of_ble_eq_true rfl⟩ hE
set_option maxHeartbeats 8000000 in
theorem gt_f_X2_full_J36 {Xc : zw_X} {Q : Int32 → zw_H → Prop} {X : String → Nat → zw_H → Prop} (hl : (zw_l Xc).stackTraces = false) (ok : zw_ok Xc cX2_full "MultipoleLineModel" yX2_full.name 3) (tab : zw_tab Xc []) (fin : zw_fin Xc (Option.some Jvm.ClassFile.FieldType.int) (zq_I Q) X 0 0) (hRm : zw_rm Xc = rm_X2_full) {kc ks : Nat} (hb : kc ≤ 0 ∧ ks ≤ 0) {R : Int32 → Int32 → zw_H → Prop} {l0 : Option Nat} (hR : ∀ (l1 : Int32) (l2 : Int32) (h : zw_H), R l1 l2 h → zw_G Xc kc ks 3 h 4 [(0, va_rf l0), (1, .int l1), (2, .int l2)] []) {k47 : Int32 → zw_H → Prop} (hk47 : ∀ (l1 : Int32) (h : zw_H), k47 l1 h → zw_G Xc kc ks 3 h 47 [(1, .int l1)] [])  {l2 : Int32} {s0 : Int32} {s1 : Int32} {h : zw_H} (hE : f_X2_full_J36 (zw_Zf Xc).2.2.2 Q X R k47 l0 l2 s0 s1 h) : zw_G Xc kc ks 3 h 36 [(0, va_rf l0), (2, .int l2)] [.int s0, .int s1] := by
  unfold f_X2_full_J36 at hE
  refine zg_callS (vs := [zI s0]) (rest := [.int s1]) (rm := rm_X2_one) ok hRm lk_X2_170 dX2_full_36 hE (fun hE => mt_X2_one hl hE) rfl (Nat.le_of_ble_eq_true rfl) ⟨⟨Nat.le_of_ble_eq_true rfl, Nat.le_of_ble_eq_true rfl⟩, (by show kc + 0 ≤ 0; omega), (by show ks + 0 ≤ 0; omega)⟩ (zg_retI (fun v6 h2 hE => ?_)) (zg_xok ok tab fin ⟨(by show kc + 0 ≤ 0; omega), (by show ks + 0 ≤ 0; omega)⟩)
  refine zg_cost (kc2 := kc) (ks2 := ks) ⟨(by show kc + 0 = kc; omega), (by show ks + 0 = ks; omega)⟩ ?_
  refine zg_iadd ok dX2_full_39 ?_
  refine zg_letI hE (fun v7 hE => ?_)
  refine zg_istore_nR (L' := [(1, .int v7), (0, va_rf l0), (2, .int l2)]) ok dX2_full_40 rfl (by decide) 0 rfl rfl rfl ?_
  refine zg_iincL (k := 2) (L' := fun v8 => [(2, .int v8), (1, .int v7), (0, va_rf l0)]) ok dX2_full_41 (by decide +kernel) hE rfl (by decide) (fun _ => rfl) (fun v8 hE => ?_)
  refine zg_goto (tgt := 4) ok dX2_full_44 (by decide) ?_
  refine zg_sub (L' := [(0, va_rf l0), (1, .int v7), (2, .int v8)]) [2, 1, 0] rfl ?_
  exact hR _ _ _ hE
set_option maxHeartbeats 8000000 in
theorem gt_f_X2_full_B4 {Xc : zw_X} {Q : Int32 → zw_H → Prop} {X : String → Nat → zw_H → Prop} (hl : (zw_l Xc).stackTraces = false) (ok : zw_ok Xc cX2_full "MultipoleLineModel" yX2_full.name 3) (tab : zw_tab Xc []) (fin : zw_fin Xc (Option.some Jvm.ClassFile.FieldType.int) (zq_I Q) X 0 0) (hRm : zw_rm Xc = rm_X2_full) {kc ks : Nat} (hb : kc ≤ 0 ∧ ks ≤ 0) {R : Int32 → Int32 → zw_H → Prop} {l0 : Option Nat} (hR : ∀ (l1 : Int32) (l2 : Int32) (h : zw_H), R l1 l2 h → zw_G Xc kc ks 3 h 4 [(0, va_rf l0), (1, .int l1), (2, .int l2)] []) {k47 : Int32 → zw_H → Prop} (hk47 : ∀ (l1 : Int32) (h : zw_H), k47 l1 h → zw_G Xc kc ks 3 h 47 [(1, .int l1)] [])  {l1 : Int32} {l2 : Int32} {h : zw_H} (hE : f_X2_full_B4 (zw_Zf Xc).2.2.2 Q X k47 l0 R l1 l2 h) : zw_G Xc kc ks 3 h 4 [(0, va_rf l0), (1, .int l1), (2, .int l2)] [] := by
  unfold f_X2_full_B4 at hE
  refine zg_iload_n ok dX2_full_4 rfl 2 rfl ?_
  refine zg_iconst (v := 1) ok dX2_full_5 (by decide) ?_
  refine zg_aload_n ok dX2_full_6 rfl 0 rfl ?_
  refine zg_getA ok lf_X2_9 dX2_full_7 hE (fun v1 hE => ?_)
  refine zg_iconst (v := 3) ok dX2_full_10 (by decide) ?_
  refine zg_iald ok dX2_full_11 hE (fun v2 hE => ?_)
  refine zg_ishl ok dX2_full_12 ?_
  refine zg_icmp_ge (tgt := 47) ok dX2_full_13 (by decide) hE (fun hE => ?_) (fun hE => ?_)
  · refine zg_sub (L' := [(1, .int l1)]) [1] rfl ?_
    exact hk47 _ _ hE
  · refine zg_iload_n ok dX2_full_16 rfl 1 rfl ?_
    refine zg_aload_n ok dX2_full_17 rfl 0 rfl ?_
    refine zg_aload_n ok dX2_full_18 rfl 0 rfl ?_
    refine zg_getA ok lf_X2_9 dX2_full_19 hE (fun v3 hE => ?_)
    refine zg_iconst (v := 3) ok dX2_full_22 (by decide) ?_
    refine zg_iald ok dX2_full_23 hE (fun v4 hE => ?_)
    refine zg_iload_n ok dX2_full_24 rfl 2 rfl ?_
    refine zg_callV (vs := [zI v4, zI l2]) (rest := [.int l1]) (rm := rm_X2_bodiesIn) ok hRm lk_X2_190 dX2_full_25 hE (fun hE => mt_X2_bodiesIn hl hE) rfl (Nat.le_of_ble_eq_true rfl) ⟨⟨Nat.le_of_ble_eq_true rfl, Nat.le_of_ble_eq_true rfl⟩, (by show kc + 0 ≤ 0; omega), (by show ks + 0 ≤ 0; omega)⟩ (zg_retI (fun v5 h1 hE => ?_)) (zg_xok ok tab fin ⟨(by show kc + 0 ≤ 0; omega), (by show ks + 0 ≤ 0; omega)⟩)
    refine zg_cost (kc2 := kc) (ks2 := ks) ⟨(by show kc + 0 = kc; omega), (by show ks + 0 = ks; omega)⟩ ?_
    refine zg_if_le (tgt := 35) ok dX2_full_28 (by decide) hE (fun hE => ?_) (fun hE => ?_)
    · refine zg_iconst (v := 0) ok dX2_full_35 (by decide) ?_
      refine zg_sub (L' := [(0, va_rf l0), (2, .int l2)]) [0, 2] rfl ?_
      exact gt_f_X2_full_J36 hl ok tab fin hRm hb hR hk47 hE
    · refine zg_iconst (v := 1) ok dX2_full_31 (by decide) ?_
      refine zg_goto (tgt := 36) ok dX2_full_32 (by decide) ?_
      refine zg_sub (L' := [(0, va_rf l0), (2, .int l2)]) [0, 2] rfl ?_
      exact gt_f_X2_full_J36 hl ok tab fin hRm hb hR hk47 hE
theorem gt_f_X2_full_L4 {Xc : zw_X} {Q : Int32 → zw_H → Prop} {X : String → Nat → zw_H → Prop} (hl : (zw_l Xc).stackTraces = false) (ok : zw_ok Xc cX2_full "MultipoleLineModel" yX2_full.name 3) (tab : zw_tab Xc []) (fin : zw_fin Xc (Option.some Jvm.ClassFile.FieldType.int) (zq_I Q) X 0 0) (hRm : zw_rm Xc = rm_X2_full) {kc ks : Nat} (hb : kc ≤ 0 ∧ ks ≤ 0) {l0 : Option Nat} {k47 : Int32 → zw_H → Prop} (hk47 : ∀ (l1 : Int32) (h : zw_H), k47 l1 h → zw_G Xc kc ks 3 h 47 [(1, .int l1)] [])  : ∀ (n9 : Nat) (l1 : Int32) (l2 : Int32) (h : zw_H), zl3 (f_X2_full_B4 (zw_Zf Xc).2.2.2 Q X k47 l0) n9 l1 l2 h → zw_G Xc kc ks 3 h 4 [(0, va_rf l0), (1, .int l1), (2, .int l2)] [] := by
  intro n9
  induction n9 with
  | zero => intro l1 l2 h hE; exact hE.elim
  | succ n9 ih => intro l1 l2 h hE; exact gt_f_X2_full_B4 hl ok tab fin hRm hb ih hk47 hE
set_option maxHeartbeats 8000000 in
theorem mt_X2_full {l : Launch} (hl : l.stackTraces = false) {Z : zw_Z} {a0 : Option Nat} {h : zw_H} {Q : Int32 → zw_H → Prop} {X : String → Nat → zw_H → Prop} (hE : f_X2_full Z.2.2.2 a0 h Q X) : zw_Met l Z yX2_full (ws_ yX2_full cX2_full 3 (Option.some Jvm.ClassFile.FieldType.int)) rm_X2_full [zA a0] h (zq_I Q) X := by
  refine zg_start (own := "MultipoleLineModel") (by decide +kernel) rfl (Nat.le_of_ble_eq_true rfl) hl (fun Xc ok tab fin hRm hXl hXZ => ?_)
  subst hXl
  subst hXZ
  unfold f_X2_full at hE
  refine zg_iconst (v := 0) ok dX2_full_0 (by decide) ?_
  refine zg_istore_nR (L' := [(1, .int 0), (0, va_rf a0)]) ok dX2_full_1 rfl (by decide) 0 rfl rfl rfl ?_
  refine zg_iconst (v := 0) ok dX2_full_2 (by decide) ?_
  refine zg_istore_n (L' := [(2, .int 0), (1, .int 0), (0, va_rf a0)]) ok dX2_full_3 rfl (by decide) rfl ?_
  refine zg_sub (L' := [(0, va_rf a0), (1, .int 0), (2, .int 0)]) [2, 1, 0] rfl ?_
  refine gt_f_X2_full_L4 hl ok tab fin hRm ⟨Nat.le_of_ble_eq_true rfl, Nat.le_of_ble_eq_true rfl⟩ ?_ _ _ _ _ hE
  · intro v9 h3 hE
    refine zg_iload_n ok dX2_full_47 rfl 0 rfl ?_
    exact zg_iret ok fin dX2_full_48 ⟨Nat.le_of_ble_eq_true rfl, Nat.le_of_ble_eq_true rfl⟩ hE
set_option maxHeartbeats 8000000 in
theorem gt_f_X2_end_J53 {Xc : zw_X} {Q : Int32 → zw_H → Prop} {X : String → Nat → zw_H → Prop} (hl : (zw_l Xc).stackTraces = false) (ok : zw_ok Xc cX2_end "MultipoleLineModel" yX2_end.name 4) (tab : zw_tab Xc []) (fin : zw_fin Xc (Option.some Jvm.ClassFile.FieldType.int) (zq_I Q) X 0 0) (hRm : zw_rm Xc = rm_X2_end) {kc ks : Nat} (hb : kc ≤ 0 ∧ ks ≤ 0) {R : Int32 → Int32 → zw_H → Prop} {l0 : Option Nat} {l1 : Int32} (hR : ∀ (l2 : Int32) (l3 : Int32) (h : zw_H), R l2 l3 h → zw_G Xc kc ks 4 h 4 [(0, va_rf l0), (1, .int l1), (2, .int l2), (3, .int l3)] []) {k59 : Int32 → zw_H → Prop} (hk59 : ∀ (l2 : Int32) (h : zw_H), k59 l2 h → zw_G Xc kc ks 4 h 59 [(2, .int l2)] [])  {l2 : Int32} {l3 : Int32}  {h : zw_H} (hE : f_X2_end_J53 (zw_Zf Xc).2.2.2 Q X R k59 l0 l1 l2 l3 h) : zw_G Xc kc ks 4 h 53 [(0, va_rf l0), (1, .int l1), (2, .int l2), (3, .int l3)] [] := by
  unfold f_X2_end_J53 at hE
  refine zg_iincL (k := 3) (L' := fun v4 => [(3, .int v4), (0, va_rf l0), (1, .int l1), (2, .int l2)]) ok dX2_end_53 (by decide +kernel) hE rfl (by decide) (fun _ => rfl) (fun v4 hE => ?_)
  refine zg_goto (tgt := 4) ok dX2_end_56 (by decide) ?_
  refine zg_sub (L' := [(0, va_rf l0), (1, .int l1), (2, .int l2), (3, .int v4)]) [1, 2, 3, 0] rfl ?_
  exact hR _ _ _ hE
set_option maxHeartbeats 8000000 in
theorem gt_f_X2_end_J46 {Xc : zw_X} {Q : Int32 → zw_H → Prop} {X : String → Nat → zw_H → Prop} (hl : (zw_l Xc).stackTraces = false) (ok : zw_ok Xc cX2_end "MultipoleLineModel" yX2_end.name 4) (tab : zw_tab Xc []) (fin : zw_fin Xc (Option.some Jvm.ClassFile.FieldType.int) (zq_I Q) X 0 0) (hRm : zw_rm Xc = rm_X2_end) {kc ks : Nat} (hb : kc ≤ 0 ∧ ks ≤ 0) {R : Int32 → Int32 → zw_H → Prop} {l0 : Option Nat} {l1 : Int32} (hR : ∀ (l2 : Int32) (l3 : Int32) (h : zw_H), R l2 l3 h → zw_G Xc kc ks 4 h 4 [(0, va_rf l0), (1, .int l1), (2, .int l2), (3, .int l3)] []) {k59 : Int32 → zw_H → Prop} (hk59 : ∀ (l2 : Int32) (h : zw_H), k59 l2 h → zw_G Xc kc ks 4 h 59 [(2, .int l2)] [])  {l3 : Int32}  {h : zw_H} (hE : f_X2_end_J46 (zw_Zf Xc).2.2.2 Q X R k59 l0 l1 l3 h) : zw_G Xc kc ks 4 h 46 [(0, va_rf l0), (1, .int l1), (3, .int l3)] [] := by
  unfold f_X2_end_J46 at hE
  refine zg_aload_n ok dX2_end_46 rfl 0 rfl ?_
  refine zg_iload_n ok dX2_end_47 rfl 2 rfl ?_
  refine zg_iconst (v := 0) ok dX2_end_48 (by decide) ?_
  refine zg_callV (vs := [zI l3, zI 0]) (rest := []) (rm := rm_X2_of) ok hRm lk_X2_163 dX2_end_49 hE (fun hE => mt_X2_of hl hE) rfl (Nat.le_of_ble_eq_true rfl) ⟨⟨Nat.le_of_ble_eq_true rfl, Nat.le_of_ble_eq_true rfl⟩, (by show kc + 0 ≤ 0; omega), (by show ks + 0 ≤ 0; omega)⟩ (zg_retI (fun v3 h1 hE => ?_)) (zg_xok ok tab fin ⟨(by show kc + 0 ≤ 0; omega), (by show ks + 0 ≤ 0; omega)⟩)
  refine zg_cost (kc2 := kc) (ks2 := ks) ⟨(by show kc + 0 = kc; omega), (by show ks + 0 = ks; omega)⟩ ?_
  refine zg_istore_n (L' := [(2, .int v3), (0, va_rf l0), (1, .int l1), (3, .int l3)]) ok dX2_end_52 rfl (by decide) rfl ?_
  refine zg_sub (L' := [(0, va_rf l0), (1, .int l1), (2, .int v3), (3, .int l3)]) [1, 2, 0, 3] rfl ?_
  exact gt_f_X2_end_J53 hl ok tab fin hRm hb hR hk59 hE
set_option maxHeartbeats 8000000 in
theorem gt_f_X2_end_B4 {Xc : zw_X} {Q : Int32 → zw_H → Prop} {X : String → Nat → zw_H → Prop} (hl : (zw_l Xc).stackTraces = false) (ok : zw_ok Xc cX2_end "MultipoleLineModel" yX2_end.name 4) (tab : zw_tab Xc []) (fin : zw_fin Xc (Option.some Jvm.ClassFile.FieldType.int) (zq_I Q) X 0 0) (hRm : zw_rm Xc = rm_X2_end) {kc ks : Nat} (hb : kc ≤ 0 ∧ ks ≤ 0) {R : Int32 → Int32 → zw_H → Prop} {l0 : Option Nat} {l1 : Int32} (hR : ∀ (l2 : Int32) (l3 : Int32) (h : zw_H), R l2 l3 h → zw_G Xc kc ks 4 h 4 [(0, va_rf l0), (1, .int l1), (2, .int l2), (3, .int l3)] []) {k59 : Int32 → zw_H → Prop} (hk59 : ∀ (l2 : Int32) (h : zw_H), k59 l2 h → zw_G Xc kc ks 4 h 59 [(2, .int l2)] [])  {l2 : Int32} {l3 : Int32} {h : zw_H} (hE : f_X2_end_B4 (zw_Zf Xc).2.2.2 Q X k59 l0 l1 R l2 l3 h) : zw_G Xc kc ks 4 h 4 [(0, va_rf l0), (1, .int l1), (2, .int l2), (3, .int l3)] [] := by
  unfold f_X2_end_B4 at hE
  refine zg_iload_n ok dX2_end_4 rfl 3 rfl ?_
  refine zg_aload_n ok dX2_end_5 rfl 0 rfl ?_
  refine zg_getA ok lf_X2_9 dX2_end_6 hE (fun v1 hE => ?_)
  refine zg_iconst (v := 0) ok dX2_end_9 (by decide) ?_
  refine zg_iald ok dX2_end_10 hE (fun v2 hE => ?_)
  refine zg_icmp_ge (tgt := 59) ok dX2_end_11 (by decide) hE (fun hE => ?_) (fun hE => ?_)
  · refine zg_sub (L' := [(2, .int l2)]) [2] rfl ?_
    exact hk59 _ _ hE
  · refine zg_iload_n ok dX2_end_14 rfl 2 rfl ?_
    refine zg_iconst (v := (-1)) ok dX2_end_15 (by decide) ?_
    refine zg_icmp_eq (tgt := 46) ok dX2_end_16 (by decide) hE (fun hE => ?_) (fun hE => ?_)
    · refine zg_sub (L' := [(0, va_rf l0), (1, .int l1), (3, .int l3)]) [0, 1, 3] rfl ?_
      exact gt_f_X2_end_J46 hl ok tab fin hRm hb hR hk59 hE
    · refine zg_iload_n ok dX2_end_19 rfl 1 rfl ?_
      refine zg_if_eq (tgt := 36) ok dX2_end_20 (by decide) hE (fun hE => ?_) (fun hE => ?_)
      · refine zg_aload_n ok dX2_end_36 rfl 0 rfl ?_
        refine zg_iload_n ok dX2_end_37 rfl 3 rfl ?_
        refine zg_iconst (v := 0) ok dX2_end_38 (by decide) ?_
        refine zg_callV (vs := [zI l3, zI 0]) (rest := []) (rm := rm_X2_of) ok hRm lk_X2_163 dX2_end_39 hE (fun hE => mt_X2_of hl hE) rfl (Nat.le_of_ble_eq_true rfl) ⟨⟨Nat.le_of_ble_eq_true rfl, Nat.le_of_ble_eq_true rfl⟩, (by show kc + 0 ≤ 0; omega), (by show ks + 0 ≤ 0; omega)⟩ (zg_retI (fun v5 h2 hE => ?_)) (zg_xok ok tab fin ⟨(by show kc + 0 ≤ 0; omega), (by show ks + 0 ≤ 0; omega)⟩)
        refine zg_cost (kc2 := kc) (ks2 := ks) ⟨(by show kc + 0 = kc; omega), (by show ks + 0 = ks; omega)⟩ ?_
        refine zg_iload_n ok dX2_end_42 rfl 2 rfl ?_
        refine zg_icmp_ge (tgt := 53) ok dX2_end_43 (by decide) hE (fun hE => ?_) (fun hE => ?_)
        · exact gt_f_X2_end_J53 hl ok tab fin hRm hb hR hk59 hE
        · refine zg_sub (L' := [(0, va_rf l0), (1, .int l1), (3, .int l3)]) [0, 1, 3] rfl ?_
          exact gt_f_X2_end_J46 hl ok tab fin hRm hb hR hk59 hE
      · refine zg_aload_n ok dX2_end_23 rfl 0 rfl ?_
        refine zg_iload_n ok dX2_end_24 rfl 3 rfl ?_
        refine zg_iconst (v := 0) ok dX2_end_25 (by decide) ?_
        refine zg_callV (vs := [zI l3, zI 0]) (rest := []) (rm := rm_X2_of) ok hRm lk_X2_163 dX2_end_26 hE (fun hE => mt_X2_of hl hE) rfl (Nat.le_of_ble_eq_true rfl) ⟨⟨Nat.le_of_ble_eq_true rfl, Nat.le_of_ble_eq_true rfl⟩, (by show kc + 0 ≤ 0; omega), (by show ks + 0 ≤ 0; omega)⟩ (zg_retI (fun v6 h3 hE => ?_)) (zg_xok ok tab fin ⟨(by show kc + 0 ≤ 0; omega), (by show ks + 0 ≤ 0; omega)⟩)
        refine zg_cost (kc2 := kc) (ks2 := ks) ⟨(by show kc + 0 = kc; omega), (by show ks + 0 = ks; omega)⟩ ?_
        refine zg_iload_n ok dX2_end_29 rfl 2 rfl ?_
        refine zg_icmp_le (tgt := 53) ok dX2_end_30 (by decide) hE (fun hE => ?_) (fun hE => ?_)
        · exact gt_f_X2_end_J53 hl ok tab fin hRm hb hR hk59 hE
        · refine zg_goto (tgt := 46) ok dX2_end_33 (by decide) ?_
          refine zg_sub (L' := [(0, va_rf l0), (1, .int l1), (3, .int l3)]) [0, 1, 3] rfl ?_
          exact gt_f_X2_end_J46 hl ok tab fin hRm hb hR hk59 hE
theorem gt_f_X2_end_L4 {Xc : zw_X} {Q : Int32 → zw_H → Prop} {X : String → Nat → zw_H → Prop} (hl : (zw_l Xc).stackTraces = false) (ok : zw_ok Xc cX2_end "MultipoleLineModel" yX2_end.name 4) (tab : zw_tab Xc []) (fin : zw_fin Xc (Option.some Jvm.ClassFile.FieldType.int) (zq_I Q) X 0 0) (hRm : zw_rm Xc = rm_X2_end) {kc ks : Nat} (hb : kc ≤ 0 ∧ ks ≤ 0) {l0 : Option Nat} {l1 : Int32} {k59 : Int32 → zw_H → Prop} (hk59 : ∀ (l2 : Int32) (h : zw_H), k59 l2 h → zw_G Xc kc ks 4 h 59 [(2, .int l2)] [])  : ∀ (n9 : Nat) (l2 : Int32) (l3 : Int32) (h : zw_H), zl3 (f_X2_end_B4 (zw_Zf Xc).2.2.2 Q X k59 l0 l1) n9 l2 l3 h → zw_G Xc kc ks 4 h 4 [(0, va_rf l0), (1, .int l1), (2, .int l2), (3, .int l3)] [] := by
  intro n9
  induction n9 with
  | zero => intro l2 l3 h hE; exact hE.elim
  | succ n9 ih => intro l2 l3 h hE; exact gt_f_X2_end_B4 hl ok tab fin hRm hb ih hk59 hE
set_option maxHeartbeats 8000000 in
theorem mt_X2_end {l : Launch} (hl : l.stackTraces = false) {Z : zw_Z} {a0 : Option Nat} {a1 : Int32} {h : zw_H} {Q : Int32 → zw_H → Prop} {X : String → Nat → zw_H → Prop} (hE : f_X2_end Z.2.2.2 a0 a1 h Q X) : zw_Met l Z yX2_end (ws_ yX2_end cX2_end 4 (Option.some Jvm.ClassFile.FieldType.int)) rm_X2_end [zA a0, zI a1] h (zq_I Q) X := by
  refine zg_start (own := "MultipoleLineModel") (by decide +kernel) rfl (Nat.le_of_ble_eq_true rfl) hl (fun Xc ok tab fin hRm hXl hXZ => ?_)
  subst hXl
  subst hXZ
  unfold f_X2_end at hE
  refine zg_iconst (v := (-1)) ok dX2_end_0 (by decide) ?_
  refine zg_istore_n (L' := [(2, .int (-1)), (0, va_rf a0), (1, .int a1)]) ok dX2_end_1 rfl (by decide) rfl ?_
  refine zg_iconst (v := 0) ok dX2_end_2 (by decide) ?_
  refine zg_istore_n (L' := [(3, .int 0), (2, .int (-1)), (0, va_rf a0), (1, .int a1)]) ok dX2_end_3 rfl (by decide) rfl ?_
  refine zg_sub (L' := [(0, va_rf a0), (1, .int a1), (2, .int (-1)), (3, .int 0)]) [2, 3, 1, 0] rfl ?_
  refine gt_f_X2_end_L4 hl ok tab fin hRm ⟨Nat.le_of_ble_eq_true rfl, Nat.le_of_ble_eq_true rfl⟩ ?_ _ _ _ _ hE
  · intro v7 h4 hE
    refine zg_iload_n ok dX2_end_59 rfl 0 rfl ?_
    exact zg_iret ok fin dX2_end_60 ⟨Nat.le_of_ble_eq_true rfl, Nat.le_of_ble_eq_true rfl⟩ hE
set_option maxHeartbeats 8000000 in
theorem mt_X2_count {l : Launch} (hl : l.stackTraces = false) {Z : zw_Z} {a0 : Option Nat} {a1 : Int32} {h : zw_H} {Q : Int32 → zw_H → Prop} {X : String → Nat → zw_H → Prop} (hE : f_X2_count Z.2.2.2 a0 a1 h Q X) : zw_Met l Z yX2_count (ws_ yX2_count cX2_count 2 (Option.some Jvm.ClassFile.FieldType.int)) rm_X2_count [zA a0, zI a1] h (zq_I Q) X := by
  refine zg_start (own := "MultipoleLineModel") (by decide +kernel) rfl (Nat.le_of_ble_eq_true rfl) hl (fun Xc ok tab fin hRm hXl hXZ => ?_)
  subst hXl
  subst hXZ
  unfold f_X2_count at hE
  refine zg_aload_n ok dX2_count_0 rfl 0 rfl ?_
  refine zg_aload_n ok dX2_count_1 rfl 0 rfl ?_
  refine zg_getI ok lf_X2_156 dX2_count_2 hE (fun v1 hE => ?_)
  refine zg_iload_n ok dX2_count_5 rfl 1 rfl ?_
  refine zg_iconst (v := 0) ok dX2_count_6 (by decide) ?_
  refine zg_bipush (v := 13) ok dX2_count_7 (by decide) ?_
  refine zg_callS (vs := [zI a1, zI 0, zI 13]) (rest := [.int v1, va_rf a0]) (rm := rm_X2_in) ok hRm lk_X2_77 dX2_count_9 hE (fun hE => mt_X2_in hl hE) rfl (Nat.le_of_ble_eq_true rfl) ⟨⟨Nat.le_of_ble_eq_true rfl, Nat.le_of_ble_eq_true rfl⟩, Nat.le_of_ble_eq_true rfl, Nat.le_of_ble_eq_true rfl⟩ (zg_retI (fun v2 h1 hE => ?_)) (zg_xok ok tab fin ⟨Nat.le_of_ble_eq_true rfl, Nat.le_of_ble_eq_true rfl⟩)
  refine zg_cost (kc2 := 0) (ks2 := 0) ⟨rfl, rfl⟩ ?_
  refine zg_callV (vs := [zI v1, zI v2]) (rest := []) (rm := rm_X2_mayTwo) ok hRm lk_X2_193 dX2_count_12 hE (fun hE => mt_X2_mayTwo hl hE) rfl (Nat.le_of_ble_eq_true rfl) ⟨⟨Nat.le_of_ble_eq_true rfl, Nat.le_of_ble_eq_true rfl⟩, Nat.le_of_ble_eq_true rfl, Nat.le_of_ble_eq_true rfl⟩ (zg_retI (fun v3 h2 hE => ?_)) (zg_xok ok tab fin ⟨Nat.le_of_ble_eq_true rfl, Nat.le_of_ble_eq_true rfl⟩)
  refine zg_cost (kc2 := 0) (ks2 := 0) ⟨rfl, rfl⟩ ?_
  refine zg_if_ne (tgt := 20) ok dX2_count_15 (by decide) hE (fun hE => ?_) (fun hE => ?_)
  · refine zg_iload_n ok dX2_count_20 rfl 1 rfl ?_
    by_cases c9 : a1 = 0
    · rw [if_pos c9] at hE
      refine zg_tabIn (tgt := 92) ok dX2_count_21 (by rw [c9] <;> decide) (by rw [c9] <;> decide) (by rw [c9]; rfl) (by decide) ?_
      refine zg_aload_n ok dX2_count_92 rfl 0 rfl ?_
      refine zg_getA ok lf_X2_9 dX2_count_93 hE (fun v4 hE => ?_)
      refine zg_iconst (v := 0) ok dX2_count_96 (by decide) ?_
      refine zg_iald ok dX2_count_97 hE (fun v5 hE => ?_)
      exact zg_iret ok fin dX2_count_98 ⟨Nat.le_of_ble_eq_true rfl, Nat.le_of_ble_eq_true rfl⟩ hE
    rw [if_neg c9] at hE
    by_cases c9 : a1 = 1
    · rw [if_pos c9] at hE
      refine zg_tabIn (tgt := 99) ok dX2_count_21 (by rw [c9] <;> decide) (by rw [c9] <;> decide) (by rw [c9]; rfl) (by decide) ?_
      refine zg_aload_n ok dX2_count_99 rfl 0 rfl ?_
      refine zg_getA ok lf_X2_9 dX2_count_100 hE (fun v6 hE => ?_)
      refine zg_iconst (v := 0) ok dX2_count_103 (by decide) ?_
      refine zg_iald ok dX2_count_104 hE (fun v7 hE => ?_)
      refine zg_aload_n ok dX2_count_105 rfl 0 rfl ?_
      refine zg_callV (vs := []) (rest := [.int v7]) (rm := rm_X2_fixedMany) ok hRm lk_X2_197 dX2_count_106 hE (fun hE => mt_X2_fixedMany hl hE) rfl (Nat.le_of_ble_eq_true rfl) ⟨⟨Nat.le_of_ble_eq_true rfl, Nat.le_of_ble_eq_true rfl⟩, Nat.le_of_ble_eq_true rfl, Nat.le_of_ble_eq_true rfl⟩ (zg_retI (fun v8 h3 hE => ?_)) (zg_xok ok tab fin ⟨Nat.le_of_ble_eq_true rfl, Nat.le_of_ble_eq_true rfl⟩)
      refine zg_cost (kc2 := 0) (ks2 := 0) ⟨rfl, rfl⟩ ?_
      refine zg_isub ok dX2_count_109 ?_
      exact zg_iret ok fin dX2_count_110 ⟨Nat.le_of_ble_eq_true rfl, Nat.le_of_ble_eq_true rfl⟩ hE
    rw [if_neg c9] at hE
    by_cases c9 : a1 = 2
    · rw [if_pos c9] at hE
      refine zg_tabIn (tgt := 111) ok dX2_count_21 (by rw [c9] <;> decide) (by rw [c9] <;> decide) (by rw [c9]; rfl) (by decide) ?_
      refine zg_aload_n ok dX2_count_111 rfl 0 rfl ?_
      refine zg_callV (vs := []) (rest := []) (rm := rm_X2_fixedMany) ok hRm lk_X2_197 dX2_count_112 hE (fun hE => mt_X2_fixedMany hl hE) rfl (Nat.le_of_ble_eq_true rfl) ⟨⟨Nat.le_of_ble_eq_true rfl, Nat.le_of_ble_eq_true rfl⟩, Nat.le_of_ble_eq_true rfl, Nat.le_of_ble_eq_true rfl⟩ (zg_retI (fun v9 h4 hE => ?_)) (zg_xok ok tab fin ⟨Nat.le_of_ble_eq_true rfl, Nat.le_of_ble_eq_true rfl⟩)
      refine zg_cost (kc2 := 0) (ks2 := 0) ⟨rfl, rfl⟩ ?_
      exact zg_iret ok fin dX2_count_115 ⟨Nat.le_of_ble_eq_true rfl, Nat.le_of_ble_eq_true rfl⟩ hE
    rw [if_neg c9] at hE
    by_cases c9 : a1 = 3
    · rw [if_pos c9] at hE
      refine zg_tabIn (tgt := 166) ok dX2_count_21 (by rw [c9] <;> decide) (by rw [c9] <;> decide) (by rw [c9]; rfl) (by decide) ?_
      refine zg_aload_n ok dX2_count_166 rfl 0 rfl ?_
      refine zg_getA ok lf_X2_9 dX2_count_167 hE (fun v10 hE => ?_)
      refine zg_iload_n ok dX2_count_170 rfl 1 rfl ?_
      refine zg_iald ok dX2_count_171 hE (fun v11 hE => ?_)
      exact zg_iret ok fin dX2_count_172 ⟨Nat.le_of_ble_eq_true rfl, Nat.le_of_ble_eq_true rfl⟩ hE
    rw [if_neg c9] at hE
    by_cases c9 : a1 = 4
    · rw [if_pos c9] at hE
      refine zg_tabIn (tgt := 166) ok dX2_count_21 (by rw [c9] <;> decide) (by rw [c9] <;> decide) (by rw [c9]; rfl) (by decide) ?_
      refine zg_aload_n ok dX2_count_166 rfl 0 rfl ?_
      refine zg_getA ok lf_X2_9 dX2_count_167 hE (fun v12 hE => ?_)
      refine zg_iload_n ok dX2_count_170 rfl 1 rfl ?_
      refine zg_iald ok dX2_count_171 hE (fun v13 hE => ?_)
      exact zg_iret ok fin dX2_count_172 ⟨Nat.le_of_ble_eq_true rfl, Nat.le_of_ble_eq_true rfl⟩ hE
    rw [if_neg c9] at hE
    by_cases c9 : a1 = 5
    · rw [if_pos c9] at hE
      refine zg_tabIn (tgt := 166) ok dX2_count_21 (by rw [c9] <;> decide) (by rw [c9] <;> decide) (by rw [c9]; rfl) (by decide) ?_
      refine zg_aload_n ok dX2_count_166 rfl 0 rfl ?_
      refine zg_getA ok lf_X2_9 dX2_count_167 hE (fun v14 hE => ?_)
      refine zg_iload_n ok dX2_count_170 rfl 1 rfl ?_
      refine zg_iald ok dX2_count_171 hE (fun v15 hE => ?_)
      exact zg_iret ok fin dX2_count_172 ⟨Nat.le_of_ble_eq_true rfl, Nat.le_of_ble_eq_true rfl⟩ hE
    rw [if_neg c9] at hE
    by_cases c9 : a1 = 6
    · rw [if_pos c9] at hE
      refine zg_tabIn (tgt := 166) ok dX2_count_21 (by rw [c9] <;> decide) (by rw [c9] <;> decide) (by rw [c9]; rfl) (by decide) ?_
      refine zg_aload_n ok dX2_count_166 rfl 0 rfl ?_
      refine zg_getA ok lf_X2_9 dX2_count_167 hE (fun v16 hE => ?_)
      refine zg_iload_n ok dX2_count_170 rfl 1 rfl ?_
      refine zg_iald ok dX2_count_171 hE (fun v17 hE => ?_)
      exact zg_iret ok fin dX2_count_172 ⟨Nat.le_of_ble_eq_true rfl, Nat.le_of_ble_eq_true rfl⟩ hE
    rw [if_neg c9] at hE
    by_cases c9 : a1 = 7
    · rw [if_pos c9] at hE
      refine zg_tabIn (tgt := 116) ok dX2_count_21 (by rw [c9] <;> decide) (by rw [c9] <;> decide) (by rw [c9]; rfl) (by decide) ?_
      refine zg_aload_n ok dX2_count_116 rfl 0 rfl ?_
      refine zg_iconst (v := 0) ok dX2_count_117 (by decide) ?_
      refine zg_iconst (v := 0) ok dX2_count_118 (by decide) ?_
      refine zg_iconst (v := 0) ok dX2_count_119 (by decide) ?_
      refine zg_callV (vs := [zI 0, zI 0, zI 0]) (rest := []) (rm := rm_X2_charge) ok hRm lk_X2_200 dX2_count_120 hE (fun hE => mt_X2_charge hl hE) rfl (Nat.le_of_ble_eq_true rfl) ⟨⟨Nat.le_of_ble_eq_true rfl, Nat.le_of_ble_eq_true rfl⟩, Nat.le_of_ble_eq_true rfl, Nat.le_of_ble_eq_true rfl⟩ (zg_retI (fun v18 h5 hE => ?_)) (zg_xok ok tab fin ⟨Nat.le_of_ble_eq_true rfl, Nat.le_of_ble_eq_true rfl⟩)
      refine zg_cost (kc2 := 0) (ks2 := 0) ⟨rfl, rfl⟩ ?_
      exact zg_iret ok fin dX2_count_123 ⟨Nat.le_of_ble_eq_true rfl, Nat.le_of_ble_eq_true rfl⟩ hE
    rw [if_neg c9] at hE
    by_cases c9 : a1 = 8
    · rw [if_pos c9] at hE
      refine zg_tabIn (tgt := 124) ok dX2_count_21 (by rw [c9] <;> decide) (by rw [c9] <;> decide) (by rw [c9]; rfl) (by decide) ?_
      refine zg_aload_n ok dX2_count_124 rfl 0 rfl ?_
      refine zg_iconst (v := 0) ok dX2_count_125 (by decide) ?_
      refine zg_iconst (v := 0) ok dX2_count_126 (by decide) ?_
      refine zg_iconst (v := 1) ok dX2_count_127 (by decide) ?_
      refine zg_callV (vs := [zI 0, zI 0, zI 1]) (rest := []) (rm := rm_X2_charge) ok hRm lk_X2_200 dX2_count_128 hE (fun hE => mt_X2_charge hl hE) rfl (Nat.le_of_ble_eq_true rfl) ⟨⟨Nat.le_of_ble_eq_true rfl, Nat.le_of_ble_eq_true rfl⟩, Nat.le_of_ble_eq_true rfl, Nat.le_of_ble_eq_true rfl⟩ (zg_retI (fun v19 h6 hE => ?_)) (zg_xok ok tab fin ⟨Nat.le_of_ble_eq_true rfl, Nat.le_of_ble_eq_true rfl⟩)
      refine zg_cost (kc2 := 0) (ks2 := 0) ⟨rfl, rfl⟩ ?_
      exact zg_iret ok fin dX2_count_131 ⟨Nat.le_of_ble_eq_true rfl, Nat.le_of_ble_eq_true rfl⟩ hE
    rw [if_neg c9] at hE
    by_cases c9 : a1 = 9
    · rw [if_pos c9] at hE
      refine zg_tabIn (tgt := 132) ok dX2_count_21 (by rw [c9] <;> decide) (by rw [c9] <;> decide) (by rw [c9]; rfl) (by decide) ?_
      refine zg_aload_n ok dX2_count_132 rfl 0 rfl ?_
      refine zg_callV (vs := []) (rest := []) (rm := rm_X2_full) ok hRm lk_X2_204 dX2_count_133 hE (fun hE => mt_X2_full hl hE) rfl (Nat.le_of_ble_eq_true rfl) ⟨⟨Nat.le_of_ble_eq_true rfl, Nat.le_of_ble_eq_true rfl⟩, Nat.le_of_ble_eq_true rfl, Nat.le_of_ble_eq_true rfl⟩ (zg_retI (fun v20 h7 hE => ?_)) (zg_xok ok tab fin ⟨Nat.le_of_ble_eq_true rfl, Nat.le_of_ble_eq_true rfl⟩)
      refine zg_cost (kc2 := 0) (ks2 := 0) ⟨rfl, rfl⟩ ?_
      exact zg_iret ok fin dX2_count_136 ⟨Nat.le_of_ble_eq_true rfl, Nat.le_of_ble_eq_true rfl⟩ hE
    rw [if_neg c9] at hE
    by_cases c9 : a1 = 10
    · rw [if_pos c9] at hE
      refine zg_tabIn (tgt := 137) ok dX2_count_21 (by rw [c9] <;> decide) (by rw [c9] <;> decide) (by rw [c9]; rfl) (by decide) ?_
      refine zg_aload_n ok dX2_count_137 rfl 0 rfl ?_
      refine zg_getA ok lf_X2_9 dX2_count_138 hE (fun v21 hE => ?_)
      refine zg_iconst (v := 1) ok dX2_count_141 (by decide) ?_
      refine zg_iald ok dX2_count_142 hE (fun v22 hE => ?_)
      exact zg_iret ok fin dX2_count_143 ⟨Nat.le_of_ble_eq_true rfl, Nat.le_of_ble_eq_true rfl⟩ hE
    rw [if_neg c9] at hE
    by_cases c9 : a1 = 11
    · rw [if_pos c9] at hE
      refine zg_tabIn (tgt := 144) ok dX2_count_21 (by rw [c9] <;> decide) (by rw [c9] <;> decide) (by rw [c9]; rfl) (by decide) ?_
      refine zg_aload_n ok dX2_count_144 rfl 0 rfl ?_
      refine zg_iconst (v := 0) ok dX2_count_145 (by decide) ?_
      refine zg_callV (vs := [zI 0]) (rest := []) (rm := rm_X2_end) ok hRm lk_X2_207 dX2_count_146 hE (fun hE => mt_X2_end hl hE) rfl (Nat.le_of_ble_eq_true rfl) ⟨⟨Nat.le_of_ble_eq_true rfl, Nat.le_of_ble_eq_true rfl⟩, Nat.le_of_ble_eq_true rfl, Nat.le_of_ble_eq_true rfl⟩ (zg_retI (fun v23 h8 hE => ?_)) (zg_xok ok tab fin ⟨Nat.le_of_ble_eq_true rfl, Nat.le_of_ble_eq_true rfl⟩)
      refine zg_cost (kc2 := 0) (ks2 := 0) ⟨rfl, rfl⟩ ?_
      exact zg_iret ok fin dX2_count_149 ⟨Nat.le_of_ble_eq_true rfl, Nat.le_of_ble_eq_true rfl⟩ hE
    rw [if_neg c9] at hE
    by_cases c9 : a1 = 12
    · rw [if_pos c9] at hE
      refine zg_tabIn (tgt := 150) ok dX2_count_21 (by rw [c9] <;> decide) (by rw [c9] <;> decide) (by rw [c9]; rfl) (by decide) ?_
      refine zg_aload_n ok dX2_count_150 rfl 0 rfl ?_
      refine zg_iconst (v := 1) ok dX2_count_151 (by decide) ?_
      refine zg_callV (vs := [zI 1]) (rest := []) (rm := rm_X2_end) ok hRm lk_X2_207 dX2_count_152 hE (fun hE => mt_X2_end hl hE) rfl (Nat.le_of_ble_eq_true rfl) ⟨⟨Nat.le_of_ble_eq_true rfl, Nat.le_of_ble_eq_true rfl⟩, Nat.le_of_ble_eq_true rfl, Nat.le_of_ble_eq_true rfl⟩ (zg_retI (fun v24 h9 hE => ?_)) (zg_xok ok tab fin ⟨Nat.le_of_ble_eq_true rfl, Nat.le_of_ble_eq_true rfl⟩)
      refine zg_cost (kc2 := 0) (ks2 := 0) ⟨rfl, rfl⟩ ?_
      exact zg_iret ok fin dX2_count_155 ⟨Nat.le_of_ble_eq_true rfl, Nat.le_of_ble_eq_true rfl⟩ hE
    rw [if_neg c9] at hE
    by_cases c9 : a1 = 13
    · rw [if_pos c9] at hE
      refine zg_tabIn (tgt := 156) ok dX2_count_21 (by rw [c9] <;> decide) (by rw [c9] <;> decide) (by rw [c9]; rfl) (by decide) ?_
      refine zg_aload_n ok dX2_count_156 rfl 0 rfl ?_
      refine zg_getA ok lf_X2_9 dX2_count_157 hE (fun v25 hE => ?_)
      refine zg_iconst (v := 3) ok dX2_count_160 (by decide) ?_
      refine zg_iald ok dX2_count_161 hE (fun v26 hE => ?_)
      refine zg_callS (vs := [zI v26]) (rest := []) (rm := rm_X2_wide) ok hRm lk_X2_174 dX2_count_162 hE (fun hE => mt_X2_wide hl hE) rfl (Nat.le_of_ble_eq_true rfl) ⟨⟨Nat.le_of_ble_eq_true rfl, Nat.le_of_ble_eq_true rfl⟩, Nat.le_of_ble_eq_true rfl, Nat.le_of_ble_eq_true rfl⟩ (zg_retI (fun v27 h10 hE => ?_)) (zg_xok ok tab fin ⟨Nat.le_of_ble_eq_true rfl, Nat.le_of_ble_eq_true rfl⟩)
      refine zg_cost (kc2 := 0) (ks2 := 0) ⟨rfl, rfl⟩ ?_
      exact zg_iret ok fin dX2_count_165 ⟨Nat.le_of_ble_eq_true rfl, Nat.le_of_ble_eq_true rfl⟩ hE
    rw [if_neg c9] at hE
    obtain ⟨hd9, hE⟩ := hE
    refine zg_tabOut (tgt := 166) ok dX2_count_21 hd9 (by decide) ?_
    refine zg_aload_n ok dX2_count_166 rfl 0 rfl ?_
    refine zg_getA ok lf_X2_9 dX2_count_167 hE (fun v28 hE => ?_)
    refine zg_iload_n ok dX2_count_170 rfl 1 rfl ?_
    refine zg_iald ok dX2_count_171 hE (fun v29 hE => ?_)
    exact zg_iret ok fin dX2_count_172 ⟨Nat.le_of_ble_eq_true rfl, Nat.le_of_ble_eq_true rfl⟩ hE
  · refine zg_iconst (v := 0) ok dX2_count_18 (by decide) ?_
    exact zg_iret ok fin dX2_count_19 ⟨Nat.le_of_ble_eq_true rfl, Nat.le_of_ble_eq_true rfl⟩ hE
set_option maxHeartbeats 8000000 in
theorem mt_X2_isBody {l : Launch} (hl : l.stackTraces = false) {Z : zw_Z} {a0 : Option Nat} {a1 : Int32} {h : zw_H} {Q : Int32 → zw_H → Prop} {X : String → Nat → zw_H → Prop} (hE : f_X2_isBody Z.2.2.2 a0 a1 h Q X) : zw_Met l Z yX2_isBody (ws_ yX2_isBody cX2_isBody 2 (Option.some Jvm.ClassFile.FieldType.boolean)) rm_X2_isBody [zA a0, zI a1] h (zq_I Q) X := by
  refine zg_start (own := "MultipoleLineModel") (by decide +kernel) rfl (Nat.le_of_ble_eq_true rfl) hl (fun Xc ok tab fin hRm hXl hXZ => ?_)
  subst hXl
  subst hXZ
  unfold f_X2_isBody at hE
  refine zg_iload_n ok dX2_isBody_0 rfl 1 rfl ?_
  refine zg_iconst (v := 0) ok dX2_isBody_1 (by decide) ?_
  refine zg_aload_n ok dX2_isBody_2 rfl 0 rfl ?_
  refine zg_getA ok lf_X2_9 dX2_isBody_3 hE (fun v1 hE => ?_)
  refine zg_iconst (v := 0) ok dX2_isBody_6 (by decide) ?_
  refine zg_iald ok dX2_isBody_7 hE (fun v2 hE => ?_)
  refine zg_iconst (v := 1) ok dX2_isBody_8 (by decide) ?_
  refine zg_isub ok dX2_isBody_9 ?_
  refine zg_callS (vs := [zI a1, zI 0, zI (v2 - 1)]) (rest := []) (rm := rm_X2_in) ok hRm lk_X2_77 dX2_isBody_10 hE (fun hE => mt_X2_in hl hE) rfl (Nat.le_of_ble_eq_true rfl) ⟨⟨Nat.le_of_ble_eq_true rfl, Nat.le_of_ble_eq_true rfl⟩, Nat.le_of_ble_eq_true rfl, Nat.le_of_ble_eq_true rfl⟩ (zg_retI (fun v3 h1 hE => ?_)) (zg_xok ok tab fin ⟨Nat.le_of_ble_eq_true rfl, Nat.le_of_ble_eq_true rfl⟩)
  refine zg_cost (kc2 := 0) (ks2 := 0) ⟨rfl, rfl⟩ ?_
  exact zg_zretE (ret := none) ok fin dX2_isBody_13 ⟨Nat.le_of_ble_eq_true rfl, Nat.le_of_ble_eq_true rfl⟩ hE
set_option maxHeartbeats 8000000 in
theorem mt_X2_body {l : Launch} (hl : l.stackTraces = false) {Z : zw_Z} {a0 : Option Nat} {a1 : Int32} {a2 : Int32} {h : zw_H} {Q : Int32 → zw_H → Prop} {X : String → Nat → zw_H → Prop} (hE : f_X2_body Z.2.2.2 a0 a1 a2 h Q X) : zw_Met l Z yX2_body (ws_ yX2_body cX2_body 3 (Option.some Jvm.ClassFile.FieldType.int)) rm_X2_body [zA a0, zI a1, zI a2] h (zq_I Q) X := by
  refine zg_start (own := "MultipoleLineModel") (by decide +kernel) rfl (Nat.le_of_ble_eq_true rfl) hl (fun Xc ok tab fin hRm hXl hXZ => ?_)
  subst hXl
  subst hXZ
  unfold f_X2_body at hE
  refine zg_aload_n ok dX2_body_0 rfl 0 rfl ?_
  refine zg_aload_n ok dX2_body_1 rfl 0 rfl ?_
  refine zg_getI ok lf_X2_156 dX2_body_2 hE (fun v1 hE => ?_)
  refine zg_aload_n ok dX2_body_5 rfl 0 rfl ?_
  refine zg_iload_n ok dX2_body_6 rfl 1 rfl ?_
  refine zg_callV (vs := [zI a1]) (rest := [.int v1, va_rf a0]) (rm := rm_X2_isBody) ok hRm lk_X2_210 dX2_body_7 hE (fun hE => mt_X2_isBody hl hE) rfl (Nat.le_of_ble_eq_true rfl) ⟨⟨Nat.le_of_ble_eq_true rfl, Nat.le_of_ble_eq_true rfl⟩, Nat.le_of_ble_eq_true rfl, Nat.le_of_ble_eq_true rfl⟩ (zg_retI (fun v2 h1 hE => ?_)) (zg_xok ok tab fin ⟨Nat.le_of_ble_eq_true rfl, Nat.le_of_ble_eq_true rfl⟩)
  refine zg_cost (kc2 := 0) (ks2 := 0) ⟨rfl, rfl⟩ ?_
  refine zg_iload_n ok dX2_body_10 rfl 2 rfl ?_
  refine zg_iconst (v := 0) ok dX2_body_11 (by decide) ?_
  refine zg_iconst (v := 4) ok dX2_body_12 (by decide) ?_
  refine zg_callS (vs := [zI a2, zI 0, zI 4]) (rest := [.int v2, .int v1, va_rf a0]) (rm := rm_X2_in) ok hRm lk_X2_77 dX2_body_13 hE (fun hE => mt_X2_in hl hE) rfl (Nat.le_of_ble_eq_true rfl) ⟨⟨Nat.le_of_ble_eq_true rfl, Nat.le_of_ble_eq_true rfl⟩, Nat.le_of_ble_eq_true rfl, Nat.le_of_ble_eq_true rfl⟩ (zg_retI (fun v3 h2 hE => ?_)) (zg_xok ok tab fin ⟨Nat.le_of_ble_eq_true rfl, Nat.le_of_ble_eq_true rfl⟩)
  refine zg_cost (kc2 := 0) (ks2 := 0) ⟨rfl, rfl⟩ ?_
  refine zg_callV (vs := [zI v1, zI v2, zI v3]) (rest := []) (rm := rm_X2_may) ok hRm lk_X2_60 dX2_body_16 hE (fun hE => mt_X2_may hl hE) rfl (Nat.le_of_ble_eq_true rfl) ⟨⟨Nat.le_of_ble_eq_true rfl, Nat.le_of_ble_eq_true rfl⟩, Nat.le_of_ble_eq_true rfl, Nat.le_of_ble_eq_true rfl⟩ (zg_retI (fun v4 h3 hE => ?_)) (zg_xok ok tab fin ⟨Nat.le_of_ble_eq_true rfl, Nat.le_of_ble_eq_true rfl⟩)
  refine zg_cost (kc2 := 0) (ks2 := 0) ⟨rfl, rfl⟩ ?_
  refine zg_if_ne (tgt := 24) ok dX2_body_19 (by decide) hE (fun hE => ?_) (fun hE => ?_)
  · refine zg_iload_n ok dX2_body_24 rfl 2 rfl ?_
    refine zg_iconst (v := 3) ok dX2_body_25 (by decide) ?_
    refine zg_icmp_ge (tgt := 38) ok dX2_body_26 (by decide) hE (fun hE => ?_) (fun hE => ?_)
    · refine zg_iload_n ok dX2_body_38 rfl 2 rfl ?_
      refine zg_iconst (v := 3) ok dX2_body_39 (by decide) ?_
      refine zg_icmp_ne (tgt := 61) ok dX2_body_40 (by decide) hE (fun hE => ?_) (fun hE => ?_)
      · refine zg_aload_n ok dX2_body_61 rfl 0 rfl ?_
        refine zg_iload_n ok dX2_body_62 rfl 1 rfl ?_
        refine zg_iconst (v := 3) ok dX2_body_63 (by decide) ?_
        refine zg_callV (vs := [zI a1, zI 3]) (rest := []) (rm := rm_X2_of) ok hRm lk_X2_163 dX2_body_64 hE (fun hE => mt_X2_of hl hE) rfl (Nat.le_of_ble_eq_true rfl) ⟨⟨Nat.le_of_ble_eq_true rfl, Nat.le_of_ble_eq_true rfl⟩, Nat.le_of_ble_eq_true rfl, Nat.le_of_ble_eq_true rfl⟩ (zg_retI (fun v5 h4 hE => ?_)) (zg_xok ok tab fin ⟨Nat.le_of_ble_eq_true rfl, Nat.le_of_ble_eq_true rfl⟩)
        refine zg_cost (kc2 := 0) (ks2 := 0) ⟨rfl, rfl⟩ ?_
        exact zg_iret ok fin dX2_body_67 ⟨Nat.le_of_ble_eq_true rfl, Nat.le_of_ble_eq_true rfl⟩ hE
      · refine zg_aload_n ok dX2_body_43 rfl 0 rfl ?_
        refine zg_getA ok lf_X2_9 dX2_body_44 hE (fun v6 hE => ?_)
        refine zg_iconst (v := 3) ok dX2_body_47 (by decide) ?_
        refine zg_iald ok dX2_body_48 hE (fun v7 hE => ?_)
        refine zg_aload_n ok dX2_body_49 rfl 0 rfl ?_
        refine zg_iload_n ok dX2_body_50 rfl 1 rfl ?_
        refine zg_iconst (v := 0) ok dX2_body_51 (by decide) ?_
        refine zg_callV (vs := [zI a1, zI 0]) (rest := [.int v7]) (rm := rm_X2_of) ok hRm lk_X2_163 dX2_body_52 hE (fun hE => mt_X2_of hl hE) rfl (Nat.le_of_ble_eq_true rfl) ⟨⟨Nat.le_of_ble_eq_true rfl, Nat.le_of_ble_eq_true rfl⟩, Nat.le_of_ble_eq_true rfl, Nat.le_of_ble_eq_true rfl⟩ (zg_retI (fun v8 h5 hE => ?_)) (zg_xok ok tab fin ⟨Nat.le_of_ble_eq_true rfl, Nat.le_of_ble_eq_true rfl⟩)
        refine zg_cost (kc2 := 0) (ks2 := 0) ⟨rfl, rfl⟩ ?_
        refine zg_callS (vs := [zI v7, zI v8]) (rest := []) (rm := rm_X2_boxOf) ok hRm lk_X2_178 dX2_body_55 hE (fun hE => mt_X2_boxOf hl hE) rfl (Nat.le_of_ble_eq_true rfl) ⟨⟨Nat.le_of_ble_eq_true rfl, Nat.le_of_ble_eq_true rfl⟩, Nat.le_of_ble_eq_true rfl, Nat.le_of_ble_eq_true rfl⟩ (zg_retI (fun v9 h6 hE => ?_)) (zg_xok ok tab fin ⟨Nat.le_of_ble_eq_true rfl, Nat.le_of_ble_eq_true rfl⟩)
        refine zg_cost (kc2 := 0) (ks2 := 0) ⟨rfl, rfl⟩ ?_
        refine zg_goto (tgt := 67) ok dX2_body_58 (by decide) ?_
        exact zg_iret ok fin dX2_body_67 ⟨Nat.le_of_ble_eq_true rfl, Nat.le_of_ble_eq_true rfl⟩ hE
    · refine zg_aload_n ok dX2_body_29 rfl 0 rfl ?_
      refine zg_iload_n ok dX2_body_30 rfl 1 rfl ?_
      refine zg_iload_n ok dX2_body_31 rfl 2 rfl ?_
      refine zg_callV (vs := [zI a1, zI a2]) (rest := []) (rm := rm_X2_of) ok hRm lk_X2_163 dX2_body_32 hE (fun hE => mt_X2_of hl hE) rfl (Nat.le_of_ble_eq_true rfl) ⟨⟨Nat.le_of_ble_eq_true rfl, Nat.le_of_ble_eq_true rfl⟩, Nat.le_of_ble_eq_true rfl, Nat.le_of_ble_eq_true rfl⟩ (zg_retI (fun v10 h7 hE => ?_)) (zg_xok ok tab fin ⟨Nat.le_of_ble_eq_true rfl, Nat.le_of_ble_eq_true rfl⟩)
      refine zg_cost (kc2 := 0) (ks2 := 0) ⟨rfl, rfl⟩ ?_
      refine zg_goto (tgt := 67) ok dX2_body_35 (by decide) ?_
      exact zg_iret ok fin dX2_body_67 ⟨Nat.le_of_ble_eq_true rfl, Nat.le_of_ble_eq_true rfl⟩ hE
  · refine zg_iconst (v := 0) ok dX2_body_22 (by decide) ?_
    exact zg_iret ok fin dX2_body_23 ⟨Nat.le_of_ble_eq_true rfl, Nat.le_of_ble_eq_true rfl⟩ hE
set_option maxHeartbeats 8000000 in
theorem mt_X2_isPoint {l : Launch} (hl : l.stackTraces = false) {Z : zw_Z} {a0 : Int32} {h : zw_H} {Q : Int32 → zw_H → Prop} {X : String → Nat → zw_H → Prop} (hE : f_X2_isPoint Z.2.2.2 a0 h Q X) : zw_Met l Z yX2_isPoint (ws_ yX2_isPoint cX2_isPoint 1 (Option.some Jvm.ClassFile.FieldType.boolean)) rm_X2_isPoint [zI a0] h (zq_I Q) X := by
  refine zg_start (own := "MultipoleLineModel") (by decide +kernel) rfl (Nat.le_of_ble_eq_true rfl) hl (fun Xc ok tab fin hRm hXl hXZ => ?_)
  subst hXl
  subst hXZ
  unfold f_X2_isPoint at hE
  refine zg_iload_n ok dX2_isPoint_0 rfl 0 rfl ?_
  refine zg_iconst (v := 0) ok dX2_isPoint_1 (by decide) ?_
  refine zg_sipush (v := 255) ok dX2_isPoint_2 (by decide) ?_
  refine zg_callS (vs := [zI a0, zI 0, zI 255]) (rest := []) (rm := rm_X2_in) ok hRm lk_X2_77 dX2_isPoint_5 hE (fun hE => mt_X2_in hl hE) rfl (Nat.le_of_ble_eq_true rfl) ⟨⟨Nat.le_of_ble_eq_true rfl, Nat.le_of_ble_eq_true rfl⟩, Nat.le_of_ble_eq_true rfl, Nat.le_of_ble_eq_true rfl⟩ (zg_retI (fun v1 h1 hE => ?_)) (zg_xok ok tab fin ⟨Nat.le_of_ble_eq_true rfl, Nat.le_of_ble_eq_true rfl⟩)
  refine zg_cost (kc2 := 0) (ks2 := 0) ⟨rfl, rfl⟩ ?_
  exact zg_zretE (ret := none) ok fin dX2_isPoint_8 ⟨Nat.le_of_ble_eq_true rfl, Nat.le_of_ble_eq_true rfl⟩ hE
set_option maxHeartbeats 8000000 in
theorem mt_X2_mayPoint {l : Launch} (hl : l.stackTraces = false) {Z : zw_Z} {a0 : Option Nat} {a1 : Int32} {h : zw_H} {Q : Int32 → zw_H → Prop} {X : String → Nat → zw_H → Prop} (hE : f_X2_mayPoint Z.2.2.2 a0 a1 h Q X) : zw_Met l Z yX2_mayPoint (ws_ yX2_mayPoint cX2_mayPoint 2 (Option.some Jvm.ClassFile.FieldType.boolean)) rm_X2_mayPoint [zA a0, zI a1] h (zq_I Q) X := by
  refine zg_start (own := "MultipoleLineModel") (by decide +kernel) rfl (Nat.le_of_ble_eq_true rfl) hl (fun Xc ok tab fin hRm hXl hXZ => ?_)
  subst hXl
  subst hXZ
  unfold f_X2_mayPoint at hE
  refine zg_aload_n ok dX2_mayPoint_0 rfl 0 rfl ?_
  refine zg_aload_n ok dX2_mayPoint_1 rfl 0 rfl ?_
  refine zg_getI ok lf_X2_156 dX2_mayPoint_2 hE (fun v1 hE => ?_)
  refine zg_iload_n ok dX2_mayPoint_5 rfl 1 rfl ?_
  refine zg_callS (vs := [zI a1]) (rest := [.int v1, va_rf a0]) (rm := rm_X2_isPoint) ok hRm lk_X2_213 dX2_mayPoint_6 hE (fun hE => mt_X2_isPoint hl hE) rfl (Nat.le_of_ble_eq_true rfl) ⟨⟨Nat.le_of_ble_eq_true rfl, Nat.le_of_ble_eq_true rfl⟩, Nat.le_of_ble_eq_true rfl, Nat.le_of_ble_eq_true rfl⟩ (zg_retI (fun v2 h1 hE => ?_)) (zg_xok ok tab fin ⟨Nat.le_of_ble_eq_true rfl, Nat.le_of_ble_eq_true rfl⟩)
  refine zg_cost (kc2 := 0) (ks2 := 0) ⟨rfl, rfl⟩ ?_
  refine zg_callV (vs := [zI v1, zI v2]) (rest := []) (rm := rm_X2_mayTwo) ok hRm lk_X2_193 dX2_mayPoint_9 hE (fun hE => mt_X2_mayTwo hl hE) rfl (Nat.le_of_ble_eq_true rfl) ⟨⟨Nat.le_of_ble_eq_true rfl, Nat.le_of_ble_eq_true rfl⟩, Nat.le_of_ble_eq_true rfl, Nat.le_of_ble_eq_true rfl⟩ (zg_retI (fun v3 h2 hE => ?_)) (zg_xok ok tab fin ⟨Nat.le_of_ble_eq_true rfl, Nat.le_of_ble_eq_true rfl⟩)
  refine zg_cost (kc2 := 0) (ks2 := 0) ⟨rfl, rfl⟩ ?_
  exact zg_zretE (ret := none) ok fin dX2_mayPoint_12 ⟨Nat.le_of_ble_eq_true rfl, Nat.le_of_ble_eq_true rfl⟩ hE
set_option maxHeartbeats 8000000 in
theorem gt_f_X2_firstAt_B2 {Xc : zw_X} {Q : Int32 → zw_H → Prop} {X : String → Nat → zw_H → Prop} (hl : (zw_l Xc).stackTraces = false) (ok : zw_ok Xc cX2_firstAt "MultipoleLineModel" yX2_firstAt.name 3) (tab : zw_tab Xc []) (fin : zw_fin Xc (Option.some Jvm.ClassFile.FieldType.int) (zq_I Q) X 0 0) (hRm : zw_rm Xc = rm_X2_firstAt) {kc ks : Nat} (hb : kc ≤ 0 ∧ ks ≤ 0) {R : Int32 → zw_H → Prop} {l0 : Option Nat} {l1 : Int32} (hR : ∀ (l2 : Int32) (h : zw_H), R l2 h → zw_G Xc kc ks 3 h 2 [(0, va_rf l0), (1, .int l1), (2, .int l2)] []) {k22 : Int32 → zw_H → Prop} (hk22 : ∀ (l2 : Int32) (h : zw_H), k22 l2 h → zw_G Xc kc ks 3 h 22 [(2, .int l2)] []) {k30 : zw_H → Prop} (hk30 : ∀  (h : zw_H), k30  h → zw_G Xc kc ks 3 h 30 [] [])  {l2 : Int32} {h : zw_H} (hE : f_X2_firstAt_B2 (zw_Zf Xc).2.2.2 Q X k22 k30 l0 l1 R l2 h) : zw_G Xc kc ks 3 h 2 [(0, va_rf l0), (1, .int l1), (2, .int l2)] [] := by
  unfold f_X2_firstAt_B2 at hE
  refine zg_iload_n ok dX2_firstAt_2 rfl 2 rfl ?_
  refine zg_aload_n ok dX2_firstAt_3 rfl 0 rfl ?_
  refine zg_getA ok lf_X2_9 dX2_firstAt_4 hE (fun v1 hE => ?_)
  refine zg_iconst (v := 0) ok dX2_firstAt_7 (by decide) ?_
  refine zg_iald ok dX2_firstAt_8 hE (fun v2 hE => ?_)
  refine zg_icmp_ge (tgt := 30) ok dX2_firstAt_9 (by decide) hE (fun hE => ?_) (fun hE => ?_)
  · refine zg_sub (L' := []) [] rfl ?_
    exact hk30 _ hE
  · refine zg_aload_n ok dX2_firstAt_12 rfl 0 rfl ?_
    refine zg_iload_n ok dX2_firstAt_13 rfl 2 rfl ?_
    refine zg_iconst (v := 0) ok dX2_firstAt_14 (by decide) ?_
    refine zg_callV (vs := [zI l2, zI 0]) (rest := []) (rm := rm_X2_of) ok hRm lk_X2_163 dX2_firstAt_15 hE (fun hE => mt_X2_of hl hE) rfl (Nat.le_of_ble_eq_true rfl) ⟨⟨Nat.le_of_ble_eq_true rfl, Nat.le_of_ble_eq_true rfl⟩, (by show kc + 0 ≤ 0; omega), (by show ks + 0 ≤ 0; omega)⟩ (zg_retI (fun v3 h1 hE => ?_)) (zg_xok ok tab fin ⟨(by show kc + 0 ≤ 0; omega), (by show ks + 0 ≤ 0; omega)⟩)
    refine zg_cost (kc2 := kc) (ks2 := ks) ⟨(by show kc + 0 = kc; omega), (by show ks + 0 = ks; omega)⟩ ?_
    refine zg_iload_n ok dX2_firstAt_18 rfl 1 rfl ?_
    refine zg_icmp_ne (tgt := 24) ok dX2_firstAt_19 (by decide) hE (fun hE => ?_) (fun hE => ?_)
    · refine zg_iincL (k := 2) (L' := fun v4 => [(2, .int v4), (0, va_rf l0), (1, .int l1)]) ok dX2_firstAt_24 (by decide +kernel) hE rfl (by decide) (fun _ => rfl) (fun v4 hE => ?_)
      refine zg_goto (tgt := 2) ok dX2_firstAt_27 (by decide) ?_
      refine zg_sub (L' := [(0, va_rf l0), (1, .int l1), (2, .int v4)]) [1, 2, 0] rfl ?_
      exact hR _ _ hE
    · refine zg_sub (L' := [(2, .int l2)]) [2] rfl ?_
      exact hk22 _ _ hE
theorem gt_f_X2_firstAt_L2 {Xc : zw_X} {Q : Int32 → zw_H → Prop} {X : String → Nat → zw_H → Prop} (hl : (zw_l Xc).stackTraces = false) (ok : zw_ok Xc cX2_firstAt "MultipoleLineModel" yX2_firstAt.name 3) (tab : zw_tab Xc []) (fin : zw_fin Xc (Option.some Jvm.ClassFile.FieldType.int) (zq_I Q) X 0 0) (hRm : zw_rm Xc = rm_X2_firstAt) {kc ks : Nat} (hb : kc ≤ 0 ∧ ks ≤ 0) {l0 : Option Nat} {l1 : Int32} {k22 : Int32 → zw_H → Prop} (hk22 : ∀ (l2 : Int32) (h : zw_H), k22 l2 h → zw_G Xc kc ks 3 h 22 [(2, .int l2)] []) {k30 : zw_H → Prop} (hk30 : ∀  (h : zw_H), k30  h → zw_G Xc kc ks 3 h 30 [] [])  : ∀ (n9 : Nat) (l2 : Int32) (h : zw_H), zl2 (f_X2_firstAt_B2 (zw_Zf Xc).2.2.2 Q X k22 k30 l0 l1) n9 l2 h → zw_G Xc kc ks 3 h 2 [(0, va_rf l0), (1, .int l1), (2, .int l2)] [] := by
  intro n9
  induction n9 with
  | zero => intro l2 h hE; exact hE.elim
  | succ n9 ih => intro l2 h hE; exact gt_f_X2_firstAt_B2 hl ok tab fin hRm hb ih hk22 hk30 hE
set_option maxHeartbeats 8000000 in
theorem mt_X2_firstAt {l : Launch} (hl : l.stackTraces = false) {Z : zw_Z} {a0 : Option Nat} {a1 : Int32} {h : zw_H} {Q : Int32 → zw_H → Prop} {X : String → Nat → zw_H → Prop} (hE : f_X2_firstAt Z.2.2.2 a0 a1 h Q X) : zw_Met l Z yX2_firstAt (ws_ yX2_firstAt cX2_firstAt 3 (Option.some Jvm.ClassFile.FieldType.int)) rm_X2_firstAt [zA a0, zI a1] h (zq_I Q) X := by
  refine zg_start (own := "MultipoleLineModel") (by decide +kernel) rfl (Nat.le_of_ble_eq_true rfl) hl (fun Xc ok tab fin hRm hXl hXZ => ?_)
  subst hXl
  subst hXZ
  unfold f_X2_firstAt at hE
  refine zg_iconst (v := 0) ok dX2_firstAt_0 (by decide) ?_
  refine zg_istore_n (L' := [(2, .int 0), (0, va_rf a0), (1, .int a1)]) ok dX2_firstAt_1 rfl (by decide) rfl ?_
  refine zg_sub (L' := [(0, va_rf a0), (1, .int a1), (2, .int 0)]) [1, 2, 0] rfl ?_
  refine gt_f_X2_firstAt_L2 hl ok tab fin hRm ⟨Nat.le_of_ble_eq_true rfl, Nat.le_of_ble_eq_true rfl⟩ ?_ ?_ _ _ _ hE
  · intro v5 h2 hE
    refine zg_iload_n ok dX2_firstAt_22 rfl 0 rfl ?_
    exact zg_iret ok fin dX2_firstAt_23 ⟨Nat.le_of_ble_eq_true rfl, Nat.le_of_ble_eq_true rfl⟩ hE
  · intro h3 hE
    refine zg_iconst (v := (-1)) ok dX2_firstAt_30 (by decide) ?_
    exact zg_iret ok fin dX2_firstAt_31 ⟨Nat.le_of_ble_eq_true rfl, Nat.le_of_ble_eq_true rfl⟩ hE
set_option maxHeartbeats 8000000 in
theorem mt_X2_bodyAt {l : Launch} (hl : l.stackTraces = false) {Z : zw_Z} {a0 : Option Nat} {a1 : Int32} {h : zw_H} {Q : Int32 → zw_H → Prop} {X : String → Nat → zw_H → Prop} (hE : f_X2_bodyAt Z.2.2.2 a0 a1 h Q X) : zw_Met l Z yX2_bodyAt (ws_ yX2_bodyAt cX2_bodyAt 2 (Option.some Jvm.ClassFile.FieldType.int)) rm_X2_bodyAt [zA a0, zI a1] h (zq_I Q) X := by
  refine zg_start (own := "MultipoleLineModel") (by decide +kernel) rfl (Nat.le_of_ble_eq_true rfl) hl (fun Xc ok tab fin hRm hXl hXZ => ?_)
  subst hXl
  subst hXZ
  unfold f_X2_bodyAt at hE
  refine zg_aload_n ok dX2_bodyAt_0 rfl 0 rfl ?_
  refine zg_iload_n ok dX2_bodyAt_1 rfl 1 rfl ?_
  refine zg_callV (vs := [zI a1]) (rest := []) (rm := rm_X2_mayPoint) ok hRm lk_X2_216 dX2_bodyAt_2 hE (fun hE => mt_X2_mayPoint hl hE) rfl (Nat.le_of_ble_eq_true rfl) ⟨⟨Nat.le_of_ble_eq_true rfl, Nat.le_of_ble_eq_true rfl⟩, Nat.le_of_ble_eq_true rfl, Nat.le_of_ble_eq_true rfl⟩ (zg_retI (fun v1 h1 hE => ?_)) (zg_xok ok tab fin ⟨Nat.le_of_ble_eq_true rfl, Nat.le_of_ble_eq_true rfl⟩)
  refine zg_cost (kc2 := 0) (ks2 := 0) ⟨rfl, rfl⟩ ?_
  refine zg_if_eq (tgt := 16) ok dX2_bodyAt_5 (by decide) hE (fun hE => ?_) (fun hE => ?_)
  · refine zg_iconst (v := 0) ok dX2_bodyAt_16 (by decide) ?_
    exact zg_iret ok fin dX2_bodyAt_17 ⟨Nat.le_of_ble_eq_true rfl, Nat.le_of_ble_eq_true rfl⟩ hE
  · refine zg_aload_n ok dX2_bodyAt_8 rfl 0 rfl ?_
    refine zg_iload_n ok dX2_bodyAt_9 rfl 1 rfl ?_
    refine zg_callV (vs := [zI a1]) (rest := []) (rm := rm_X2_firstAt) ok hRm lk_X2_219 dX2_bodyAt_10 hE (fun hE => mt_X2_firstAt hl hE) rfl (Nat.le_of_ble_eq_true rfl) ⟨⟨Nat.le_of_ble_eq_true rfl, Nat.le_of_ble_eq_true rfl⟩, Nat.le_of_ble_eq_true rfl, Nat.le_of_ble_eq_true rfl⟩ (zg_retI (fun v2 h2 hE => ?_)) (zg_xok ok tab fin ⟨Nat.le_of_ble_eq_true rfl, Nat.le_of_ble_eq_true rfl⟩)
    refine zg_cost (kc2 := 0) (ks2 := 0) ⟨rfl, rfl⟩ ?_
    refine zg_goto (tgt := 17) ok dX2_bodyAt_13 (by decide) ?_
    exact zg_iret ok fin dX2_bodyAt_17 ⟨Nat.le_of_ble_eq_true rfl, Nat.le_of_ble_eq_true rfl⟩ hE
set_option maxHeartbeats 8000000 in
theorem mt_X2_isLevel {l : Launch} (hl : l.stackTraces = false) {Z : zw_Z} {a0 : Option Nat} {a1 : Int32} {h : zw_H} {Q : Int32 → zw_H → Prop} {X : String → Nat → zw_H → Prop} (hE : f_X2_isLevel Z.2.2.2 a0 a1 h Q X) : zw_Met l Z yX2_isLevel (ws_ yX2_isLevel cX2_isLevel 2 (Option.some Jvm.ClassFile.FieldType.boolean)) rm_X2_isLevel [zA a0, zI a1] h (zq_I Q) X := by
  refine zg_start (own := "MultipoleLineModel") (by decide +kernel) rfl (Nat.le_of_ble_eq_true rfl) hl (fun Xc ok tab fin hRm hXl hXZ => ?_)
  subst hXl
  subst hXZ
  unfold f_X2_isLevel at hE
  refine zg_iload_n ok dX2_isLevel_0 rfl 1 rfl ?_
  refine zg_iconst (v := 0) ok dX2_isLevel_1 (by decide) ?_
  refine zg_aload_n ok dX2_isLevel_2 rfl 0 rfl ?_
  refine zg_getA ok lf_X2_9 dX2_isLevel_3 hE (fun v1 hE => ?_)
  refine zg_iconst (v := 3) ok dX2_isLevel_6 (by decide) ?_
  refine zg_iald ok dX2_isLevel_7 hE (fun v2 hE => ?_)
  refine zg_callS (vs := [zI a1, zI 0, zI v2]) (rest := []) (rm := rm_X2_in) ok hRm lk_X2_77 dX2_isLevel_8 hE (fun hE => mt_X2_in hl hE) rfl (Nat.le_of_ble_eq_true rfl) ⟨⟨Nat.le_of_ble_eq_true rfl, Nat.le_of_ble_eq_true rfl⟩, Nat.le_of_ble_eq_true rfl, Nat.le_of_ble_eq_true rfl⟩ (zg_retI (fun v3 h1 hE => ?_)) (zg_xok ok tab fin ⟨Nat.le_of_ble_eq_true rfl, Nat.le_of_ble_eq_true rfl⟩)
  refine zg_cost (kc2 := 0) (ks2 := 0) ⟨rfl, rfl⟩ ?_
  exact zg_zretE (ret := none) ok fin dX2_isLevel_11 ⟨Nat.le_of_ble_eq_true rfl, Nat.le_of_ble_eq_true rfl⟩ hE
set_option maxHeartbeats 8000000 in
theorem mt_X2_isBox {l : Launch} (hl : l.stackTraces = false) {Z : zw_Z} {a0 : Option Nat} {a1 : Int32} {a2 : Int32} {h : zw_H} {Q : Int32 → zw_H → Prop} {X : String → Nat → zw_H → Prop} (hE : f_X2_isBox Z.2.2.2 a0 a1 a2 h Q X) : zw_Met l Z yX2_isBox (ws_ yX2_isBox cX2_isBox 3 (Option.some Jvm.ClassFile.FieldType.boolean)) rm_X2_isBox [zA a0, zI a1, zI a2] h (zq_I Q) X := by
  refine zg_start (own := "MultipoleLineModel") (by decide +kernel) rfl (Nat.le_of_ble_eq_true rfl) hl (fun Xc ok tab fin hRm hXl hXZ => ?_)
  subst hXl
  subst hXZ
  unfold f_X2_isBox at hE
  refine zg_aload_n ok dX2_isBox_0 rfl 0 rfl ?_
  refine zg_iload_n ok dX2_isBox_1 rfl 1 rfl ?_
  refine zg_callV (vs := [zI a1]) (rest := []) (rm := rm_X2_isLevel) ok hRm lk_X2_181 dX2_isBox_2 hE (fun hE => mt_X2_isLevel hl hE) rfl (Nat.le_of_ble_eq_true rfl) ⟨⟨Nat.le_of_ble_eq_true rfl, Nat.le_of_ble_eq_true rfl⟩, Nat.le_of_ble_eq_true rfl, Nat.le_of_ble_eq_true rfl⟩ (zg_retI (fun v1 h1 hE => ?_)) (zg_xok ok tab fin ⟨Nat.le_of_ble_eq_true rfl, Nat.le_of_ble_eq_true rfl⟩)
  refine zg_cost (kc2 := 0) (ks2 := 0) ⟨rfl, rfl⟩ ?_
  refine zg_if_eq (tgt := 25) ok dX2_isBox_5 (by decide) hE (fun hE => ?_) (fun hE => ?_)
  · refine zg_iconst (v := 0) ok dX2_isBox_25 (by decide) ?_
    exact zg_zret ok fin dX2_isBox_26 ⟨Nat.le_of_ble_eq_true rfl, Nat.le_of_ble_eq_true rfl⟩ rfl hE
  · refine zg_iload_n ok dX2_isBox_8 rfl 2 rfl ?_
    refine zg_iconst (v := 0) ok dX2_isBox_9 (by decide) ?_
    refine zg_iconst (v := 1) ok dX2_isBox_10 (by decide) ?_
    refine zg_iload_n ok dX2_isBox_11 rfl 1 rfl ?_
    refine zg_ishl ok dX2_isBox_12 ?_
    refine zg_iconst (v := 1) ok dX2_isBox_13 (by decide) ?_
    refine zg_isub ok dX2_isBox_14 ?_
    refine zg_callS (vs := [zI a2, zI 0, zI (((1 : Int32) <<< (a1 &&& 31)) - 1)]) (rest := []) (rm := rm_X2_in) ok hRm lk_X2_77 dX2_isBox_15 hE (fun hE => mt_X2_in hl hE) rfl (Nat.le_of_ble_eq_true rfl) ⟨⟨Nat.le_of_ble_eq_true rfl, Nat.le_of_ble_eq_true rfl⟩, Nat.le_of_ble_eq_true rfl, Nat.le_of_ble_eq_true rfl⟩ (zg_retI (fun v2 h2 hE => ?_)) (zg_xok ok tab fin ⟨Nat.le_of_ble_eq_true rfl, Nat.le_of_ble_eq_true rfl⟩)
    refine zg_cost (kc2 := 0) (ks2 := 0) ⟨rfl, rfl⟩ ?_
    refine zg_if_eq (tgt := 25) ok dX2_isBox_18 (by decide) hE (fun hE => ?_) (fun hE => ?_)
    · refine zg_iconst (v := 0) ok dX2_isBox_25 (by decide) ?_
      exact zg_zret ok fin dX2_isBox_26 ⟨Nat.le_of_ble_eq_true rfl, Nat.le_of_ble_eq_true rfl⟩ rfl hE
    · refine zg_iconst (v := 1) ok dX2_isBox_21 (by decide) ?_
      refine zg_goto (tgt := 26) ok dX2_isBox_22 (by decide) ?_
      exact zg_zret ok fin dX2_isBox_26 ⟨Nat.le_of_ble_eq_true rfl, Nat.le_of_ble_eq_true rfl⟩ rfl hE
set_option maxHeartbeats 8000000 in
theorem mt_X2_centre {l : Launch} (hl : l.stackTraces = false) {Z : zw_Z} {a0 : Int32} {a1 : Int32} {h : zw_H} {Q : Int32 → zw_H → Prop} {X : String → Nat → zw_H → Prop} (hE : f_X2_centre Z.2.2.2 a0 a1 h Q X) : zw_Met l Z yX2_centre (ws_ yX2_centre cX2_centre 2 (Option.some Jvm.ClassFile.FieldType.int)) rm_X2_centre [zI a0, zI a1] h (zq_I Q) X := by
  refine zg_start (own := "MultipoleLineModel") (by decide +kernel) rfl (Nat.le_of_ble_eq_true rfl) hl (fun Xc ok tab fin hRm hXl hXZ => ?_)
  subst hXl
  subst hXZ
  unfold f_X2_centre at hE
  refine zg_iload_n ok dX2_centre_0 rfl 1 rfl ?_
  refine zg_iload_n ok dX2_centre_1 rfl 0 rfl ?_
  refine zg_callS (vs := [zI a0]) (rest := [.int a1]) (rm := rm_X2_wide) ok hRm lk_X2_174 dX2_centre_2 hE (fun hE => mt_X2_wide hl hE) rfl (Nat.le_of_ble_eq_true rfl) ⟨⟨Nat.le_of_ble_eq_true rfl, Nat.le_of_ble_eq_true rfl⟩, Nat.le_of_ble_eq_true rfl, Nat.le_of_ble_eq_true rfl⟩ (zg_retI (fun v1 h1 hE => ?_)) (zg_xok ok tab fin ⟨Nat.le_of_ble_eq_true rfl, Nat.le_of_ble_eq_true rfl⟩)
  refine zg_cost (kc2 := 0) (ks2 := 0) ⟨rfl, rfl⟩ ?_
  refine zg_imul ok dX2_centre_5 ?_
  refine zg_iload_n ok dX2_centre_6 rfl 0 rfl ?_
  refine zg_callS (vs := [zI a0]) (rest := [.int (a1 * v1)]) (rm := rm_X2_wide) ok hRm lk_X2_174 dX2_centre_7 hE (fun hE => mt_X2_wide hl hE) rfl (Nat.le_of_ble_eq_true rfl) ⟨⟨Nat.le_of_ble_eq_true rfl, Nat.le_of_ble_eq_true rfl⟩, Nat.le_of_ble_eq_true rfl, Nat.le_of_ble_eq_true rfl⟩ (zg_retI (fun v2 h2 hE => ?_)) (zg_xok ok tab fin ⟨Nat.le_of_ble_eq_true rfl, Nat.le_of_ble_eq_true rfl⟩)
  refine zg_cost (kc2 := 0) (ks2 := 0) ⟨rfl, rfl⟩ ?_
  refine zg_iconst (v := 2) ok dX2_centre_10 (by decide) ?_
  refine zg_idivE ok dX2_centre_11 hE (fun hE => ?_)
  refine zg_iadd ok dX2_centre_12 ?_
  exact zg_iret ok fin dX2_centre_13 ⟨Nat.le_of_ble_eq_true rfl, Nat.le_of_ble_eq_true rfl⟩ hE
set_option maxHeartbeats 8000000 in
theorem gt_f_X2_box_J94 {Xc : zw_X} {Q : Int32 → zw_H → Prop} {X : String → Nat → zw_H → Prop} (hl : (zw_l Xc).stackTraces = false) (ok : zw_ok Xc cX2_box "MultipoleLineModel" yX2_box.name 4) (tab : zw_tab Xc []) (fin : zw_fin Xc (Option.some Jvm.ClassFile.FieldType.int) (zq_I Q) X 0 0) (hRm : zw_rm Xc = rm_X2_box)   {s0 : Int32} {s1 : Int32} {s2 : Int32} {s3 : Option Nat} {h : zw_H} (hE : f_X2_box_J94 (zw_Zf Xc).2.2.2 Q X  s0 s1 s2 s3 h) : zw_G Xc 0 0 4 h 94 [] [.int s0, .int s1, .int s2, va_rf s3] := by
  unfold f_X2_box_J94 at hE
  refine zg_callV (vs := [zI s2, zI s1, zI s0]) (rest := []) (rm := rm_X2_charge) ok hRm lk_X2_200 dX2_box_94 hE (fun hE => mt_X2_charge hl hE) rfl (Nat.le_of_ble_eq_true rfl) ⟨⟨Nat.le_of_ble_eq_true rfl, Nat.le_of_ble_eq_true rfl⟩, Nat.le_of_ble_eq_true rfl, Nat.le_of_ble_eq_true rfl⟩ (zg_retI (fun v9 h8 hE => ?_)) (zg_xok ok tab fin ⟨Nat.le_of_ble_eq_true rfl, Nat.le_of_ble_eq_true rfl⟩)
  refine zg_cost (kc2 := 0) (ks2 := 0) ⟨rfl, rfl⟩ ?_
  exact zg_iret ok fin dX2_box_97 ⟨Nat.le_of_ble_eq_true rfl, Nat.le_of_ble_eq_true rfl⟩ hE
set_option maxHeartbeats 8000000 in
theorem mt_X2_box {l : Launch} (hl : l.stackTraces = false) {Z : zw_Z} {a0 : Option Nat} {a1 : Int32} {a2 : Int32} {a3 : Int32} {h : zw_H} {Q : Int32 → zw_H → Prop} {X : String → Nat → zw_H → Prop} (hE : f_X2_box Z.2.2.2 a0 a1 a2 a3 h Q X) : zw_Met l Z yX2_box (ws_ yX2_box cX2_box 4 (Option.some Jvm.ClassFile.FieldType.int)) rm_X2_box [zA a0, zI a1, zI a2, zI a3] h (zq_I Q) X := by
  refine zg_start (own := "MultipoleLineModel") (by decide +kernel) rfl (Nat.le_of_ble_eq_true rfl) hl (fun Xc ok tab fin hRm hXl hXZ => ?_)
  subst hXl
  subst hXZ
  unfold f_X2_box at hE
  refine zg_aload_n ok dX2_box_0 rfl 0 rfl ?_
  refine zg_aload_n ok dX2_box_1 rfl 0 rfl ?_
  refine zg_getI ok lf_X2_156 dX2_box_2 hE (fun v1 hE => ?_)
  refine zg_aload_n ok dX2_box_5 rfl 0 rfl ?_
  refine zg_iload_n ok dX2_box_6 rfl 1 rfl ?_
  refine zg_iload_n ok dX2_box_7 rfl 2 rfl ?_
  refine zg_callV (vs := [zI a1, zI a2]) (rest := [.int v1, va_rf a0]) (rm := rm_X2_isBox) ok hRm lk_X2_222 dX2_box_8 hE (fun hE => mt_X2_isBox hl hE) rfl (Nat.le_of_ble_eq_true rfl) ⟨⟨Nat.le_of_ble_eq_true rfl, Nat.le_of_ble_eq_true rfl⟩, Nat.le_of_ble_eq_true rfl, Nat.le_of_ble_eq_true rfl⟩ (zg_retI (fun v2 h1 hE => ?_)) (zg_xok ok tab fin ⟨Nat.le_of_ble_eq_true rfl, Nat.le_of_ble_eq_true rfl⟩)
  refine zg_cost (kc2 := 0) (ks2 := 0) ⟨rfl, rfl⟩ ?_
  refine zg_iload_n ok dX2_box_11 rfl 3 rfl ?_
  refine zg_iconst (v := 0) ok dX2_box_12 (by decide) ?_
  refine zg_iconst (v := 5) ok dX2_box_13 (by decide) ?_
  refine zg_callS (vs := [zI a3, zI 0, zI 5]) (rest := [.int v2, .int v1, va_rf a0]) (rm := rm_X2_in) ok hRm lk_X2_77 dX2_box_14 hE (fun hE => mt_X2_in hl hE) rfl (Nat.le_of_ble_eq_true rfl) ⟨⟨Nat.le_of_ble_eq_true rfl, Nat.le_of_ble_eq_true rfl⟩, Nat.le_of_ble_eq_true rfl, Nat.le_of_ble_eq_true rfl⟩ (zg_retI (fun v3 h2 hE => ?_)) (zg_xok ok tab fin ⟨Nat.le_of_ble_eq_true rfl, Nat.le_of_ble_eq_true rfl⟩)
  refine zg_cost (kc2 := 0) (ks2 := 0) ⟨rfl, rfl⟩ ?_
  refine zg_callV (vs := [zI v1, zI v2, zI v3]) (rest := []) (rm := rm_X2_may) ok hRm lk_X2_60 dX2_box_17 hE (fun hE => mt_X2_may hl hE) rfl (Nat.le_of_ble_eq_true rfl) ⟨⟨Nat.le_of_ble_eq_true rfl, Nat.le_of_ble_eq_true rfl⟩, Nat.le_of_ble_eq_true rfl, Nat.le_of_ble_eq_true rfl⟩ (zg_retI (fun v4 h3 hE => ?_)) (zg_xok ok tab fin ⟨Nat.le_of_ble_eq_true rfl, Nat.le_of_ble_eq_true rfl⟩)
  refine zg_cost (kc2 := 0) (ks2 := 0) ⟨rfl, rfl⟩ ?_
  refine zg_if_ne (tgt := 25) ok dX2_box_20 (by decide) hE (fun hE => ?_) (fun hE => ?_)
  · refine zg_iload_n ok dX2_box_25 rfl 3 rfl ?_
    by_cases c9 : a3 = 0
    · rw [if_pos c9] at hE
      refine zg_tabIn (tgt := 56) ok dX2_box_26 (by rw [c9] <;> decide) (by rw [c9] <;> decide) (by rw [c9]; rfl) (by decide) ?_
      refine zg_iload_n ok dX2_box_56 rfl 2 rfl ?_
      refine zg_iload_n ok dX2_box_57 rfl 1 rfl ?_
      refine zg_callS (vs := [zI a1]) (rest := [.int a2]) (rm := rm_X2_wide) ok hRm lk_X2_174 dX2_box_58 hE (fun hE => mt_X2_wide hl hE) rfl (Nat.le_of_ble_eq_true rfl) ⟨⟨Nat.le_of_ble_eq_true rfl, Nat.le_of_ble_eq_true rfl⟩, Nat.le_of_ble_eq_true rfl, Nat.le_of_ble_eq_true rfl⟩ (zg_retI (fun v5 h4 hE => ?_)) (zg_xok ok tab fin ⟨Nat.le_of_ble_eq_true rfl, Nat.le_of_ble_eq_true rfl⟩)
      refine zg_cost (kc2 := 0) (ks2 := 0) ⟨rfl, rfl⟩ ?_
      refine zg_imul ok dX2_box_61 ?_
      exact zg_iret ok fin dX2_box_62 ⟨Nat.le_of_ble_eq_true rfl, Nat.le_of_ble_eq_true rfl⟩ hE
    rw [if_neg c9] at hE
    by_cases c9 : a3 = 1
    · rw [if_pos c9] at hE
      refine zg_tabIn (tgt := 63) ok dX2_box_26 (by rw [c9] <;> decide) (by rw [c9] <;> decide) (by rw [c9]; rfl) (by decide) ?_
      refine zg_iload_n ok dX2_box_63 rfl 1 rfl ?_
      refine zg_callS (vs := [zI a1]) (rest := []) (rm := rm_X2_wide) ok hRm lk_X2_174 dX2_box_64 hE (fun hE => mt_X2_wide hl hE) rfl (Nat.le_of_ble_eq_true rfl) ⟨⟨Nat.le_of_ble_eq_true rfl, Nat.le_of_ble_eq_true rfl⟩, Nat.le_of_ble_eq_true rfl, Nat.le_of_ble_eq_true rfl⟩ (zg_retI (fun v6 h5 hE => ?_)) (zg_xok ok tab fin ⟨Nat.le_of_ble_eq_true rfl, Nat.le_of_ble_eq_true rfl⟩)
      refine zg_cost (kc2 := 0) (ks2 := 0) ⟨rfl, rfl⟩ ?_
      exact zg_iret ok fin dX2_box_67 ⟨Nat.le_of_ble_eq_true rfl, Nat.le_of_ble_eq_true rfl⟩ hE
    rw [if_neg c9] at hE
    by_cases c9 : a3 = 2
    · rw [if_pos c9] at hE
      refine zg_tabIn (tgt := 68) ok dX2_box_26 (by rw [c9] <;> decide) (by rw [c9] <;> decide) (by rw [c9]; rfl) (by decide) ?_
      refine zg_iload_n ok dX2_box_68 rfl 1 rfl ?_
      refine zg_iload_n ok dX2_box_69 rfl 2 rfl ?_
      refine zg_callS (vs := [zI a1, zI a2]) (rest := []) (rm := rm_X2_centre) ok hRm lk_X2_226 dX2_box_70 hE (fun hE => mt_X2_centre hl hE) rfl (Nat.le_of_ble_eq_true rfl) ⟨⟨Nat.le_of_ble_eq_true rfl, Nat.le_of_ble_eq_true rfl⟩, Nat.le_of_ble_eq_true rfl, Nat.le_of_ble_eq_true rfl⟩ (zg_retI (fun v7 h6 hE => ?_)) (zg_xok ok tab fin ⟨Nat.le_of_ble_eq_true rfl, Nat.le_of_ble_eq_true rfl⟩)
      refine zg_cost (kc2 := 0) (ks2 := 0) ⟨rfl, rfl⟩ ?_
      exact zg_iret ok fin dX2_box_73 ⟨Nat.le_of_ble_eq_true rfl, Nat.le_of_ble_eq_true rfl⟩ hE
    rw [if_neg c9] at hE
    by_cases c9 : a3 = 3
    · rw [if_pos c9] at hE
      refine zg_tabIn (tgt := 74) ok dX2_box_26 (by rw [c9] <;> decide) (by rw [c9] <;> decide) (by rw [c9]; rfl) (by decide) ?_
      refine zg_aload_n ok dX2_box_74 rfl 0 rfl ?_
      refine zg_iload_n ok dX2_box_75 rfl 1 rfl ?_
      refine zg_iload_n ok dX2_box_76 rfl 2 rfl ?_
      refine zg_callV (vs := [zI a1, zI a2]) (rest := []) (rm := rm_X2_bodiesIn) ok hRm lk_X2_190 dX2_box_77 hE (fun hE => mt_X2_bodiesIn hl hE) rfl (Nat.le_of_ble_eq_true rfl) ⟨⟨Nat.le_of_ble_eq_true rfl, Nat.le_of_ble_eq_true rfl⟩, Nat.le_of_ble_eq_true rfl, Nat.le_of_ble_eq_true rfl⟩ (zg_retI (fun v8 h7 hE => ?_)) (zg_xok ok tab fin ⟨Nat.le_of_ble_eq_true rfl, Nat.le_of_ble_eq_true rfl⟩)
      refine zg_cost (kc2 := 0) (ks2 := 0) ⟨rfl, rfl⟩ ?_
      exact zg_iret ok fin dX2_box_80 ⟨Nat.le_of_ble_eq_true rfl, Nat.le_of_ble_eq_true rfl⟩ hE
    rw [if_neg c9] at hE
    obtain ⟨hd9, hE⟩ := hE
    refine zg_tabOut (tgt := 81) ok dX2_box_26 hd9 (by decide) ?_
    refine zg_aload_n ok dX2_box_81 rfl 0 rfl ?_
    refine zg_iload_n ok dX2_box_82 rfl 1 rfl ?_
    refine zg_iload_n ok dX2_box_83 rfl 2 rfl ?_
    refine zg_iload_n ok dX2_box_84 rfl 3 rfl ?_
    refine zg_iconst (v := 5) ok dX2_box_85 (by decide) ?_
    refine zg_icmp_ne (tgt := 93) ok dX2_box_86 (by decide) hE (fun hE => ?_) (fun hE => ?_)
    · refine zg_iconst (v := 0) ok dX2_box_93 (by decide) ?_
      refine zg_sub (L' := []) [] rfl ?_
      exact gt_f_X2_box_J94 hl ok tab fin hRm  hE
    · refine zg_iconst (v := 1) ok dX2_box_89 (by decide) ?_
      refine zg_goto (tgt := 94) ok dX2_box_90 (by decide) ?_
      refine zg_sub (L' := []) [] rfl ?_
      exact gt_f_X2_box_J94 hl ok tab fin hRm  hE
  · refine zg_iconst (v := 0) ok dX2_box_23 (by decide) ?_
    exact zg_iret ok fin dX2_box_24 ⟨Nat.le_of_ble_eq_true rfl, Nat.le_of_ble_eq_true rfl⟩ hE
set_option maxHeartbeats 8000000 in
theorem mt_X2_boxAt {l : Launch} (hl : l.stackTraces = false) {Z : zw_Z} {a0 : Option Nat} {a1 : Int32} {a2 : Int32} {h : zw_H} {Q : Int32 → zw_H → Prop} {X : String → Nat → zw_H → Prop} (hE : f_X2_boxAt Z.2.2.2 a0 a1 a2 h Q X) : zw_Met l Z yX2_boxAt (ws_ yX2_boxAt cX2_boxAt 3 (Option.some Jvm.ClassFile.FieldType.int)) rm_X2_boxAt [zA a0, zI a1, zI a2] h (zq_I Q) X := by
  refine zg_start (own := "MultipoleLineModel") (by decide +kernel) rfl (Nat.le_of_ble_eq_true rfl) hl (fun Xc ok tab fin hRm hXl hXZ => ?_)
  subst hXl
  subst hXZ
  unfold f_X2_boxAt at hE
  refine zg_aload_n ok dX2_boxAt_0 rfl 0 rfl ?_
  refine zg_aload_n ok dX2_boxAt_1 rfl 0 rfl ?_
  refine zg_getI ok lf_X2_156 dX2_boxAt_2 hE (fun v1 hE => ?_)
  refine zg_aload_n ok dX2_boxAt_5 rfl 0 rfl ?_
  refine zg_iload_n ok dX2_boxAt_6 rfl 1 rfl ?_
  refine zg_callV (vs := [zI a1]) (rest := [.int v1, va_rf a0]) (rm := rm_X2_isLevel) ok hRm lk_X2_181 dX2_boxAt_7 hE (fun hE => mt_X2_isLevel hl hE) rfl (Nat.le_of_ble_eq_true rfl) ⟨⟨Nat.le_of_ble_eq_true rfl, Nat.le_of_ble_eq_true rfl⟩, Nat.le_of_ble_eq_true rfl, Nat.le_of_ble_eq_true rfl⟩ (zg_retI (fun v2 h1 hE => ?_)) (zg_xok ok tab fin ⟨Nat.le_of_ble_eq_true rfl, Nat.le_of_ble_eq_true rfl⟩)
  refine zg_cost (kc2 := 0) (ks2 := 0) ⟨rfl, rfl⟩ ?_
  refine zg_iload_n ok dX2_boxAt_10 rfl 2 rfl ?_
  refine zg_callS (vs := [zI a2]) (rest := [.int v2, .int v1, va_rf a0]) (rm := rm_X2_isPoint) ok hRm lk_X2_213 dX2_boxAt_11 hE (fun hE => mt_X2_isPoint hl hE) rfl (Nat.le_of_ble_eq_true rfl) ⟨⟨Nat.le_of_ble_eq_true rfl, Nat.le_of_ble_eq_true rfl⟩, Nat.le_of_ble_eq_true rfl, Nat.le_of_ble_eq_true rfl⟩ (zg_retI (fun v3 h2 hE => ?_)) (zg_xok ok tab fin ⟨Nat.le_of_ble_eq_true rfl, Nat.le_of_ble_eq_true rfl⟩)
  refine zg_cost (kc2 := 0) (ks2 := 0) ⟨rfl, rfl⟩ ?_
  refine zg_callV (vs := [zI v1, zI v2, zI v3]) (rest := []) (rm := rm_X2_may) ok hRm lk_X2_60 dX2_boxAt_14 hE (fun hE => mt_X2_may hl hE) rfl (Nat.le_of_ble_eq_true rfl) ⟨⟨Nat.le_of_ble_eq_true rfl, Nat.le_of_ble_eq_true rfl⟩, Nat.le_of_ble_eq_true rfl, Nat.le_of_ble_eq_true rfl⟩ (zg_retI (fun v4 h3 hE => ?_)) (zg_xok ok tab fin ⟨Nat.le_of_ble_eq_true rfl, Nat.le_of_ble_eq_true rfl⟩)
  refine zg_cost (kc2 := 0) (ks2 := 0) ⟨rfl, rfl⟩ ?_
  refine zg_if_eq (tgt := 28) ok dX2_boxAt_17 (by decide) hE (fun hE => ?_) (fun hE => ?_)
  · refine zg_iconst (v := 0) ok dX2_boxAt_28 (by decide) ?_
    exact zg_iret ok fin dX2_boxAt_29 ⟨Nat.le_of_ble_eq_true rfl, Nat.le_of_ble_eq_true rfl⟩ hE
  · refine zg_iload_n ok dX2_boxAt_20 rfl 1 rfl ?_
    refine zg_iload_n ok dX2_boxAt_21 rfl 2 rfl ?_
    refine zg_callS (vs := [zI a1, zI a2]) (rest := []) (rm := rm_X2_boxOf) ok hRm lk_X2_178 dX2_boxAt_22 hE (fun hE => mt_X2_boxOf hl hE) rfl (Nat.le_of_ble_eq_true rfl) ⟨⟨Nat.le_of_ble_eq_true rfl, Nat.le_of_ble_eq_true rfl⟩, Nat.le_of_ble_eq_true rfl, Nat.le_of_ble_eq_true rfl⟩ (zg_retI (fun v5 h4 hE => ?_)) (zg_xok ok tab fin ⟨Nat.le_of_ble_eq_true rfl, Nat.le_of_ble_eq_true rfl⟩)
    refine zg_cost (kc2 := 0) (ks2 := 0) ⟨rfl, rfl⟩ ?_
    refine zg_goto (tgt := 29) ok dX2_boxAt_25 (by decide) ?_
    exact zg_iret ok fin dX2_boxAt_29 ⟨Nat.le_of_ble_eq_true rfl, Nat.le_of_ble_eq_true rfl⟩ hE
set_option maxHeartbeats 8000000 in
theorem mt_X2_mayAsk {l : Launch} (hl : l.stackTraces = false) {Z : zw_Z} {a0 : Option Nat} {h : zw_H} {Q : Int32 → zw_H → Prop} {X : String → Nat → zw_H → Prop} (hE : f_X2_mayAsk Z.2.2.2 a0 h Q X) : zw_Met l Z yX2_mayAsk (ws_ yX2_mayAsk cX2_mayAsk 1 (Option.some Jvm.ClassFile.FieldType.boolean)) rm_X2_mayAsk [zA a0] h (zq_I Q) X := by
  refine zg_start (own := "MultipoleLineModel") (by decide +kernel) rfl (Nat.le_of_ble_eq_true rfl) hl (fun Xc ok tab fin hRm hXl hXZ => ?_)
  subst hXl
  subst hXZ
  unfold f_X2_mayAsk at hE
  refine zg_aload_n ok dX2_mayAsk_0 rfl 0 rfl ?_
  refine zg_aload_n ok dX2_mayAsk_1 rfl 0 rfl ?_
  refine zg_getI ok lf_X2_156 dX2_mayAsk_2 hE (fun v1 hE => ?_)
  refine zg_iconst (v := 1) ok dX2_mayAsk_5 (by decide) ?_
  refine zg_iconst (v := 1) ok dX2_mayAsk_6 (by decide) ?_
  refine zg_callV (vs := [zI v1, zI 1, zI 1]) (rest := []) (rm := rm_X2_may) ok hRm lk_X2_60 dX2_mayAsk_7 hE (fun hE => mt_X2_may hl hE) rfl (Nat.le_of_ble_eq_true rfl) ⟨⟨Nat.le_of_ble_eq_true rfl, Nat.le_of_ble_eq_true rfl⟩, Nat.le_of_ble_eq_true rfl, Nat.le_of_ble_eq_true rfl⟩ (zg_retI (fun v2 h1 hE => ?_)) (zg_xok ok tab fin ⟨Nat.le_of_ble_eq_true rfl, Nat.le_of_ble_eq_true rfl⟩)
  refine zg_cost (kc2 := 0) (ks2 := 0) ⟨rfl, rfl⟩ ?_
  exact zg_zretE (ret := none) ok fin dX2_mayAsk_10 ⟨Nat.le_of_ble_eq_true rfl, Nat.le_of_ble_eq_true rfl⟩ hE
set_option maxHeartbeats 8000000 in
theorem gt_f_X2_firstEmpty_B11 {Xc : zw_X} {Q : Int32 → zw_H → Prop} {X : String → Nat → zw_H → Prop} (hl : (zw_l Xc).stackTraces = false) (ok : zw_ok Xc cX2_firstEmpty "MultipoleLineModel" yX2_firstEmpty.name 2) (tab : zw_tab Xc []) (fin : zw_fin Xc (Option.some Jvm.ClassFile.FieldType.int) (zq_I Q) X 0 0) (hRm : zw_rm Xc = rm_X2_firstEmpty) {kc ks : Nat} (hb : kc ≤ 0 ∧ ks ≤ 0) {R : Int32 → zw_H → Prop} {l0 : Option Nat} (hR : ∀ (l1 : Int32) (h : zw_H), R l1 h → zw_G Xc kc ks 2 h 11 [(0, va_rf l0), (1, .int l1)] []) {k37 : Int32 → zw_H → Prop} (hk37 : ∀ (l1 : Int32) (h : zw_H), k37 l1 h → zw_G Xc kc ks 2 h 37 [(1, .int l1)] []) {k45 : zw_H → Prop} (hk45 : ∀  (h : zw_H), k45  h → zw_G Xc kc ks 2 h 45 [] [])  {l1 : Int32} {h : zw_H} (hE : f_X2_firstEmpty_B11 (zw_Zf Xc).2.2.2 Q X k37 k45 l0 R l1 h) : zw_G Xc kc ks 2 h 11 [(0, va_rf l0), (1, .int l1)] [] := by
  unfold f_X2_firstEmpty_B11 at hE
  refine zg_iload_n ok dX2_firstEmpty_11 rfl 1 rfl ?_
  refine zg_iconst (v := 1) ok dX2_firstEmpty_12 (by decide) ?_
  refine zg_aload_n ok dX2_firstEmpty_13 rfl 0 rfl ?_
  refine zg_getA ok lf_X2_9 dX2_firstEmpty_14 hE (fun v2 hE => ?_)
  refine zg_iconst (v := 3) ok dX2_firstEmpty_17 (by decide) ?_
  refine zg_iald ok dX2_firstEmpty_18 hE (fun v3 hE => ?_)
  refine zg_ishl ok dX2_firstEmpty_19 ?_
  refine zg_icmp_ge (tgt := 45) ok dX2_firstEmpty_20 (by decide) hE (fun hE => ?_) (fun hE => ?_)
  · refine zg_sub (L' := []) [] rfl ?_
    exact hk45 _ hE
  · refine zg_aload_n ok dX2_firstEmpty_23 rfl 0 rfl ?_
    refine zg_aload_n ok dX2_firstEmpty_24 rfl 0 rfl ?_
    refine zg_getA ok lf_X2_9 dX2_firstEmpty_25 hE (fun v4 hE => ?_)
    refine zg_iconst (v := 3) ok dX2_firstEmpty_28 (by decide) ?_
    refine zg_iald ok dX2_firstEmpty_29 hE (fun v5 hE => ?_)
    refine zg_iload_n ok dX2_firstEmpty_30 rfl 1 rfl ?_
    refine zg_callV (vs := [zI v5, zI l1]) (rest := []) (rm := rm_X2_bodiesIn) ok hRm lk_X2_190 dX2_firstEmpty_31 hE (fun hE => mt_X2_bodiesIn hl hE) rfl (Nat.le_of_ble_eq_true rfl) ⟨⟨Nat.le_of_ble_eq_true rfl, Nat.le_of_ble_eq_true rfl⟩, (by show kc + 0 ≤ 0; omega), (by show ks + 0 ≤ 0; omega)⟩ (zg_retI (fun v6 h2 hE => ?_)) (zg_xok ok tab fin ⟨(by show kc + 0 ≤ 0; omega), (by show ks + 0 ≤ 0; omega)⟩)
    refine zg_cost (kc2 := kc) (ks2 := ks) ⟨(by show kc + 0 = kc; omega), (by show ks + 0 = ks; omega)⟩ ?_
    refine zg_if_ne (tgt := 39) ok dX2_firstEmpty_34 (by decide) hE (fun hE => ?_) (fun hE => ?_)
    · refine zg_iincLR (k := 1) (L' := fun v7 => [(1, .int v7), (0, va_rf l0)]) ok dX2_firstEmpty_39 (by decide +kernel) hE rfl (by decide) rfl (k9 := 0) rfl (fun _ => rfl) (fun v7 hE => ?_)
      refine zg_goto (tgt := 11) ok dX2_firstEmpty_42 (by decide) ?_
      refine zg_sub (L' := [(0, va_rf l0), (1, .int v7)]) [1, 0] rfl ?_
      exact hR _ _ hE
    · refine zg_sub (L' := [(1, .int l1)]) [1] rfl ?_
      exact hk37 _ _ hE
theorem gt_f_X2_firstEmpty_L11 {Xc : zw_X} {Q : Int32 → zw_H → Prop} {X : String → Nat → zw_H → Prop} (hl : (zw_l Xc).stackTraces = false) (ok : zw_ok Xc cX2_firstEmpty "MultipoleLineModel" yX2_firstEmpty.name 2) (tab : zw_tab Xc []) (fin : zw_fin Xc (Option.some Jvm.ClassFile.FieldType.int) (zq_I Q) X 0 0) (hRm : zw_rm Xc = rm_X2_firstEmpty) {kc ks : Nat} (hb : kc ≤ 0 ∧ ks ≤ 0) {l0 : Option Nat} {k37 : Int32 → zw_H → Prop} (hk37 : ∀ (l1 : Int32) (h : zw_H), k37 l1 h → zw_G Xc kc ks 2 h 37 [(1, .int l1)] []) {k45 : zw_H → Prop} (hk45 : ∀  (h : zw_H), k45  h → zw_G Xc kc ks 2 h 45 [] [])  : ∀ (n9 : Nat) (l1 : Int32) (h : zw_H), zl2 (f_X2_firstEmpty_B11 (zw_Zf Xc).2.2.2 Q X k37 k45 l0) n9 l1 h → zw_G Xc kc ks 2 h 11 [(0, va_rf l0), (1, .int l1)] [] := by
  intro n9
  induction n9 with
  | zero => intro l1 h hE; exact hE.elim
  | succ n9 ih => intro l1 h hE; exact gt_f_X2_firstEmpty_B11 hl ok tab fin hRm hb ih hk37 hk45 hE
set_option maxHeartbeats 8000000 in
theorem mt_X2_firstEmpty {l : Launch} (hl : l.stackTraces = false) {Z : zw_Z} {a0 : Option Nat} {h : zw_H} {Q : Int32 → zw_H → Prop} {X : String → Nat → zw_H → Prop} (hE : f_X2_firstEmpty Z.2.2.2 a0 h Q X) : zw_Met l Z yX2_firstEmpty (ws_ yX2_firstEmpty cX2_firstEmpty 2 (Option.some Jvm.ClassFile.FieldType.int)) rm_X2_firstEmpty [zA a0] h (zq_I Q) X := by
  refine zg_start (own := "MultipoleLineModel") (by decide +kernel) rfl (Nat.le_of_ble_eq_true rfl) hl (fun Xc ok tab fin hRm hXl hXZ => ?_)
  subst hXl
  subst hXZ
  unfold f_X2_firstEmpty at hE
  refine zg_aload_n ok dX2_firstEmpty_0 rfl 0 rfl ?_
  refine zg_callV (vs := []) (rest := []) (rm := rm_X2_mayAsk) ok hRm lk_X2_229 dX2_firstEmpty_1 hE (fun hE => mt_X2_mayAsk hl hE) rfl (Nat.le_of_ble_eq_true rfl) ⟨⟨Nat.le_of_ble_eq_true rfl, Nat.le_of_ble_eq_true rfl⟩, Nat.le_of_ble_eq_true rfl, Nat.le_of_ble_eq_true rfl⟩ (zg_retI (fun v1 h1 hE => ?_)) (zg_xok ok tab fin ⟨Nat.le_of_ble_eq_true rfl, Nat.le_of_ble_eq_true rfl⟩)
  refine zg_cost (kc2 := 0) (ks2 := 0) ⟨rfl, rfl⟩ ?_
  refine zg_if_ne (tgt := 9) ok dX2_firstEmpty_4 (by decide) hE (fun hE => ?_) (fun hE => ?_)
  · refine zg_iconst (v := 0) ok dX2_firstEmpty_9 (by decide) ?_
    refine zg_istore_nR (L' := [(1, .int 0), (0, va_rf a0)]) ok dX2_firstEmpty_10 rfl (by decide) 0 rfl rfl rfl ?_
    refine zg_sub (L' := [(0, va_rf a0), (1, .int 0)]) [1, 0] rfl ?_
    refine gt_f_X2_firstEmpty_L11 hl ok tab fin hRm ⟨Nat.le_of_ble_eq_true rfl, Nat.le_of_ble_eq_true rfl⟩ ?_ ?_ _ _ _ hE
    · intro v8 h3 hE
      refine zg_iload_n ok dX2_firstEmpty_37 rfl 0 rfl ?_
      exact zg_iret ok fin dX2_firstEmpty_38 ⟨Nat.le_of_ble_eq_true rfl, Nat.le_of_ble_eq_true rfl⟩ hE
    · intro h4 hE
      refine zg_iconst (v := (-1)) ok dX2_firstEmpty_45 (by decide) ?_
      exact zg_iret ok fin dX2_firstEmpty_46 ⟨Nat.le_of_ble_eq_true rfl, Nat.le_of_ble_eq_true rfl⟩ hE
  · refine zg_iconst (v := 0) ok dX2_firstEmpty_7 (by decide) ?_
    exact zg_iret ok fin dX2_firstEmpty_8 ⟨Nat.le_of_ble_eq_true rfl, Nat.le_of_ble_eq_true rfl⟩ hE
set_option maxHeartbeats 8000000 in
theorem gt_f_X2_densest_J54 {Xc : zw_X} {Q : Int32 → zw_H → Prop} {X : String → Nat → zw_H → Prop} (hl : (zw_l Xc).stackTraces = false) (ok : zw_ok Xc cX2_densest "MultipoleLineModel" yX2_densest.name 5) (tab : zw_tab Xc []) (fin : zw_fin Xc (Option.some Jvm.ClassFile.FieldType.int) (zq_I Q) X 0 0) (hRm : zw_rm Xc = rm_X2_densest) {kc ks : Nat} (hb : kc ≤ 0 ∧ ks ≤ 0) {R : Int32 → Int32 → Int32 → zw_H → Prop} {l0 : Option Nat} (hR : ∀ (l1 : Int32) (l2 : Int32) (l3 : Int32) (h : zw_H), R l1 l2 l3 h → zw_G Xc kc ks 5 h 15 [(0, va_rf l0), (1, .int l1), (2, .int l2), (3, .int l3)] []) {k60 : Int32 → zw_H → Prop} (hk60 : ∀ (l1 : Int32) (h : zw_H), k60 l1 h → zw_G Xc kc ks 5 h 60 [(1, .int l1)] [])  {l1 : Int32} {l2 : Int32} {l3 : Int32}  {h : zw_H} (hE : f_X2_densest_J54 (zw_Zf Xc).2.2.2 Q X R k60 l0 l1 l2 l3 h) : zw_G Xc kc ks 5 h 54 [(0, va_rf l0), (1, .int l1), (2, .int l2), (3, .int l3)] [] := by
  unfold f_X2_densest_J54 at hE
  refine zg_iincL (k := 3) (L' := fun v7 => [(3, .int v7), (0, va_rf l0), (1, .int l1), (2, .int l2)]) ok dX2_densest_54 (by decide +kernel) hE rfl (by decide) (fun _ => rfl) (fun v7 hE => ?_)
  refine zg_goto (tgt := 15) ok dX2_densest_57 (by decide) ?_
  refine zg_sub (L' := [(0, va_rf l0), (1, .int l1), (2, .int l2), (3, .int v7)]) [1, 2, 3, 0] rfl ?_
  exact hR _ _ _ _ hE
set_option maxHeartbeats 8000000 in
theorem gt_f_X2_densest_B15 {Xc : zw_X} {Q : Int32 → zw_H → Prop} {X : String → Nat → zw_H → Prop} (hl : (zw_l Xc).stackTraces = false) (ok : zw_ok Xc cX2_densest "MultipoleLineModel" yX2_densest.name 5) (tab : zw_tab Xc []) (fin : zw_fin Xc (Option.some Jvm.ClassFile.FieldType.int) (zq_I Q) X 0 0) (hRm : zw_rm Xc = rm_X2_densest) {kc ks : Nat} (hb : kc ≤ 0 ∧ ks ≤ 0) {R : Int32 → Int32 → Int32 → zw_H → Prop} {l0 : Option Nat} (hR : ∀ (l1 : Int32) (l2 : Int32) (l3 : Int32) (h : zw_H), R l1 l2 l3 h → zw_G Xc kc ks 5 h 15 [(0, va_rf l0), (1, .int l1), (2, .int l2), (3, .int l3)] []) {k60 : Int32 → zw_H → Prop} (hk60 : ∀ (l1 : Int32) (h : zw_H), k60 l1 h → zw_G Xc kc ks 5 h 60 [(1, .int l1)] [])  {l1 : Int32} {l2 : Int32} {l3 : Int32} {h : zw_H} (hE : f_X2_densest_B15 (zw_Zf Xc).2.2.2 Q X k60 l0 R l1 l2 l3 h) : zw_G Xc kc ks 5 h 15 [(0, va_rf l0), (1, .int l1), (2, .int l2), (3, .int l3)] [] := by
  unfold f_X2_densest_B15 at hE
  refine zg_iload_n ok dX2_densest_15 rfl 3 rfl ?_
  refine zg_iconst (v := 1) ok dX2_densest_16 (by decide) ?_
  refine zg_aload_n ok dX2_densest_17 rfl 0 rfl ?_
  refine zg_getA ok lf_X2_9 dX2_densest_18 hE (fun v2 hE => ?_)
  refine zg_iconst (v := 3) ok dX2_densest_21 (by decide) ?_
  refine zg_iald ok dX2_densest_22 hE (fun v3 hE => ?_)
  refine zg_ishl ok dX2_densest_23 ?_
  refine zg_icmp_ge (tgt := 60) ok dX2_densest_24 (by decide) hE (fun hE => ?_) (fun hE => ?_)
  · refine zg_sub (L' := [(1, .int l1)]) [1] rfl ?_
    exact hk60 _ _ hE
  · refine zg_aload_n ok dX2_densest_27 rfl 0 rfl ?_
    refine zg_aload_n ok dX2_densest_28 rfl 0 rfl ?_
    refine zg_getA ok lf_X2_9 dX2_densest_29 hE (fun v4 hE => ?_)
    refine zg_iconst (v := 3) ok dX2_densest_32 (by decide) ?_
    refine zg_iald ok dX2_densest_33 hE (fun v5 hE => ?_)
    refine zg_iload_n ok dX2_densest_34 rfl 3 rfl ?_
    refine zg_callV (vs := [zI v5, zI l3]) (rest := []) (rm := rm_X2_bodiesIn) ok hRm lk_X2_190 dX2_densest_35 hE (fun hE => mt_X2_bodiesIn hl hE) rfl (Nat.le_of_ble_eq_true rfl) ⟨⟨Nat.le_of_ble_eq_true rfl, Nat.le_of_ble_eq_true rfl⟩, (by show kc + 0 ≤ 0; omega), (by show ks + 0 ≤ 0; omega)⟩ (zg_retI (fun v6 h2 hE => ?_)) (zg_xok ok tab fin ⟨(by show kc + 0 ≤ 0; omega), (by show ks + 0 ≤ 0; omega)⟩)
    refine zg_cost (kc2 := kc) (ks2 := ks) ⟨(by show kc + 0 = kc; omega), (by show ks + 0 = ks; omega)⟩ ?_
    refine zg_istore (L' := [(4, .int v6), (0, va_rf l0), (1, .int l1), (2, .int l2), (3, .int l3)]) ok dX2_densest_38 (by decide) rfl ?_
    refine zg_iload ok dX2_densest_40 0 rfl ?_
    refine zg_iload_n ok dX2_densest_42 rfl 3 rfl ?_
    refine zg_icmp_gt (tgt := 49) ok dX2_densest_43 (by decide) hE (fun hE => ?_) (fun hE => ?_)
    · refine zg_iload_n ok dX2_densest_49 rfl 4 rfl ?_
      refine zg_istore_nR (L' := [(1, .int l3), (4, .int v6), (0, va_rf l0), (2, .int l2), (3, .int l3)]) ok dX2_densest_50 rfl (by decide) 1 rfl rfl rfl ?_
      refine zg_iload ok dX2_densest_51 1 rfl ?_
      refine zg_istore_n (L' := [(2, .int v6), (1, .int l3), (4, .int v6), (0, va_rf l0), (3, .int l3)]) ok dX2_densest_53 rfl (by decide) rfl ?_
      refine zg_sub (L' := [(0, va_rf l0), (1, .int l3), (2, .int v6), (3, .int l3)]) [3, 1, 0, 4] rfl ?_
      exact gt_f_X2_densest_J54 hl ok tab fin hRm hb hR hk60 hE
    · refine zg_goto (tgt := 54) ok dX2_densest_46 (by decide) ?_
      refine zg_sub (L' := [(0, va_rf l0), (1, .int l1), (2, .int l2), (3, .int l3)]) [1, 2, 3, 4] rfl ?_
      exact gt_f_X2_densest_J54 hl ok tab fin hRm hb hR hk60 hE
theorem gt_f_X2_densest_L15 {Xc : zw_X} {Q : Int32 → zw_H → Prop} {X : String → Nat → zw_H → Prop} (hl : (zw_l Xc).stackTraces = false) (ok : zw_ok Xc cX2_densest "MultipoleLineModel" yX2_densest.name 5) (tab : zw_tab Xc []) (fin : zw_fin Xc (Option.some Jvm.ClassFile.FieldType.int) (zq_I Q) X 0 0) (hRm : zw_rm Xc = rm_X2_densest) {kc ks : Nat} (hb : kc ≤ 0 ∧ ks ≤ 0) {l0 : Option Nat} {k60 : Int32 → zw_H → Prop} (hk60 : ∀ (l1 : Int32) (h : zw_H), k60 l1 h → zw_G Xc kc ks 5 h 60 [(1, .int l1)] [])  : ∀ (n9 : Nat) (l1 : Int32) (l2 : Int32) (l3 : Int32) (h : zw_H), zl4 (f_X2_densest_B15 (zw_Zf Xc).2.2.2 Q X k60 l0) n9 l1 l2 l3 h → zw_G Xc kc ks 5 h 15 [(0, va_rf l0), (1, .int l1), (2, .int l2), (3, .int l3)] [] := by
  intro n9
  induction n9 with
  | zero => intro l1 l2 l3 h hE; exact hE.elim
  | succ n9 ih => intro l1 l2 l3 h hE; exact gt_f_X2_densest_B15 hl ok tab fin hRm hb ih hk60 hE
set_option maxHeartbeats 8000000 in
theorem mt_X2_densest {l : Launch} (hl : l.stackTraces = false) {Z : zw_Z} {a0 : Option Nat} {h : zw_H} {Q : Int32 → zw_H → Prop} {X : String → Nat → zw_H → Prop} (hE : f_X2_densest Z.2.2.2 a0 h Q X) : zw_Met l Z yX2_densest (ws_ yX2_densest cX2_densest 5 (Option.some Jvm.ClassFile.FieldType.int)) rm_X2_densest [zA a0] h (zq_I Q) X := by
  refine zg_start (own := "MultipoleLineModel") (by decide +kernel) rfl (Nat.le_of_ble_eq_true rfl) hl (fun Xc ok tab fin hRm hXl hXZ => ?_)
  subst hXl
  subst hXZ
  unfold f_X2_densest at hE
  refine zg_aload_n ok dX2_densest_0 rfl 0 rfl ?_
  refine zg_callV (vs := []) (rest := []) (rm := rm_X2_mayAsk) ok hRm lk_X2_229 dX2_densest_1 hE (fun hE => mt_X2_mayAsk hl hE) rfl (Nat.le_of_ble_eq_true rfl) ⟨⟨Nat.le_of_ble_eq_true rfl, Nat.le_of_ble_eq_true rfl⟩, Nat.le_of_ble_eq_true rfl, Nat.le_of_ble_eq_true rfl⟩ (zg_retI (fun v1 h1 hE => ?_)) (zg_xok ok tab fin ⟨Nat.le_of_ble_eq_true rfl, Nat.le_of_ble_eq_true rfl⟩)
  refine zg_cost (kc2 := 0) (ks2 := 0) ⟨rfl, rfl⟩ ?_
  refine zg_if_ne (tgt := 9) ok dX2_densest_4 (by decide) hE (fun hE => ?_) (fun hE => ?_)
  · refine zg_iconst (v := (-1)) ok dX2_densest_9 (by decide) ?_
    refine zg_istore_nR (L' := [(1, .int (-1)), (0, va_rf a0)]) ok dX2_densest_10 rfl (by decide) 0 rfl rfl rfl ?_
    refine zg_iconst (v := 0) ok dX2_densest_11 (by decide) ?_
    refine zg_istore_n (L' := [(2, .int 0), (1, .int (-1)), (0, va_rf a0)]) ok dX2_densest_12 rfl (by decide) rfl ?_
    refine zg_iconst (v := 0) ok dX2_densest_13 (by decide) ?_
    refine zg_istore_n (L' := [(3, .int 0), (2, .int 0), (1, .int (-1)), (0, va_rf a0)]) ok dX2_densest_14 rfl (by decide) rfl ?_
    refine zg_sub (L' := [(0, va_rf a0), (1, .int (-1)), (2, .int 0), (3, .int 0)]) [3, 2, 1, 0] rfl ?_
    refine gt_f_X2_densest_L15 hl ok tab fin hRm ⟨Nat.le_of_ble_eq_true rfl, Nat.le_of_ble_eq_true rfl⟩ ?_ _ _ _ _ _ hE
    · intro v8 h3 hE
      refine zg_iload_n ok dX2_densest_60 rfl 0 rfl ?_
      exact zg_iret ok fin dX2_densest_61 ⟨Nat.le_of_ble_eq_true rfl, Nat.le_of_ble_eq_true rfl⟩ hE
  · refine zg_iconst (v := 0) ok dX2_densest_7 (by decide) ?_
    exact zg_iret ok fin dX2_densest_8 ⟨Nat.le_of_ble_eq_true rfl, Nat.le_of_ble_eq_true rfl⟩ hE
set_option maxHeartbeats 8000000 in
theorem mt_X2_isMoment {l : Launch} (hl : l.stackTraces = false) {Z : zw_Z} {a0 : Int32} {h : zw_H} {Q : Int32 → zw_H → Prop} {X : String → Nat → zw_H → Prop} (hE : f_X2_isMoment Z.2.2.2 a0 h Q X) : zw_Met l Z yX2_isMoment (ws_ yX2_isMoment cX2_isMoment 1 (Option.some Jvm.ClassFile.FieldType.boolean)) rm_X2_isMoment [zI a0] h (zq_I Q) X := by
  refine zg_start (own := "MultipoleLineModel") (by decide +kernel) rfl (Nat.le_of_ble_eq_true rfl) hl (fun Xc ok tab fin hRm hXl hXZ => ?_)
  subst hXl
  subst hXZ
  unfold f_X2_isMoment at hE
  refine zg_iload_n ok dX2_isMoment_0 rfl 0 rfl ?_
  refine zg_iconst (v := 0) ok dX2_isMoment_1 (by decide) ?_
  refine zg_iconst (v := 4) ok dX2_isMoment_2 (by decide) ?_
  refine zg_callS (vs := [zI a0, zI 0, zI 4]) (rest := []) (rm := rm_X2_in) ok hRm lk_X2_77 dX2_isMoment_3 hE (fun hE => mt_X2_in hl hE) rfl (Nat.le_of_ble_eq_true rfl) ⟨⟨Nat.le_of_ble_eq_true rfl, Nat.le_of_ble_eq_true rfl⟩, Nat.le_of_ble_eq_true rfl, Nat.le_of_ble_eq_true rfl⟩ (zg_retI (fun v1 h1 hE => ?_)) (zg_xok ok tab fin ⟨Nat.le_of_ble_eq_true rfl, Nat.le_of_ble_eq_true rfl⟩)
  refine zg_cost (kc2 := 0) (ks2 := 0) ⟨rfl, rfl⟩ ?_
  exact zg_zretE (ret := none) ok fin dX2_isMoment_6 ⟨Nat.le_of_ble_eq_true rfl, Nat.le_of_ble_eq_true rfl⟩ hE
set_option maxHeartbeats 8000000 in
theorem mt_X2_mayMoment {l : Launch} (hl : l.stackTraces = false) {Z : zw_Z} {a0 : Option Nat} {a1 : Int32} {a2 : Int32} {a3 : Int32} {h : zw_H} {Q : Int32 → zw_H → Prop} {X : String → Nat → zw_H → Prop} (hE : f_X2_mayMoment Z.2.2.2 a0 a1 a2 a3 h Q X) : zw_Met l Z yX2_mayMoment (ws_ yX2_mayMoment cX2_mayMoment 4 (Option.some Jvm.ClassFile.FieldType.boolean)) rm_X2_mayMoment [zA a0, zI a1, zI a2, zI a3] h (zq_I Q) X := by
  refine zg_start (own := "MultipoleLineModel") (by decide +kernel) rfl (Nat.le_of_ble_eq_true rfl) hl (fun Xc ok tab fin hRm hXl hXZ => ?_)
  subst hXl
  subst hXZ
  unfold f_X2_mayMoment at hE
  refine zg_aload_n ok dX2_mayMoment_0 rfl 0 rfl ?_
  refine zg_aload_n ok dX2_mayMoment_1 rfl 0 rfl ?_
  refine zg_getI ok lf_X2_156 dX2_mayMoment_2 hE (fun v1 hE => ?_)
  refine zg_aload_n ok dX2_mayMoment_5 rfl 0 rfl ?_
  refine zg_iload_n ok dX2_mayMoment_6 rfl 1 rfl ?_
  refine zg_iload_n ok dX2_mayMoment_7 rfl 2 rfl ?_
  refine zg_callV (vs := [zI a1, zI a2]) (rest := [.int v1, va_rf a0]) (rm := rm_X2_isBox) ok hRm lk_X2_222 dX2_mayMoment_8 hE (fun hE => mt_X2_isBox hl hE) rfl (Nat.le_of_ble_eq_true rfl) ⟨⟨Nat.le_of_ble_eq_true rfl, Nat.le_of_ble_eq_true rfl⟩, Nat.le_of_ble_eq_true rfl, Nat.le_of_ble_eq_true rfl⟩ (zg_retI (fun v2 h1 hE => ?_)) (zg_xok ok tab fin ⟨Nat.le_of_ble_eq_true rfl, Nat.le_of_ble_eq_true rfl⟩)
  refine zg_cost (kc2 := 0) (ks2 := 0) ⟨rfl, rfl⟩ ?_
  refine zg_iload_n ok dX2_mayMoment_11 rfl 3 rfl ?_
  refine zg_callS (vs := [zI a3]) (rest := [.int v2, .int v1, va_rf a0]) (rm := rm_X2_isMoment) ok hRm lk_X2_237 dX2_mayMoment_12 hE (fun hE => mt_X2_isMoment hl hE) rfl (Nat.le_of_ble_eq_true rfl) ⟨⟨Nat.le_of_ble_eq_true rfl, Nat.le_of_ble_eq_true rfl⟩, Nat.le_of_ble_eq_true rfl, Nat.le_of_ble_eq_true rfl⟩ (zg_retI (fun v3 h2 hE => ?_)) (zg_xok ok tab fin ⟨Nat.le_of_ble_eq_true rfl, Nat.le_of_ble_eq_true rfl⟩)
  refine zg_cost (kc2 := 0) (ks2 := 0) ⟨rfl, rfl⟩ ?_
  refine zg_callV (vs := [zI v1, zI v2, zI v3]) (rest := []) (rm := rm_X2_may) ok hRm lk_X2_60 dX2_mayMoment_15 hE (fun hE => mt_X2_may hl hE) rfl (Nat.le_of_ble_eq_true rfl) ⟨⟨Nat.le_of_ble_eq_true rfl, Nat.le_of_ble_eq_true rfl⟩, Nat.le_of_ble_eq_true rfl, Nat.le_of_ble_eq_true rfl⟩ (zg_retI (fun v4 h3 hE => ?_)) (zg_xok ok tab fin ⟨Nat.le_of_ble_eq_true rfl, Nat.le_of_ble_eq_true rfl⟩)
  refine zg_cost (kc2 := 0) (ks2 := 0) ⟨rfl, rfl⟩ ?_
  exact zg_zretE (ret := none) ok fin dX2_mayMoment_18 ⟨Nat.le_of_ble_eq_true rfl, Nat.le_of_ble_eq_true rfl⟩ hE
set_option maxHeartbeats 8000000 in
theorem gt_f_X2_power_B5 {Xc : zw_X} {Q : Int64 → zw_H → Prop} {X : String → Nat → zw_H → Prop} (hl : (zw_l Xc).stackTraces = false) (ok : zw_ok Xc cX2_power "MultipoleLineModel" yX2_power.name 6) (tab : zw_tab Xc []) (fin : zw_fin Xc (Option.some Jvm.ClassFile.FieldType.long) (zq_J Q) X 0 0) (hRm : zw_rm Xc = rm_X2_power) {kc ks : Nat} (hb : kc ≤ 0 ∧ ks ≤ 0) {R : Int64 → Int32 → zw_H → Prop} {l0 : Int64} {l2 : Int32} (hR : ∀ (l3 : Int64) (l5 : Int32) (h : zw_H), R l3 l5 h → zw_G Xc kc ks 6 h 5 [(0, .long l0), (2, .int l2), (3, .long l3), (5, .int l5)] []) {k21 : Int64 → zw_H → Prop} (hk21 : ∀ (l3 : Int64) (h : zw_H), k21 l3 h → zw_G Xc kc ks 6 h 21 [(3, .long l3)] [])  {l3 : Int64} {l5 : Int32} {h : zw_H} (hE : f_X2_power_B5 (zw_Zf Xc).2.2.2 Q X k21 l0 l2 R l3 l5 h) : zw_G Xc kc ks 6 h 5 [(0, .long l0), (2, .int l2), (3, .long l3), (5, .int l5)] [] := by
  unfold f_X2_power_B5 at hE
  refine zg_iload ok dX2_power_5 3 rfl ?_
  refine zg_iload_n ok dX2_power_7 rfl 1 rfl ?_
  refine zg_icmp_ge (tgt := 21) ok dX2_power_8 (by decide) hE (fun hE => ?_) (fun hE => ?_)
  · refine zg_sub (L' := [(3, .long l3)]) [2] rfl ?_
    exact hk21 _ _ hE
  · refine zg_lload_n ok dX2_power_11 rfl 2 rfl ?_
    refine zg_lload_n ok dX2_power_12 rfl 0 rfl ?_
    refine zg_lmul ok dX2_power_13 ?_
    refine zg_letJ hE (fun v1 hE => ?_)
    refine zg_lstore_n (L' := [(3, .long v1), (0, .long l0), (2, .int l2), (5, .int l5)]) ok dX2_power_14 rfl (by decide) rfl ?_
    refine zg_iincL (k := 3) (L' := fun v2 => [(5, .int v2), (3, .long v1), (0, .long l0), (2, .int l2)]) ok dX2_power_15 (by decide +kernel) hE rfl (by decide) (fun _ => rfl) (fun v2 hE => ?_)
    refine zg_goto (tgt := 5) ok dX2_power_18 (by decide) ?_
    refine zg_sub (L' := [(0, .long l0), (2, .int l2), (3, .long v1), (5, .int v2)]) [2, 3, 1, 0] rfl ?_
    exact hR _ _ _ hE
theorem gt_f_X2_power_L5 {Xc : zw_X} {Q : Int64 → zw_H → Prop} {X : String → Nat → zw_H → Prop} (hl : (zw_l Xc).stackTraces = false) (ok : zw_ok Xc cX2_power "MultipoleLineModel" yX2_power.name 6) (tab : zw_tab Xc []) (fin : zw_fin Xc (Option.some Jvm.ClassFile.FieldType.long) (zq_J Q) X 0 0) (hRm : zw_rm Xc = rm_X2_power) {kc ks : Nat} (hb : kc ≤ 0 ∧ ks ≤ 0) {l0 : Int64} {l2 : Int32} {k21 : Int64 → zw_H → Prop} (hk21 : ∀ (l3 : Int64) (h : zw_H), k21 l3 h → zw_G Xc kc ks 6 h 21 [(3, .long l3)] [])  : ∀ (n9 : Nat) (l3 : Int64) (l5 : Int32) (h : zw_H), zl3 (f_X2_power_B5 (zw_Zf Xc).2.2.2 Q X k21 l0 l2) n9 l3 l5 h → zw_G Xc kc ks 6 h 5 [(0, .long l0), (2, .int l2), (3, .long l3), (5, .int l5)] [] := by
  intro n9
  induction n9 with
  | zero => intro l3 l5 h hE; exact hE.elim
  | succ n9 ih => intro l3 l5 h hE; exact gt_f_X2_power_B5 hl ok tab fin hRm hb ih hk21 hE
set_option maxHeartbeats 8000000 in
theorem mt_X2_power {l : Launch} (hl : l.stackTraces = false) {Z : zw_Z} {a0 : Int64} {a1 : Int32} {h : zw_H} {Q : Int64 → zw_H → Prop} {X : String → Nat → zw_H → Prop} (hE : f_X2_power Z.2.2.2 a0 a1 h Q X) : zw_Met l Z yX2_power (ws_ yX2_power cX2_power 6 (Option.some Jvm.ClassFile.FieldType.long)) rm_X2_power [zJ a0, zI a1] h (zq_J Q) X := by
  refine zg_start (own := "MultipoleLineModel") (by decide +kernel) rfl (Nat.le_of_ble_eq_true rfl) hl (fun Xc ok tab fin hRm hXl hXZ => ?_)
  subst hXl
  subst hXZ
  unfold f_X2_power at hE
  refine zg_lconst (v := 1) ok dX2_power_0 (by decide) ?_
  refine zg_lstore_n (L' := [(3, .long 1), (0, .long a0), (2, .int a1)]) ok dX2_power_1 rfl (by decide) rfl ?_
  refine zg_iconst (v := 0) ok dX2_power_2 (by decide) ?_
  refine zg_istore (L' := [(5, .int 0), (3, .long 1), (0, .long a0), (2, .int a1)]) ok dX2_power_3 (by decide) rfl ?_
  refine zg_sub (L' := [(0, .long a0), (2, .int a1), (3, .long 1), (5, .int 0)]) [2, 3, 1, 0] rfl ?_
  refine gt_f_X2_power_L5 hl ok tab fin hRm ⟨Nat.le_of_ble_eq_true rfl, Nat.le_of_ble_eq_true rfl⟩ ?_ _ _ _ _ hE
  · intro v3 h1 hE
    refine zg_lload_n ok dX2_power_21 rfl 0 rfl ?_
    exact zg_lret ok fin dX2_power_22 ⟨Nat.le_of_ble_eq_true rfl, Nat.le_of_ble_eq_true rfl⟩ hE
set_option maxHeartbeats 8000000 in
theorem gt_f_X2_momentOf_J60 {Xc : zw_X} {Q : Int64 → zw_H → Prop} {X : String → Nat → zw_H → Prop} (hl : (zw_l Xc).stackTraces = false) (ok : zw_ok Xc cX2_momentOf "MultipoleLineModel" yX2_momentOf.name 7) (tab : zw_tab Xc []) (fin : zw_fin Xc (Option.some Jvm.ClassFile.FieldType.long) (zq_J Q) X 0 0) (hRm : zw_rm Xc = rm_X2_momentOf) {kc ks : Nat} (hb : kc ≤ 0 ∧ ks ≤ 0) {R : Int64 → Int32 → zw_H → Prop} {l0 : Option Nat} {l1 : Int32} {l2 : Int32} {l3 : Int32} (hR : ∀ (l4 : Int64) (l6 : Int32) (h : zw_H), R l4 l6 h → zw_G Xc kc ks 7 h 6 [(0, va_rf l0), (1, .int l1), (2, .int l2), (3, .int l3), (4, .long l4), (6, .int l6)] []) {k66 : Int64 → zw_H → Prop} (hk66 : ∀ (l4 : Int64) (h : zw_H), k66 l4 h → zw_G Xc kc ks 7 h 66 [(4, .long l4)] [])  {l4 : Int64} {l6 : Int32}  {h : zw_H} (hE : f_X2_momentOf_J60 (zw_Zf Xc).2.2.2 Q X R k66 l0 l1 l2 l3 l4 l6 h) : zw_G Xc kc ks 7 h 60 [(0, va_rf l0), (1, .int l1), (2, .int l2), (3, .int l3), (4, .long l4), (6, .int l6)] [] := by
  unfold f_X2_momentOf_J60 at hE
  refine zg_iincL (k := 5) (L' := fun v4 => [(6, .int v4), (0, va_rf l0), (1, .int l1), (2, .int l2), (3, .int l3), (4, .long l4)]) ok dX2_momentOf_60 (by decide +kernel) hE rfl (by decide) (fun _ => rfl) (fun v4 hE => ?_)
  refine zg_goto (tgt := 6) ok dX2_momentOf_63 (by decide) ?_
  refine zg_sub (L' := [(0, va_rf l0), (1, .int l1), (2, .int l2), (3, .int l3), (4, .long l4), (6, .int v4)]) [1, 2, 3, 4, 5, 0] rfl ?_
  exact hR _ _ _ hE
set_option maxHeartbeats 8000000 in
theorem gt_f_X2_momentOf_B6 {Xc : zw_X} {Q : Int64 → zw_H → Prop} {X : String → Nat → zw_H → Prop} (hl : (zw_l Xc).stackTraces = false) (ok : zw_ok Xc cX2_momentOf "MultipoleLineModel" yX2_momentOf.name 7) (tab : zw_tab Xc []) (fin : zw_fin Xc (Option.some Jvm.ClassFile.FieldType.long) (zq_J Q) X 0 0) (hRm : zw_rm Xc = rm_X2_momentOf) {kc ks : Nat} (hb : kc ≤ 0 ∧ ks ≤ 0) {R : Int64 → Int32 → zw_H → Prop} {l0 : Option Nat} {l1 : Int32} {l2 : Int32} {l3 : Int32} (hR : ∀ (l4 : Int64) (l6 : Int32) (h : zw_H), R l4 l6 h → zw_G Xc kc ks 7 h 6 [(0, va_rf l0), (1, .int l1), (2, .int l2), (3, .int l3), (4, .long l4), (6, .int l6)] []) {k66 : Int64 → zw_H → Prop} (hk66 : ∀ (l4 : Int64) (h : zw_H), k66 l4 h → zw_G Xc kc ks 7 h 66 [(4, .long l4)] [])  {l4 : Int64} {l6 : Int32} {h : zw_H} (hE : f_X2_momentOf_B6 (zw_Zf Xc).2.2.2 Q X k66 l0 l1 l2 l3 R l4 l6 h) : zw_G Xc kc ks 7 h 6 [(0, va_rf l0), (1, .int l1), (2, .int l2), (3, .int l3), (4, .long l4), (6, .int l6)] [] := by
  unfold f_X2_momentOf_B6 at hE
  refine zg_iload ok dX2_momentOf_6 5 rfl ?_
  refine zg_aload_n ok dX2_momentOf_8 rfl 0 rfl ?_
  refine zg_getA ok lf_X2_9 dX2_momentOf_9 hE (fun v1 hE => ?_)
  refine zg_iconst (v := 0) ok dX2_momentOf_12 (by decide) ?_
  refine zg_iald ok dX2_momentOf_13 hE (fun v2 hE => ?_)
  refine zg_icmp_ge (tgt := 66) ok dX2_momentOf_14 (by decide) hE (fun hE => ?_) (fun hE => ?_)
  · refine zg_sub (L' := [(4, .long l4)]) [4] rfl ?_
    exact hk66 _ _ hE
  · refine zg_aload_n ok dX2_momentOf_17 rfl 0 rfl ?_
    refine zg_iload ok dX2_momentOf_18 5 rfl ?_
    refine zg_iload_n ok dX2_momentOf_20 rfl 1 rfl ?_
    refine zg_iload_n ok dX2_momentOf_21 rfl 2 rfl ?_
    refine zg_callV (vs := [zI l6, zI l1, zI l2]) (rest := []) (rm := rm_X2_isIn) ok hRm lk_X2_184 dX2_momentOf_22 hE (fun hE => mt_X2_isIn hl hE) rfl (Nat.le_of_ble_eq_true rfl) ⟨⟨Nat.le_of_ble_eq_true rfl, Nat.le_of_ble_eq_true rfl⟩, (by show kc + 0 ≤ 0; omega), (by show ks + 0 ≤ 0; omega)⟩ (zg_retI (fun v3 h1 hE => ?_)) (zg_xok ok tab fin ⟨(by show kc + 0 ≤ 0; omega), (by show ks + 0 ≤ 0; omega)⟩)
    refine zg_cost (kc2 := kc) (ks2 := ks) ⟨(by show kc + 0 = kc; omega), (by show ks + 0 = ks; omega)⟩ ?_
    refine zg_if_eq (tgt := 60) ok dX2_momentOf_25 (by decide) hE (fun hE => ?_) (fun hE => ?_)
    · exact gt_f_X2_momentOf_J60 hl ok tab fin hRm hb hR hk66 hE
    · refine zg_lload ok dX2_momentOf_28 4 rfl ?_
      refine zg_aload_n ok dX2_momentOf_30 rfl 0 rfl ?_
      refine zg_iload ok dX2_momentOf_31 5 rfl ?_
      refine zg_iconst (v := 1) ok dX2_momentOf_33 (by decide) ?_
      refine zg_callV (vs := [zI l6, zI 1]) (rest := [.long l4]) (rm := rm_X2_of) ok hRm lk_X2_163 dX2_momentOf_34 hE (fun hE => mt_X2_of hl hE) rfl (Nat.le_of_ble_eq_true rfl) ⟨⟨Nat.le_of_ble_eq_true rfl, Nat.le_of_ble_eq_true rfl⟩, (by show kc + 0 ≤ 0; omega), (by show ks + 0 ≤ 0; omega)⟩ (zg_retI (fun v5 h2 hE => ?_)) (zg_xok ok tab fin ⟨(by show kc + 0 ≤ 0; omega), (by show ks + 0 ≤ 0; omega)⟩)
      refine zg_cost (kc2 := kc) (ks2 := ks) ⟨(by show kc + 0 = kc; omega), (by show ks + 0 = ks; omega)⟩ ?_
      refine zg_i2l ok dX2_momentOf_37 ?_
      refine zg_aload_n ok dX2_momentOf_38 rfl 0 rfl ?_
      refine zg_iload ok dX2_momentOf_39 5 rfl ?_
      refine zg_iconst (v := 0) ok dX2_momentOf_41 (by decide) ?_
      refine zg_callV (vs := [zI l6, zI 0]) (rest := [.long v5.toInt64, .long l4]) (rm := rm_X2_of) ok hRm lk_X2_163 dX2_momentOf_42 hE (fun hE => mt_X2_of hl hE) rfl (Nat.le_of_ble_eq_true rfl) ⟨⟨Nat.le_of_ble_eq_true rfl, Nat.le_of_ble_eq_true rfl⟩, (by show kc + 0 ≤ 0; omega), (by show ks + 0 ≤ 0; omega)⟩ (zg_retI (fun v6 h3 hE => ?_)) (zg_xok ok tab fin ⟨(by show kc + 0 ≤ 0; omega), (by show ks + 0 ≤ 0; omega)⟩)
      refine zg_cost (kc2 := kc) (ks2 := ks) ⟨(by show kc + 0 = kc; omega), (by show ks + 0 = ks; omega)⟩ ?_
      refine zg_iload_n ok dX2_momentOf_45 rfl 1 rfl ?_
      refine zg_iload_n ok dX2_momentOf_46 rfl 2 rfl ?_
      refine zg_callS (vs := [zI l1, zI l2]) (rest := [.int v6, .long v5.toInt64, .long l4]) (rm := rm_X2_centre) ok hRm lk_X2_226 dX2_momentOf_47 hE (fun hE => mt_X2_centre hl hE) rfl (Nat.le_of_ble_eq_true rfl) ⟨⟨Nat.le_of_ble_eq_true rfl, Nat.le_of_ble_eq_true rfl⟩, (by show kc + 0 ≤ 0; omega), (by show ks + 0 ≤ 0; omega)⟩ (zg_retI (fun v7 h4 hE => ?_)) (zg_xok ok tab fin ⟨(by show kc + 0 ≤ 0; omega), (by show ks + 0 ≤ 0; omega)⟩)
      refine zg_cost (kc2 := kc) (ks2 := ks) ⟨(by show kc + 0 = kc; omega), (by show ks + 0 = ks; omega)⟩ ?_
      refine zg_isub ok dX2_momentOf_50 ?_
      refine zg_i2l ok dX2_momentOf_51 ?_
      refine zg_iload_n ok dX2_momentOf_52 rfl 3 rfl ?_
      refine zg_callS (vs := [zJ ((v6 - v7).toInt64), zI l3]) (rest := [.long v5.toInt64, .long l4]) (rm := rm_X2_power) ok hRm lk_X2_233 dX2_momentOf_53 hE (fun hE => mt_X2_power hl hE) rfl (Nat.le_of_ble_eq_true rfl) ⟨⟨Nat.le_of_ble_eq_true rfl, Nat.le_of_ble_eq_true rfl⟩, (by show kc + 0 ≤ 0; omega), (by show ks + 0 ≤ 0; omega)⟩ (zg_retJ (fun v8 h5 hE => ?_)) (zg_xok ok tab fin ⟨(by show kc + 0 ≤ 0; omega), (by show ks + 0 ≤ 0; omega)⟩)
      refine zg_cost (kc2 := kc) (ks2 := ks) ⟨(by show kc + 0 = kc; omega), (by show ks + 0 = ks; omega)⟩ ?_
      refine zg_lmul ok dX2_momentOf_56 ?_
      refine zg_ladd ok dX2_momentOf_57 ?_
      refine zg_letJ hE (fun v9 hE => ?_)
      refine zg_lstore (L' := [(4, .long v9), (0, va_rf l0), (1, .int l1), (2, .int l2), (3, .int l3), (6, .int l6)]) ok dX2_momentOf_58 (by decide) rfl ?_
      refine zg_sub (L' := [(0, va_rf l0), (1, .int l1), (2, .int l2), (3, .int l3), (4, .long v9), (6, .int l6)]) [1, 2, 3, 4, 0, 5] rfl ?_
      exact gt_f_X2_momentOf_J60 hl ok tab fin hRm hb hR hk66 hE
theorem gt_f_X2_momentOf_L6 {Xc : zw_X} {Q : Int64 → zw_H → Prop} {X : String → Nat → zw_H → Prop} (hl : (zw_l Xc).stackTraces = false) (ok : zw_ok Xc cX2_momentOf "MultipoleLineModel" yX2_momentOf.name 7) (tab : zw_tab Xc []) (fin : zw_fin Xc (Option.some Jvm.ClassFile.FieldType.long) (zq_J Q) X 0 0) (hRm : zw_rm Xc = rm_X2_momentOf) {kc ks : Nat} (hb : kc ≤ 0 ∧ ks ≤ 0) {l0 : Option Nat} {l1 : Int32} {l2 : Int32} {l3 : Int32} {k66 : Int64 → zw_H → Prop} (hk66 : ∀ (l4 : Int64) (h : zw_H), k66 l4 h → zw_G Xc kc ks 7 h 66 [(4, .long l4)] [])  : ∀ (n9 : Nat) (l4 : Int64) (l6 : Int32) (h : zw_H), zl3 (f_X2_momentOf_B6 (zw_Zf Xc).2.2.2 Q X k66 l0 l1 l2 l3) n9 l4 l6 h → zw_G Xc kc ks 7 h 6 [(0, va_rf l0), (1, .int l1), (2, .int l2), (3, .int l3), (4, .long l4), (6, .int l6)] [] := by
  intro n9
  induction n9 with
  | zero => intro l4 l6 h hE; exact hE.elim
  | succ n9 ih => intro l4 l6 h hE; exact gt_f_X2_momentOf_B6 hl ok tab fin hRm hb ih hk66 hE
set_option maxHeartbeats 8000000 in
theorem mt_X2_momentOf {l : Launch} (hl : l.stackTraces = false) {Z : zw_Z} {a0 : Option Nat} {a1 : Int32} {a2 : Int32} {a3 : Int32} {h : zw_H} {Q : Int64 → zw_H → Prop} {X : String → Nat → zw_H → Prop} (hE : f_X2_momentOf Z.2.2.2 a0 a1 a2 a3 h Q X) : zw_Met l Z yX2_momentOf (ws_ yX2_momentOf cX2_momentOf 7 (Option.some Jvm.ClassFile.FieldType.long)) rm_X2_momentOf [zA a0, zI a1, zI a2, zI a3] h (zq_J Q) X := by
  refine zg_start (own := "MultipoleLineModel") (by decide +kernel) rfl (Nat.le_of_ble_eq_true rfl) hl (fun Xc ok tab fin hRm hXl hXZ => ?_)
  subst hXl
  subst hXZ
  unfold f_X2_momentOf at hE
  refine zg_lconst (v := 0) ok dX2_momentOf_0 (by decide) ?_
  refine zg_lstore (L' := [(4, .long 0), (0, va_rf a0), (1, .int a1), (2, .int a2), (3, .int a3)]) ok dX2_momentOf_1 (by decide) rfl ?_
  refine zg_iconst (v := 0) ok dX2_momentOf_3 (by decide) ?_
  refine zg_istore (L' := [(6, .int 0), (4, .long 0), (0, va_rf a0), (1, .int a1), (2, .int a2), (3, .int a3)]) ok dX2_momentOf_4 (by decide) rfl ?_
  refine zg_sub (L' := [(0, va_rf a0), (1, .int a1), (2, .int a2), (3, .int a3), (4, .long 0), (6, .int 0)]) [2, 3, 4, 5, 1, 0] rfl ?_
  refine gt_f_X2_momentOf_L6 hl ok tab fin hRm ⟨Nat.le_of_ble_eq_true rfl, Nat.le_of_ble_eq_true rfl⟩ ?_ _ _ _ _ hE
  · intro v10 h6 hE
    refine zg_lload ok dX2_momentOf_66 0 rfl ?_
    exact zg_lret ok fin dX2_momentOf_68 ⟨Nat.le_of_ble_eq_true rfl, Nat.le_of_ble_eq_true rfl⟩ hE
set_option maxHeartbeats 8000000 in
theorem mt_X2_moment {l : Launch} (hl : l.stackTraces = false) {Z : zw_Z} {a0 : Option Nat} {a1 : Int32} {a2 : Int32} {a3 : Int32} {h : zw_H} {Q : Int64 → zw_H → Prop} {X : String → Nat → zw_H → Prop} (hE : f_X2_moment Z.2.2.2 a0 a1 a2 a3 h Q X) : zw_Met l Z yX2_moment (ws_ yX2_moment cX2_moment 4 (Option.some Jvm.ClassFile.FieldType.long)) rm_X2_moment [zA a0, zI a1, zI a2, zI a3] h (zq_J Q) X := by
  refine zg_start (own := "MultipoleLineModel") (by decide +kernel) rfl (Nat.le_of_ble_eq_true rfl) hl (fun Xc ok tab fin hRm hXl hXZ => ?_)
  subst hXl
  subst hXZ
  unfold f_X2_moment at hE
  refine zg_aload_n ok dX2_moment_0 rfl 0 rfl ?_
  refine zg_iload_n ok dX2_moment_1 rfl 1 rfl ?_
  refine zg_iload_n ok dX2_moment_2 rfl 2 rfl ?_
  refine zg_iload_n ok dX2_moment_3 rfl 3 rfl ?_
  refine zg_callV (vs := [zI a1, zI a2, zI a3]) (rest := []) (rm := rm_X2_mayMoment) ok hRm lk_X2_240 dX2_moment_4 hE (fun hE => mt_X2_mayMoment hl hE) rfl (Nat.le_of_ble_eq_true rfl) ⟨⟨Nat.le_of_ble_eq_true rfl, Nat.le_of_ble_eq_true rfl⟩, Nat.le_of_ble_eq_true rfl, Nat.le_of_ble_eq_true rfl⟩ (zg_retI (fun v1 h1 hE => ?_)) (zg_xok ok tab fin ⟨Nat.le_of_ble_eq_true rfl, Nat.le_of_ble_eq_true rfl⟩)
  refine zg_cost (kc2 := 0) (ks2 := 0) ⟨rfl, rfl⟩ ?_
  refine zg_if_eq (tgt := 20) ok dX2_moment_7 (by decide) hE (fun hE => ?_) (fun hE => ?_)
  · refine zg_lconst (v := 0) ok dX2_moment_20 (by decide) ?_
    exact zg_lret ok fin dX2_moment_21 ⟨Nat.le_of_ble_eq_true rfl, Nat.le_of_ble_eq_true rfl⟩ hE
  · refine zg_aload_n ok dX2_moment_10 rfl 0 rfl ?_
    refine zg_iload_n ok dX2_moment_11 rfl 1 rfl ?_
    refine zg_iload_n ok dX2_moment_12 rfl 2 rfl ?_
    refine zg_iload_n ok dX2_moment_13 rfl 3 rfl ?_
    refine zg_callV (vs := [zI a1, zI a2, zI a3]) (rest := []) (rm := rm_X2_momentOf) ok hRm lk_X2_243 dX2_moment_14 hE (fun hE => mt_X2_momentOf hl hE) rfl (Nat.le_of_ble_eq_true rfl) ⟨⟨Nat.le_of_ble_eq_true rfl, Nat.le_of_ble_eq_true rfl⟩, Nat.le_of_ble_eq_true rfl, Nat.le_of_ble_eq_true rfl⟩ (zg_retJ (fun v2 h2 hE => ?_)) (zg_xok ok tab fin ⟨Nat.le_of_ble_eq_true rfl, Nat.le_of_ble_eq_true rfl⟩)
    refine zg_cost (kc2 := 0) (ks2 := 0) ⟨rfl, rfl⟩ ?_
    refine zg_goto (tgt := 21) ok dX2_moment_17 (by decide) ?_
    exact zg_lret ok fin dX2_moment_21 ⟨Nat.le_of_ble_eq_true rfl, Nat.le_of_ble_eq_true rfl⟩ hE
set_option maxHeartbeats 8000000 in
theorem mt_X2_laidAt {l : Launch} (hl : l.stackTraces = false) {Z : zw_Z} {a0 : Int32} {a1 : Int32} {h : zw_H} {Q : Int32 → zw_H → Prop} {X : String → Nat → zw_H → Prop} (hE : f_X2_laidAt Z.2.2.2 a0 a1 h Q X) : zw_Met l Z yX2_laidAt (ws_ yX2_laidAt cX2_laidAt 2 (Option.some Jvm.ClassFile.FieldType.int)) rm_X2_laidAt [zI a0, zI a1] h (zq_I Q) X := by
  refine zg_start (own := "MultipoleLineModel") (by decide +kernel) rfl (Nat.le_of_ble_eq_true rfl) hl (fun Xc ok tab fin hRm hXl hXZ => ?_)
  subst hXl
  subst hXZ
  unfold f_X2_laidAt at hE
  refine zg_iconst (v := 5) ok dX2_laidAt_0 (by decide) ?_
  refine zg_iconst (v := 1) ok dX2_laidAt_1 (by decide) ?_
  refine zg_iload_n ok dX2_laidAt_2 rfl 0 rfl ?_
  refine zg_ishl ok dX2_laidAt_3 ?_
  refine zg_iconst (v := 1) ok dX2_laidAt_4 (by decide) ?_
  refine zg_isub ok dX2_laidAt_5 ?_
  refine zg_iload_n ok dX2_laidAt_6 rfl 1 rfl ?_
  refine zg_iadd ok dX2_laidAt_7 ?_
  refine zg_imul ok dX2_laidAt_8 ?_
  exact zg_iret ok fin dX2_laidAt_9 ⟨Nat.le_of_ble_eq_true rfl, Nat.le_of_ble_eq_true rfl⟩ hE
set_option maxHeartbeats 8000000 in
theorem gt_f_X2_laysLeaf_B2 {Xc : zw_X} {Q : zw_H → Prop} {X : String → Nat → zw_H → Prop} (hl : (zw_l Xc).stackTraces = false) (ok : zw_ok Xc cX2_laysLeaf "MultipoleLineModel" yX2_laysLeaf.name 3) (tab : zw_tab Xc []) (fin : zw_fin Xc (Option.none : Option Jvm.ClassFile.FieldType) (zq_V Q) X 0 0) (hRm : zw_rm Xc = rm_X2_laysLeaf) {kc ks : Nat} (hb : kc ≤ 0 ∧ ks ≤ 0) {R : Int32 → zw_H → Prop} {l0 : Option Nat} {l1 : Int32} (hR : ∀ (l2 : Int32) (h : zw_H), R l2 h → zw_G Xc kc ks 3 h 2 [(0, va_rf l0), (1, .int l1), (2, .int l2)] []) {k42 : zw_H → Prop} (hk42 : ∀  (h : zw_H), k42  h → zw_G Xc kc ks 3 h 42 [] [])  {l2 : Int32} {h : zw_H} (hE : f_X2_laysLeaf_B2 (zw_Zf Xc).2.2.2 Q X k42 l0 l1 R l2 h) : zw_G Xc kc ks 3 h 2 [(0, va_rf l0), (1, .int l1), (2, .int l2)] [] := by
  unfold f_X2_laysLeaf_B2 at hE
  refine zg_iload_n ok dX2_laysLeaf_2 rfl 2 rfl ?_
  refine zg_iconst (v := 4) ok dX2_laysLeaf_3 (by decide) ?_
  refine zg_icmp_gt (tgt := 42) ok dX2_laysLeaf_4 (by decide) hE (fun hE => ?_) (fun hE => ?_)
  · refine zg_sub (L' := []) [] rfl ?_
    exact hk42 _ hE
  · refine zg_aload_n ok dX2_laysLeaf_7 rfl 0 rfl ?_
    refine zg_getA ok lf_X2_34 dX2_laysLeaf_8 hE (fun v1 hE => ?_)
    refine zg_aload_n ok dX2_laysLeaf_11 rfl 0 rfl ?_
    refine zg_getA ok lf_X2_9 dX2_laysLeaf_12 hE (fun v2 hE => ?_)
    refine zg_iconst (v := 3) ok dX2_laysLeaf_15 (by decide) ?_
    refine zg_iald ok dX2_laysLeaf_16 hE (fun v3 hE => ?_)
    refine zg_iload_n ok dX2_laysLeaf_17 rfl 1 rfl ?_
    refine zg_callS (vs := [zI v3, zI l1]) (rest := [va_rf v1]) (rm := rm_X2_laidAt) ok hRm lk_X2_247 dX2_laysLeaf_18 hE (fun hE => mt_X2_laidAt hl hE) rfl (Nat.le_of_ble_eq_true rfl) ⟨⟨Nat.le_of_ble_eq_true rfl, Nat.le_of_ble_eq_true rfl⟩, (by show kc + 0 ≤ 0; omega), (by show ks + 0 ≤ 0; omega)⟩ (zg_retI (fun v4 h1 hE => ?_)) (zg_xok ok tab fin ⟨(by show kc + 0 ≤ 0; omega), (by show ks + 0 ≤ 0; omega)⟩)
    refine zg_cost (kc2 := kc) (ks2 := ks) ⟨(by show kc + 0 = kc; omega), (by show ks + 0 = ks; omega)⟩ ?_
    refine zg_iload_n ok dX2_laysLeaf_21 rfl 2 rfl ?_
    refine zg_iadd ok dX2_laysLeaf_22 ?_
    refine zg_aload_n ok dX2_laysLeaf_23 rfl 0 rfl ?_
    refine zg_aload_n ok dX2_laysLeaf_24 rfl 0 rfl ?_
    refine zg_getA ok lf_X2_9 dX2_laysLeaf_25 hE (fun v5 hE => ?_)
    refine zg_iconst (v := 3) ok dX2_laysLeaf_28 (by decide) ?_
    refine zg_iald ok dX2_laysLeaf_29 hE (fun v6 hE => ?_)
    refine zg_iload_n ok dX2_laysLeaf_30 rfl 1 rfl ?_
    refine zg_iload_n ok dX2_laysLeaf_31 rfl 2 rfl ?_
    refine zg_callV (vs := [zI v6, zI l1, zI l2]) (rest := [.int (v4 + l2), va_rf v1]) (rm := rm_X2_momentOf) ok hRm lk_X2_243 dX2_laysLeaf_32 hE (fun hE => mt_X2_momentOf hl hE) rfl (Nat.le_of_ble_eq_true rfl) ⟨⟨Nat.le_of_ble_eq_true rfl, Nat.le_of_ble_eq_true rfl⟩, (by show kc + 0 ≤ 0; omega), (by show ks + 0 ≤ 0; omega)⟩ (zg_retJ (fun v7 h2 hE => ?_)) (zg_xok ok tab fin ⟨(by show kc + 0 ≤ 0; omega), (by show ks + 0 ≤ 0; omega)⟩)
    refine zg_cost (kc2 := kc) (ks2 := ks) ⟨(by show kc + 0 = kc; omega), (by show ks + 0 = ks; omega)⟩ ?_
    refine zg_last ok dX2_laysLeaf_35 hE (fun h3 hE => ?_)
    refine zg_iincL (k := 2) (L' := fun v8 => [(2, .int v8), (0, va_rf l0), (1, .int l1)]) ok dX2_laysLeaf_36 (by decide +kernel) hE rfl (by decide) (fun _ => rfl) (fun v8 hE => ?_)
    refine zg_goto (tgt := 2) ok dX2_laysLeaf_39 (by decide) ?_
    refine zg_sub (L' := [(0, va_rf l0), (1, .int l1), (2, .int v8)]) [1, 2, 0] rfl ?_
    exact hR _ _ hE
theorem gt_f_X2_laysLeaf_L2 {Xc : zw_X} {Q : zw_H → Prop} {X : String → Nat → zw_H → Prop} (hl : (zw_l Xc).stackTraces = false) (ok : zw_ok Xc cX2_laysLeaf "MultipoleLineModel" yX2_laysLeaf.name 3) (tab : zw_tab Xc []) (fin : zw_fin Xc (Option.none : Option Jvm.ClassFile.FieldType) (zq_V Q) X 0 0) (hRm : zw_rm Xc = rm_X2_laysLeaf) {kc ks : Nat} (hb : kc ≤ 0 ∧ ks ≤ 0) {l0 : Option Nat} {l1 : Int32} {k42 : zw_H → Prop} (hk42 : ∀  (h : zw_H), k42  h → zw_G Xc kc ks 3 h 42 [] [])  : ∀ (n9 : Nat) (l2 : Int32) (h : zw_H), zl2 (f_X2_laysLeaf_B2 (zw_Zf Xc).2.2.2 Q X k42 l0 l1) n9 l2 h → zw_G Xc kc ks 3 h 2 [(0, va_rf l0), (1, .int l1), (2, .int l2)] [] := by
  intro n9
  induction n9 with
  | zero => intro l2 h hE; exact hE.elim
  | succ n9 ih => intro l2 h hE; exact gt_f_X2_laysLeaf_B2 hl ok tab fin hRm hb ih hk42 hE
set_option maxHeartbeats 8000000 in
theorem mt_X2_laysLeaf {l : Launch} (hl : l.stackTraces = false) {Z : zw_Z} {a0 : Option Nat} {a1 : Int32} {h : zw_H} {Q : zw_H → Prop} {X : String → Nat → zw_H → Prop} (hE : f_X2_laysLeaf Z.2.2.2 a0 a1 h Q X) : zw_Met l Z yX2_laysLeaf (ws_ yX2_laysLeaf cX2_laysLeaf 3 (Option.none : Option Jvm.ClassFile.FieldType)) rm_X2_laysLeaf [zA a0, zI a1] h (zq_V Q) X := by
  refine zg_start (own := "MultipoleLineModel") (by decide +kernel) rfl (Nat.le_of_ble_eq_true rfl) hl (fun Xc ok tab fin hRm hXl hXZ => ?_)
  subst hXl
  subst hXZ
  unfold f_X2_laysLeaf at hE
  refine zg_iconst (v := 0) ok dX2_laysLeaf_0 (by decide) ?_
  refine zg_istore_n (L' := [(2, .int 0), (0, va_rf a0), (1, .int a1)]) ok dX2_laysLeaf_1 rfl (by decide) rfl ?_
  refine zg_sub (L' := [(0, va_rf a0), (1, .int a1), (2, .int 0)]) [1, 2, 0] rfl ?_
  refine gt_f_X2_laysLeaf_L2 hl ok tab fin hRm ⟨Nat.le_of_ble_eq_true rfl, Nat.le_of_ble_eq_true rfl⟩ ?_ _ _ _ hE
  · intro h4 hE
    exact zg_vret ok fin dX2_laysLeaf_42 ⟨Nat.le_of_ble_eq_true rfl, Nat.le_of_ble_eq_true rfl⟩ hE
set_option maxHeartbeats 8000000 in
theorem gt_f_X2_choose_B4 {Xc : zw_X} {Q : Int32 → zw_H → Prop} {X : String → Nat → zw_H → Prop} (hl : (zw_l Xc).stackTraces = false) (ok : zw_ok Xc cX2_choose "MultipoleLineModel" yX2_choose.name 4) (tab : zw_tab Xc []) (fin : zw_fin Xc (Option.some Jvm.ClassFile.FieldType.int) (zq_I Q) X 0 0) (hRm : zw_rm Xc = rm_X2_choose) {kc ks : Nat} (hb : kc ≤ 0 ∧ ks ≤ 0) {R : Int32 → Int32 → zw_H → Prop} {l0 : Int32} {l1 : Int32} (hR : ∀ (l2 : Int32) (l3 : Int32) (h : zw_H), R l2 l3 h → zw_G Xc kc ks 4 h 4 [(0, .int l0), (1, .int l1), (2, .int l2), (3, .int l3)] []) {k25 : Int32 → zw_H → Prop} (hk25 : ∀ (l2 : Int32) (h : zw_H), k25 l2 h → zw_G Xc kc ks 4 h 25 [(2, .int l2)] [])  {l2 : Int32} {l3 : Int32} {h : zw_H} (hE : f_X2_choose_B4 (zw_Zf Xc).2.2.2 Q X k25 l0 l1 R l2 l3 h) : zw_G Xc kc ks 4 h 4 [(0, .int l0), (1, .int l1), (2, .int l2), (3, .int l3)] [] := by
  unfold f_X2_choose_B4 at hE
  refine zg_iload_n ok dX2_choose_4 rfl 3 rfl ?_
  refine zg_iload_n ok dX2_choose_5 rfl 1 rfl ?_
  refine zg_icmp_gt (tgt := 25) ok dX2_choose_6 (by decide) hE (fun hE => ?_) (fun hE => ?_)
  · refine zg_sub (L' := [(2, .int l2)]) [2] rfl ?_
    exact hk25 _ _ hE
  · refine zg_iload_n ok dX2_choose_9 rfl 2 rfl ?_
    refine zg_iload_n ok dX2_choose_10 rfl 0 rfl ?_
    refine zg_iload_n ok dX2_choose_11 rfl 1 rfl ?_
    refine zg_isub ok dX2_choose_12 ?_
    refine zg_iload_n ok dX2_choose_13 rfl 3 rfl ?_
    refine zg_iadd ok dX2_choose_14 ?_
    refine zg_imul ok dX2_choose_15 ?_
    refine zg_iload_n ok dX2_choose_16 rfl 3 rfl ?_
    refine zg_idivE ok dX2_choose_17 hE (fun hE => ?_)
    refine zg_letI hE (fun v1 hE => ?_)
    refine zg_istore_n (L' := [(2, .int v1), (0, .int l0), (1, .int l1), (3, .int l3)]) ok dX2_choose_18 rfl (by decide) rfl ?_
    refine zg_iincL (k := 3) (L' := fun v2 => [(3, .int v2), (2, .int v1), (0, .int l0), (1, .int l1)]) ok dX2_choose_19 (by decide +kernel) hE rfl (by decide) (fun _ => rfl) (fun v2 hE => ?_)
    refine zg_goto (tgt := 4) ok dX2_choose_22 (by decide) ?_
    refine zg_sub (L' := [(0, .int l0), (1, .int l1), (2, .int v1), (3, .int v2)]) [2, 3, 1, 0] rfl ?_
    exact hR _ _ _ hE
theorem gt_f_X2_choose_L4 {Xc : zw_X} {Q : Int32 → zw_H → Prop} {X : String → Nat → zw_H → Prop} (hl : (zw_l Xc).stackTraces = false) (ok : zw_ok Xc cX2_choose "MultipoleLineModel" yX2_choose.name 4) (tab : zw_tab Xc []) (fin : zw_fin Xc (Option.some Jvm.ClassFile.FieldType.int) (zq_I Q) X 0 0) (hRm : zw_rm Xc = rm_X2_choose) {kc ks : Nat} (hb : kc ≤ 0 ∧ ks ≤ 0) {l0 : Int32} {l1 : Int32} {k25 : Int32 → zw_H → Prop} (hk25 : ∀ (l2 : Int32) (h : zw_H), k25 l2 h → zw_G Xc kc ks 4 h 25 [(2, .int l2)] [])  : ∀ (n9 : Nat) (l2 : Int32) (l3 : Int32) (h : zw_H), zl3 (f_X2_choose_B4 (zw_Zf Xc).2.2.2 Q X k25 l0 l1) n9 l2 l3 h → zw_G Xc kc ks 4 h 4 [(0, .int l0), (1, .int l1), (2, .int l2), (3, .int l3)] [] := by
  intro n9
  induction n9 with
  | zero => intro l2 l3 h hE; exact hE.elim
  | succ n9 ih => intro l2 l3 h hE; exact gt_f_X2_choose_B4 hl ok tab fin hRm hb ih hk25 hE
set_option maxHeartbeats 8000000 in
theorem mt_X2_choose {l : Launch} (hl : l.stackTraces = false) {Z : zw_Z} {a0 : Int32} {a1 : Int32} {h : zw_H} {Q : Int32 → zw_H → Prop} {X : String → Nat → zw_H → Prop} (hE : f_X2_choose Z.2.2.2 a0 a1 h Q X) : zw_Met l Z yX2_choose (ws_ yX2_choose cX2_choose 4 (Option.some Jvm.ClassFile.FieldType.int)) rm_X2_choose [zI a0, zI a1] h (zq_I Q) X := by
  refine zg_start (own := "MultipoleLineModel") (by decide +kernel) rfl (Nat.le_of_ble_eq_true rfl) hl (fun Xc ok tab fin hRm hXl hXZ => ?_)
  subst hXl
  subst hXZ
  unfold f_X2_choose at hE
  refine zg_iconst (v := 1) ok dX2_choose_0 (by decide) ?_
  refine zg_istore_n (L' := [(2, .int 1), (0, .int a0), (1, .int a1)]) ok dX2_choose_1 rfl (by decide) rfl ?_
  refine zg_iconst (v := 1) ok dX2_choose_2 (by decide) ?_
  refine zg_istore_n (L' := [(3, .int 1), (2, .int 1), (0, .int a0), (1, .int a1)]) ok dX2_choose_3 rfl (by decide) rfl ?_
  refine zg_sub (L' := [(0, .int a0), (1, .int a1), (2, .int 1), (3, .int 1)]) [2, 3, 1, 0] rfl ?_
  refine gt_f_X2_choose_L4 hl ok tab fin hRm ⟨Nat.le_of_ble_eq_true rfl, Nat.le_of_ble_eq_true rfl⟩ ?_ _ _ _ _ hE
  · intro v3 h1 hE
    refine zg_iload_n ok dX2_choose_25 rfl 0 rfl ?_
    exact zg_iret ok fin dX2_choose_26 ⟨Nat.le_of_ble_eq_true rfl, Nat.le_of_ble_eq_true rfl⟩ hE
set_option maxHeartbeats 8000000 in
theorem gt_f_X2_shiftOf_B21 {Xc : zw_X} {Q : Int64 → zw_H → Prop} {X : String → Nat → zw_H → Prop} (hl : (zw_l Xc).stackTraces = false) (ok : zw_ok Xc cX2_shiftOf "MultipoleLineModel" yX2_shiftOf.name 9) (tab : zw_tab Xc []) (fin : zw_fin Xc (Option.some Jvm.ClassFile.FieldType.long) (zq_J Q) X 0 0) (hRm : zw_rm Xc = rm_X2_shiftOf) {kc ks : Nat} (hb : kc ≤ 0 ∧ ks ≤ 0) {R : Int64 → Int32 → zw_H → Prop} {l0 : Option Nat} {l1 : Int32} {l3 : Int32} {l4 : Int32} {l7 : Int32} (hR : ∀ (l5 : Int64) (l8 : Int32) (h : zw_H), R l5 l8 h → zw_G Xc kc ks 9 h 21 [(0, va_rf l0), (1, .int l1), (3, .int l3), (4, .int l4), (7, .int l7), (5, .long l5), (8, .int l8)] []) {k75 : Int64 → zw_H → Prop} (hk75 : ∀ (l5 : Int64) (h : zw_H), k75 l5 h → zw_G Xc kc ks 9 h 75 [(5, .long l5)] [])  {l5 : Int64} {l8 : Int32} {h : zw_H} (hE : f_X2_shiftOf_B21 (zw_Zf Xc).2.2.2 Q X k75 l0 l1 l3 l4 l7 R l5 l8 h) : zw_G Xc kc ks 9 h 21 [(0, va_rf l0), (1, .int l1), (3, .int l3), (4, .int l4), (7, .int l7), (5, .long l5), (8, .int l8)] [] := by
  unfold f_X2_shiftOf_B21 at hE
  refine zg_iload ok dX2_shiftOf_21 6 rfl ?_
  refine zg_iload ok dX2_shiftOf_23 3 rfl ?_
  refine zg_icmp_gt (tgt := 75) ok dX2_shiftOf_25 (by decide) hE (fun hE => ?_) (fun hE => ?_)
  · refine zg_sub (L' := [(5, .long l5)]) [5] rfl ?_
    exact hk75 _ _ hE
  · refine zg_lload ok dX2_shiftOf_28 5 rfl ?_
    refine zg_iload ok dX2_shiftOf_30 3 rfl ?_
    refine zg_iload ok dX2_shiftOf_32 6 rfl ?_
    refine zg_callS (vs := [zI l4, zI l8]) (rest := [.long l5]) (rm := rm_X2_choose) ok hRm lk_X2_250 dX2_shiftOf_34 hE (fun hE => mt_X2_choose hl hE) rfl (Nat.le_of_ble_eq_true rfl) ⟨⟨Nat.le_of_ble_eq_true rfl, Nat.le_of_ble_eq_true rfl⟩, (by show kc + 0 ≤ 0; omega), (by show ks + 0 ≤ 0; omega)⟩ (zg_retI (fun v4 h3 hE => ?_)) (zg_xok ok tab fin ⟨(by show kc + 0 ≤ 0; omega), (by show ks + 0 ≤ 0; omega)⟩)
    refine zg_cost (kc2 := kc) (ks2 := ks) ⟨(by show kc + 0 = kc; omega), (by show ks + 0 = ks; omega)⟩ ?_
    refine zg_i2l ok dX2_shiftOf_37 ?_
    refine zg_aload_n ok dX2_shiftOf_38 rfl 0 rfl ?_
    refine zg_getA ok lf_X2_34 dX2_shiftOf_39 hE (fun v5 hE => ?_)
    refine zg_iload_n ok dX2_shiftOf_42 rfl 1 rfl ?_
    refine zg_iconst (v := 1) ok dX2_shiftOf_43 (by decide) ?_
    refine zg_iadd ok dX2_shiftOf_44 ?_
    refine zg_iload_n ok dX2_shiftOf_45 rfl 2 rfl ?_
    refine zg_callS (vs := [zI (l1 + 1), zI l3]) (rest := [va_rf v5, .long v4.toInt64, .long l5]) (rm := rm_X2_laidAt) ok hRm lk_X2_247 dX2_shiftOf_46 hE (fun hE => mt_X2_laidAt hl hE) rfl (Nat.le_of_ble_eq_true rfl) ⟨⟨Nat.le_of_ble_eq_true rfl, Nat.le_of_ble_eq_true rfl⟩, (by show kc + 0 ≤ 0; omega), (by show ks + 0 ≤ 0; omega)⟩ (zg_retI (fun v6 h4 hE => ?_)) (zg_xok ok tab fin ⟨(by show kc + 0 ≤ 0; omega), (by show ks + 0 ≤ 0; omega)⟩)
    refine zg_cost (kc2 := kc) (ks2 := ks) ⟨(by show kc + 0 = kc; omega), (by show ks + 0 = ks; omega)⟩ ?_
    refine zg_iload ok dX2_shiftOf_49 6 rfl ?_
    refine zg_iadd ok dX2_shiftOf_51 ?_
    refine zg_lald ok dX2_shiftOf_52 hE (fun v7 hE => ?_)
    refine zg_lmul ok dX2_shiftOf_53 ?_
    refine zg_iload ok dX2_shiftOf_54 4 rfl ?_
    refine zg_i2l ok dX2_shiftOf_56 ?_
    refine zg_iload ok dX2_shiftOf_57 3 rfl ?_
    refine zg_iload ok dX2_shiftOf_59 6 rfl ?_
    refine zg_isub ok dX2_shiftOf_61 ?_
    refine zg_callS (vs := [zJ l7.toInt64, zI (l4 - l8)]) (rest := [.long (v4.toInt64 * v7), .long l5]) (rm := rm_X2_power) ok hRm lk_X2_233 dX2_shiftOf_62 hE (fun hE => mt_X2_power hl hE) rfl (Nat.le_of_ble_eq_true rfl) ⟨⟨Nat.le_of_ble_eq_true rfl, Nat.le_of_ble_eq_true rfl⟩, (by show kc + 0 ≤ 0; omega), (by show ks + 0 ≤ 0; omega)⟩ (zg_retJ (fun v8 h5 hE => ?_)) (zg_xok ok tab fin ⟨(by show kc + 0 ≤ 0; omega), (by show ks + 0 ≤ 0; omega)⟩)
    refine zg_cost (kc2 := kc) (ks2 := ks) ⟨(by show kc + 0 = kc; omega), (by show ks + 0 = ks; omega)⟩ ?_
    refine zg_lmul ok dX2_shiftOf_65 ?_
    refine zg_ladd ok dX2_shiftOf_66 ?_
    refine zg_letJ hE (fun v9 hE => ?_)
    refine zg_lstore (L' := [(5, .long v9), (0, va_rf l0), (1, .int l1), (3, .int l3), (4, .int l4), (7, .int l7), (8, .int l8)]) ok dX2_shiftOf_67 (by decide) rfl ?_
    refine zg_iincL (k := 6) (L' := fun v10 => [(8, .int v10), (5, .long v9), (0, va_rf l0), (1, .int l1), (3, .int l3), (4, .int l4), (7, .int l7)]) ok dX2_shiftOf_69 (by decide +kernel) hE rfl (by decide) (fun _ => rfl) (fun v10 hE => ?_)
    refine zg_goto (tgt := 21) ok dX2_shiftOf_72 (by decide) ?_
    refine zg_sub (L' := [(0, va_rf l0), (1, .int l1), (3, .int l3), (4, .int l4), (7, .int l7), (5, .long v9), (8, .int v10)]) [2, 3, 4, 5, 6, 1, 0] rfl ?_
    exact hR _ _ _ hE
theorem gt_f_X2_shiftOf_L21 {Xc : zw_X} {Q : Int64 → zw_H → Prop} {X : String → Nat → zw_H → Prop} (hl : (zw_l Xc).stackTraces = false) (ok : zw_ok Xc cX2_shiftOf "MultipoleLineModel" yX2_shiftOf.name 9) (tab : zw_tab Xc []) (fin : zw_fin Xc (Option.some Jvm.ClassFile.FieldType.long) (zq_J Q) X 0 0) (hRm : zw_rm Xc = rm_X2_shiftOf) {kc ks : Nat} (hb : kc ≤ 0 ∧ ks ≤ 0) {l0 : Option Nat} {l1 : Int32} {l3 : Int32} {l4 : Int32} {l7 : Int32} {k75 : Int64 → zw_H → Prop} (hk75 : ∀ (l5 : Int64) (h : zw_H), k75 l5 h → zw_G Xc kc ks 9 h 75 [(5, .long l5)] [])  : ∀ (n9 : Nat) (l5 : Int64) (l8 : Int32) (h : zw_H), zl3 (f_X2_shiftOf_B21 (zw_Zf Xc).2.2.2 Q X k75 l0 l1 l3 l4 l7) n9 l5 l8 h → zw_G Xc kc ks 9 h 21 [(0, va_rf l0), (1, .int l1), (3, .int l3), (4, .int l4), (7, .int l7), (5, .long l5), (8, .int l8)] [] := by
  intro n9
  induction n9 with
  | zero => intro l5 l8 h hE; exact hE.elim
  | succ n9 ih => intro l5 l8 h hE; exact gt_f_X2_shiftOf_B21 hl ok tab fin hRm hb ih hk75 hE
set_option maxHeartbeats 8000000 in
theorem mt_X2_shiftOf {l : Launch} (hl : l.stackTraces = false) {Z : zw_Z} {a0 : Option Nat} {a1 : Int32} {a2 : Int32} {a3 : Int32} {a4 : Int32} {h : zw_H} {Q : Int64 → zw_H → Prop} {X : String → Nat → zw_H → Prop} (hE : f_X2_shiftOf Z.2.2.2 a0 a1 a2 a3 a4 h Q X) : zw_Met l Z yX2_shiftOf (ws_ yX2_shiftOf cX2_shiftOf 9 (Option.some Jvm.ClassFile.FieldType.long)) rm_X2_shiftOf [zA a0, zI a1, zI a2, zI a3, zI a4] h (zq_J Q) X := by
  refine zg_start (own := "MultipoleLineModel") (by decide +kernel) rfl (Nat.le_of_ble_eq_true rfl) hl (fun Xc ok tab fin hRm hXl hXZ => ?_)
  subst hXl
  subst hXZ
  unfold f_X2_shiftOf at hE
  refine zg_lconst (v := 0) ok dX2_shiftOf_0 (by decide) ?_
  refine zg_lstore (L' := [(5, .long 0), (0, va_rf a0), (1, .int a1), (2, .int a2), (3, .int a3), (4, .int a4)]) ok dX2_shiftOf_1 (by decide) rfl ?_
  refine zg_iload_n ok dX2_shiftOf_3 rfl 2 rfl ?_
  refine zg_iconst (v := 1) ok dX2_shiftOf_4 (by decide) ?_
  refine zg_iadd ok dX2_shiftOf_5 ?_
  refine zg_iload_n ok dX2_shiftOf_6 rfl 4 rfl ?_
  refine zg_callS (vs := [zI (a1 + 1), zI a3]) (rest := []) (rm := rm_X2_centre) ok hRm lk_X2_226 dX2_shiftOf_7 hE (fun hE => mt_X2_centre hl hE) rfl (Nat.le_of_ble_eq_true rfl) ⟨⟨Nat.le_of_ble_eq_true rfl, Nat.le_of_ble_eq_true rfl⟩, Nat.le_of_ble_eq_true rfl, Nat.le_of_ble_eq_true rfl⟩ (zg_retI (fun v1 h1 hE => ?_)) (zg_xok ok tab fin ⟨Nat.le_of_ble_eq_true rfl, Nat.le_of_ble_eq_true rfl⟩)
  refine zg_cost (kc2 := 0) (ks2 := 0) ⟨rfl, rfl⟩ ?_
  refine zg_iload_n ok dX2_shiftOf_10 rfl 2 rfl ?_
  refine zg_iload_n ok dX2_shiftOf_11 rfl 3 rfl ?_
  refine zg_callS (vs := [zI a1, zI a2]) (rest := [.int v1]) (rm := rm_X2_centre) ok hRm lk_X2_226 dX2_shiftOf_12 hE (fun hE => mt_X2_centre hl hE) rfl (Nat.le_of_ble_eq_true rfl) ⟨⟨Nat.le_of_ble_eq_true rfl, Nat.le_of_ble_eq_true rfl⟩, Nat.le_of_ble_eq_true rfl, Nat.le_of_ble_eq_true rfl⟩ (zg_retI (fun v2 h2 hE => ?_)) (zg_xok ok tab fin ⟨Nat.le_of_ble_eq_true rfl, Nat.le_of_ble_eq_true rfl⟩)
  refine zg_cost (kc2 := 0) (ks2 := 0) ⟨rfl, rfl⟩ ?_
  refine zg_isub ok dX2_shiftOf_15 ?_
  refine zg_letI hE (fun v3 hE => ?_)
  refine zg_istore (L' := [(7, .int v3), (5, .long 0), (0, va_rf a0), (1, .int a1), (2, .int a2), (3, .int a3), (4, .int a4)]) ok dX2_shiftOf_16 (by decide) rfl ?_
  refine zg_iconst (v := 0) ok dX2_shiftOf_18 (by decide) ?_
  refine zg_istore (L' := [(8, .int 0), (7, .int v3), (5, .long 0), (0, va_rf a0), (1, .int a1), (2, .int a2), (3, .int a3), (4, .int a4)]) ok dX2_shiftOf_19 (by decide) rfl ?_
  refine zg_sub (L' := [(0, va_rf a0), (1, .int a1), (3, .int a3), (4, .int a4), (7, .int v3), (5, .long 0), (8, .int 0)]) [3, 4, 6, 7, 1, 2, 0] rfl ?_
  refine gt_f_X2_shiftOf_L21 hl ok tab fin hRm ⟨Nat.le_of_ble_eq_true rfl, Nat.le_of_ble_eq_true rfl⟩ ?_ _ _ _ _ hE
  · intro v11 h6 hE
    refine zg_lload ok dX2_shiftOf_75 0 rfl ?_
    exact zg_lret ok fin dX2_shiftOf_77 ⟨Nat.le_of_ble_eq_true rfl, Nat.le_of_ble_eq_true rfl⟩ hE
set_option maxHeartbeats 8000000 in
theorem gt_f_X2_laysMoments_B2 {Xc : zw_X} {Q : zw_H → Prop} {X : String → Nat → zw_H → Prop} (hl : (zw_l Xc).stackTraces = false) (ok : zw_ok Xc cX2_laysMoments "MultipoleLineModel" yX2_laysMoments.name 4) (tab : zw_tab Xc []) (fin : zw_fin Xc (Option.none : Option Jvm.ClassFile.FieldType) (zq_V Q) X 0 0) (hRm : zw_rm Xc = rm_X2_laysMoments) {kc ks : Nat} (hb : kc ≤ 0 ∧ ks ≤ 0) {R : Int32 → zw_H → Prop} {l0 : Option Nat} (hR : ∀ (l1 : Int32) (h : zw_H), R l1 h → zw_G Xc kc ks 4 h 2 [(0, va_rf l0), (1, .int l1)] []) {k25 : zw_H → Prop} (hk25 : ∀  (h : zw_H), k25  h → zw_G Xc kc ks 4 h 25 [(0, va_rf l0)] [])  {l1 : Int32} {h : zw_H} (hE : f_X2_laysMoments_B2 (zw_Zf Xc).2.2.2 Q X k25 l0 R l1 h) : zw_G Xc kc ks 4 h 2 [(0, va_rf l0), (1, .int l1)] [] := by
  unfold f_X2_laysMoments_B2 at hE
  refine zg_iload_n ok dX2_laysMoments_2 rfl 1 rfl ?_
  refine zg_iconst (v := 1) ok dX2_laysMoments_3 (by decide) ?_
  refine zg_aload_n ok dX2_laysMoments_4 rfl 0 rfl ?_
  refine zg_getA ok lf_X2_9 dX2_laysMoments_5 hE (fun v1 hE => ?_)
  refine zg_iconst (v := 3) ok dX2_laysMoments_8 (by decide) ?_
  refine zg_iald ok dX2_laysMoments_9 hE (fun v2 hE => ?_)
  refine zg_ishl ok dX2_laysMoments_10 ?_
  refine zg_icmp_ge (tgt := 25) ok dX2_laysMoments_11 (by decide) hE (fun hE => ?_) (fun hE => ?_)
  · refine zg_sub (L' := [(0, va_rf l0)]) [0] rfl ?_
    exact hk25 _ hE
  · refine zg_aload_n ok dX2_laysMoments_14 rfl 0 rfl ?_
    refine zg_iload_n ok dX2_laysMoments_15 rfl 1 rfl ?_
    refine zg_callV (vs := [zI l1]) (rest := []) (rm := rm_X2_laysLeaf) ok hRm lk_X2_253 dX2_laysMoments_16 hE (fun hE => mt_X2_laysLeaf hl hE) rfl (Nat.le_of_ble_eq_true rfl) ⟨⟨Nat.le_of_ble_eq_true rfl, Nat.le_of_ble_eq_true rfl⟩, (by show kc + 0 ≤ 0; omega), (by show ks + 0 ≤ 0; omega)⟩ (zg_retV (fun h1 hE => ?_)) (zg_xok ok tab fin ⟨(by show kc + 0 ≤ 0; omega), (by show ks + 0 ≤ 0; omega)⟩)
    refine zg_cost (kc2 := kc) (ks2 := ks) ⟨(by show kc + 0 = kc; omega), (by show ks + 0 = ks; omega)⟩ ?_
    refine zg_iincLR (k := 1) (L' := fun v3 => [(1, .int v3), (0, va_rf l0)]) ok dX2_laysMoments_19 (by decide +kernel) hE rfl (by decide) rfl (k9 := 0) rfl (fun _ => rfl) (fun v3 hE => ?_)
    refine zg_goto (tgt := 2) ok dX2_laysMoments_22 (by decide) ?_
    refine zg_sub (L' := [(0, va_rf l0), (1, .int v3)]) [1, 0] rfl ?_
    exact hR _ _ hE
theorem gt_f_X2_laysMoments_L2 {Xc : zw_X} {Q : zw_H → Prop} {X : String → Nat → zw_H → Prop} (hl : (zw_l Xc).stackTraces = false) (ok : zw_ok Xc cX2_laysMoments "MultipoleLineModel" yX2_laysMoments.name 4) (tab : zw_tab Xc []) (fin : zw_fin Xc (Option.none : Option Jvm.ClassFile.FieldType) (zq_V Q) X 0 0) (hRm : zw_rm Xc = rm_X2_laysMoments) {kc ks : Nat} (hb : kc ≤ 0 ∧ ks ≤ 0) {l0 : Option Nat} {k25 : zw_H → Prop} (hk25 : ∀  (h : zw_H), k25  h → zw_G Xc kc ks 4 h 25 [(0, va_rf l0)] [])  : ∀ (n9 : Nat) (l1 : Int32) (h : zw_H), zl2 (f_X2_laysMoments_B2 (zw_Zf Xc).2.2.2 Q X k25 l0) n9 l1 h → zw_G Xc kc ks 4 h 2 [(0, va_rf l0), (1, .int l1)] [] := by
  intro n9
  induction n9 with
  | zero => intro l1 h hE; exact hE.elim
  | succ n9 ih => intro l1 h hE; exact gt_f_X2_laysMoments_B2 hl ok tab fin hRm hb ih hk25 hE
set_option maxHeartbeats 8000000 in
theorem gt_f_X2_laysMoments_B49 {Xc : zw_X} {Q : zw_H → Prop} {X : String → Nat → zw_H → Prop} (hl : (zw_l Xc).stackTraces = false) (ok : zw_ok Xc cX2_laysMoments "MultipoleLineModel" yX2_laysMoments.name 4) (tab : zw_tab Xc []) (fin : zw_fin Xc (Option.none : Option Jvm.ClassFile.FieldType) (zq_V Q) X 0 0) (hRm : zw_rm Xc = rm_X2_laysMoments) {kc ks : Nat} (hb : kc ≤ 0 ∧ ks ≤ 0) {R : Int32 → zw_H → Prop} {l0 : Option Nat} {l1 : Int32} {l2 : Int32} (hR : ∀ (l3 : Int32) (h : zw_H), R l3 h → zw_G Xc kc ks 4 h 49 [(0, va_rf l0), (1, .int l1), (2, .int l2), (3, .int l3)] []) {k95 : zw_H → Prop} (hk95 : ∀  (h : zw_H), k95  h → zw_G Xc kc ks 4 h 95 [(0, va_rf l0), (1, .int l1), (2, .int l2)] [])  {l3 : Int32} {h : zw_H} (hE : f_X2_laysMoments_B49 (zw_Zf Xc).2.2.2 Q X k95 l0 l1 l2 R l3 h) : zw_G Xc kc ks 4 h 49 [(0, va_rf l0), (1, .int l1), (2, .int l2), (3, .int l3)] [] := by
  unfold f_X2_laysMoments_B49 at hE
  refine zg_iload_n ok dX2_laysMoments_49 rfl 3 rfl ?_
  refine zg_iconst (v := 4) ok dX2_laysMoments_50 (by decide) ?_
  refine zg_icmp_gt (tgt := 95) ok dX2_laysMoments_51 (by decide) hE (fun hE => ?_) (fun hE => ?_)
  · refine zg_sub (L' := [(0, va_rf l0), (1, .int l1), (2, .int l2)]) [0, 1, 2] rfl ?_
    exact hk95 _ hE
  · refine zg_aload_n ok dX2_laysMoments_54 rfl 0 rfl ?_
    refine zg_getA ok lf_X2_34 dX2_laysMoments_55 hE (fun v7 hE => ?_)
    refine zg_iload_n ok dX2_laysMoments_58 rfl 1 rfl ?_
    refine zg_iload_n ok dX2_laysMoments_59 rfl 2 rfl ?_
    refine zg_callS (vs := [zI l1, zI l2]) (rest := [va_rf v7]) (rm := rm_X2_laidAt) ok hRm lk_X2_247 dX2_laysMoments_60 hE (fun hE => mt_X2_laidAt hl hE) rfl (Nat.le_of_ble_eq_true rfl) ⟨⟨Nat.le_of_ble_eq_true rfl, Nat.le_of_ble_eq_true rfl⟩, (by show kc + 0 ≤ 0; omega), (by show ks + 0 ≤ 0; omega)⟩ (zg_retI (fun v8 h3 hE => ?_)) (zg_xok ok tab fin ⟨(by show kc + 0 ≤ 0; omega), (by show ks + 0 ≤ 0; omega)⟩)
    refine zg_cost (kc2 := kc) (ks2 := ks) ⟨(by show kc + 0 = kc; omega), (by show ks + 0 = ks; omega)⟩ ?_
    refine zg_iload_n ok dX2_laysMoments_63 rfl 3 rfl ?_
    refine zg_iadd ok dX2_laysMoments_64 ?_
    refine zg_aload_n ok dX2_laysMoments_65 rfl 0 rfl ?_
    refine zg_iload_n ok dX2_laysMoments_66 rfl 1 rfl ?_
    refine zg_iload_n ok dX2_laysMoments_67 rfl 2 rfl ?_
    refine zg_iconst (v := 2) ok dX2_laysMoments_68 (by decide) ?_
    refine zg_iload_n ok dX2_laysMoments_69 rfl 2 rfl ?_
    refine zg_imul ok dX2_laysMoments_70 ?_
    refine zg_iload_n ok dX2_laysMoments_71 rfl 3 rfl ?_
    refine zg_callV (vs := [zI l1, zI l2, zI ((2 : Int32) * l2), zI l3]) (rest := [.int (v8 + l3), va_rf v7]) (rm := rm_X2_shiftOf) ok hRm lk_X2_256 dX2_laysMoments_72 hE (fun hE => mt_X2_shiftOf hl hE) rfl (Nat.le_of_ble_eq_true rfl) ⟨⟨Nat.le_of_ble_eq_true rfl, Nat.le_of_ble_eq_true rfl⟩, (by show kc + 0 ≤ 0; omega), (by show ks + 0 ≤ 0; omega)⟩ (zg_retJ (fun v9 h4 hE => ?_)) (zg_xok ok tab fin ⟨(by show kc + 0 ≤ 0; omega), (by show ks + 0 ≤ 0; omega)⟩)
    refine zg_cost (kc2 := kc) (ks2 := ks) ⟨(by show kc + 0 = kc; omega), (by show ks + 0 = ks; omega)⟩ ?_
    refine zg_aload_n ok dX2_laysMoments_75 rfl 0 rfl ?_
    refine zg_iload_n ok dX2_laysMoments_76 rfl 1 rfl ?_
    refine zg_iload_n ok dX2_laysMoments_77 rfl 2 rfl ?_
    refine zg_iconst (v := 2) ok dX2_laysMoments_78 (by decide) ?_
    refine zg_iload_n ok dX2_laysMoments_79 rfl 2 rfl ?_
    refine zg_imul ok dX2_laysMoments_80 ?_
    refine zg_iconst (v := 1) ok dX2_laysMoments_81 (by decide) ?_
    refine zg_iadd ok dX2_laysMoments_82 ?_
    refine zg_iload_n ok dX2_laysMoments_83 rfl 3 rfl ?_
    refine zg_callV (vs := [zI l1, zI l2, zI (((2 : Int32) * l2) + 1), zI l3]) (rest := [.long v9, .int (v8 + l3), va_rf v7]) (rm := rm_X2_shiftOf) ok hRm lk_X2_256 dX2_laysMoments_84 hE (fun hE => mt_X2_shiftOf hl hE) rfl (Nat.le_of_ble_eq_true rfl) ⟨⟨Nat.le_of_ble_eq_true rfl, Nat.le_of_ble_eq_true rfl⟩, (by show kc + 0 ≤ 0; omega), (by show ks + 0 ≤ 0; omega)⟩ (zg_retJ (fun v10 h5 hE => ?_)) (zg_xok ok tab fin ⟨(by show kc + 0 ≤ 0; omega), (by show ks + 0 ≤ 0; omega)⟩)
    refine zg_cost (kc2 := kc) (ks2 := ks) ⟨(by show kc + 0 = kc; omega), (by show ks + 0 = ks; omega)⟩ ?_
    refine zg_ladd ok dX2_laysMoments_87 ?_
    refine zg_last ok dX2_laysMoments_88 hE (fun h6 hE => ?_)
    refine zg_iincL (k := 3) (L' := fun v11 => [(3, .int v11), (0, va_rf l0), (1, .int l1), (2, .int l2)]) ok dX2_laysMoments_89 (by decide +kernel) hE rfl (by decide) (fun _ => rfl) (fun v11 hE => ?_)
    refine zg_goto (tgt := 49) ok dX2_laysMoments_92 (by decide) ?_
    refine zg_sub (L' := [(0, va_rf l0), (1, .int l1), (2, .int l2), (3, .int v11)]) [1, 2, 3, 0] rfl ?_
    exact hR _ _ hE
theorem gt_f_X2_laysMoments_L49 {Xc : zw_X} {Q : zw_H → Prop} {X : String → Nat → zw_H → Prop} (hl : (zw_l Xc).stackTraces = false) (ok : zw_ok Xc cX2_laysMoments "MultipoleLineModel" yX2_laysMoments.name 4) (tab : zw_tab Xc []) (fin : zw_fin Xc (Option.none : Option Jvm.ClassFile.FieldType) (zq_V Q) X 0 0) (hRm : zw_rm Xc = rm_X2_laysMoments) {kc ks : Nat} (hb : kc ≤ 0 ∧ ks ≤ 0) {l0 : Option Nat} {l1 : Int32} {l2 : Int32} {k95 : zw_H → Prop} (hk95 : ∀  (h : zw_H), k95  h → zw_G Xc kc ks 4 h 95 [(0, va_rf l0), (1, .int l1), (2, .int l2)] [])  : ∀ (n9 : Nat) (l3 : Int32) (h : zw_H), zl2 (f_X2_laysMoments_B49 (zw_Zf Xc).2.2.2 Q X k95 l0 l1 l2) n9 l3 h → zw_G Xc kc ks 4 h 49 [(0, va_rf l0), (1, .int l1), (2, .int l2), (3, .int l3)] [] := by
  intro n9
  induction n9 with
  | zero => intro l3 h hE; exact hE.elim
  | succ n9 ih => intro l3 h hE; exact gt_f_X2_laysMoments_B49 hl ok tab fin hRm hb ih hk95 hE
set_option maxHeartbeats 8000000 in
theorem gt_f_X2_laysMoments_B40 {Xc : zw_X} {Q : zw_H → Prop} {X : String → Nat → zw_H → Prop} (hl : (zw_l Xc).stackTraces = false) (ok : zw_ok Xc cX2_laysMoments "MultipoleLineModel" yX2_laysMoments.name 4) (tab : zw_tab Xc []) (fin : zw_fin Xc (Option.none : Option Jvm.ClassFile.FieldType) (zq_V Q) X 0 0) (hRm : zw_rm Xc = rm_X2_laysMoments) {kc ks : Nat} (hb : kc ≤ 0 ∧ ks ≤ 0) {R : Int32 → zw_H → Prop} {l0 : Option Nat} {l1 : Int32} (hR : ∀ (l2 : Int32) (h : zw_H), R l2 h → zw_G Xc kc ks 4 h 40 [(0, va_rf l0), (1, .int l1), (2, .int l2)] []) {k101 : zw_H → Prop} (hk101 : ∀  (h : zw_H), k101  h → zw_G Xc kc ks 4 h 101 [(0, va_rf l0), (1, .int l1)] [])  {l2 : Int32} {h : zw_H} (hE : f_X2_laysMoments_B40 (zw_Zf Xc).2.2.2 Q X k101 l0 l1 R l2 h) : zw_G Xc kc ks 4 h 40 [(0, va_rf l0), (1, .int l1), (2, .int l2)] [] := by
  unfold f_X2_laysMoments_B40 at hE
  refine zg_iload_n ok dX2_laysMoments_40 rfl 2 rfl ?_
  refine zg_iconst (v := 1) ok dX2_laysMoments_41 (by decide) ?_
  refine zg_iload_n ok dX2_laysMoments_42 rfl 1 rfl ?_
  refine zg_ishl ok dX2_laysMoments_43 ?_
  refine zg_icmp_ge (tgt := 101) ok dX2_laysMoments_44 (by decide) hE (fun hE => ?_) (fun hE => ?_)
  · refine zg_sub (L' := [(0, va_rf l0), (1, .int l1)]) [0, 1] rfl ?_
    exact hk101 _ hE
  · refine zg_iconst (v := 0) ok dX2_laysMoments_47 (by decide) ?_
    refine zg_istore_n (L' := [(3, .int 0), (0, va_rf l0), (1, .int l1), (2, .int l2)]) ok dX2_laysMoments_48 rfl (by decide) rfl ?_
    refine zg_sub (L' := [(0, va_rf l0), (1, .int l1), (2, .int l2), (3, .int 0)]) [1, 2, 3, 0] rfl ?_
    refine gt_f_X2_laysMoments_L49 hl ok tab fin hRm ⟨(by omega), (by omega)⟩ ?_ _ _ _ hE
    · intro h7 hE
      refine zg_iincL (k := 2) (L' := fun v12 => [(2, .int v12), (0, va_rf l0), (1, .int l1)]) ok dX2_laysMoments_95 (by decide +kernel) hE rfl (by decide) (fun _ => rfl) (fun v12 hE => ?_)
      refine zg_goto (tgt := 40) ok dX2_laysMoments_98 (by decide) ?_
      refine zg_sub (L' := [(0, va_rf l0), (1, .int l1), (2, .int v12)]) [1, 2, 0] rfl ?_
      exact hR _ _ hE
theorem gt_f_X2_laysMoments_L40 {Xc : zw_X} {Q : zw_H → Prop} {X : String → Nat → zw_H → Prop} (hl : (zw_l Xc).stackTraces = false) (ok : zw_ok Xc cX2_laysMoments "MultipoleLineModel" yX2_laysMoments.name 4) (tab : zw_tab Xc []) (fin : zw_fin Xc (Option.none : Option Jvm.ClassFile.FieldType) (zq_V Q) X 0 0) (hRm : zw_rm Xc = rm_X2_laysMoments) {kc ks : Nat} (hb : kc ≤ 0 ∧ ks ≤ 0) {l0 : Option Nat} {l1 : Int32} {k101 : zw_H → Prop} (hk101 : ∀  (h : zw_H), k101  h → zw_G Xc kc ks 4 h 101 [(0, va_rf l0), (1, .int l1)] [])  : ∀ (n9 : Nat) (l2 : Int32) (h : zw_H), zl2 (f_X2_laysMoments_B40 (zw_Zf Xc).2.2.2 Q X k101 l0 l1) n9 l2 h → zw_G Xc kc ks 4 h 40 [(0, va_rf l0), (1, .int l1), (2, .int l2)] [] := by
  intro n9
  induction n9 with
  | zero => intro l2 h hE; exact hE.elim
  | succ n9 ih => intro l2 h hE; exact gt_f_X2_laysMoments_B40 hl ok tab fin hRm hb ih hk101 hE
set_option maxHeartbeats 8000000 in
theorem gt_f_X2_laysMoments_B34 {Xc : zw_X} {Q : zw_H → Prop} {X : String → Nat → zw_H → Prop} (hl : (zw_l Xc).stackTraces = false) (ok : zw_ok Xc cX2_laysMoments "MultipoleLineModel" yX2_laysMoments.name 4) (tab : zw_tab Xc []) (fin : zw_fin Xc (Option.none : Option Jvm.ClassFile.FieldType) (zq_V Q) X 0 0) (hRm : zw_rm Xc = rm_X2_laysMoments) {kc ks : Nat} (hb : kc ≤ 0 ∧ ks ≤ 0) {R : Int32 → zw_H → Prop} {l0 : Option Nat} (hR : ∀ (l1 : Int32) (h : zw_H), R l1 h → zw_G Xc kc ks 4 h 34 [(0, va_rf l0), (1, .int l1)] []) {k107 : zw_H → Prop} (hk107 : ∀  (h : zw_H), k107  h → zw_G Xc kc ks 4 h 107 [] [])  {l1 : Int32} {h : zw_H} (hE : f_X2_laysMoments_B34 (zw_Zf Xc).2.2.2 Q X k107 l0 R l1 h) : zw_G Xc kc ks 4 h 34 [(0, va_rf l0), (1, .int l1)] [] := by
  unfold f_X2_laysMoments_B34 at hE
  refine zg_iload_n ok dX2_laysMoments_34 rfl 1 rfl ?_
  refine zg_if_lt (tgt := 107) ok dX2_laysMoments_35 (by decide) hE (fun hE => ?_) (fun hE => ?_)
  · refine zg_sub (L' := []) [] rfl ?_
    exact hk107 _ hE
  · refine zg_iconst (v := 0) ok dX2_laysMoments_38 (by decide) ?_
    refine zg_istore_n (L' := [(2, .int 0), (0, va_rf l0), (1, .int l1)]) ok dX2_laysMoments_39 rfl (by decide) rfl ?_
    refine zg_sub (L' := [(0, va_rf l0), (1, .int l1), (2, .int 0)]) [1, 2, 0] rfl ?_
    refine gt_f_X2_laysMoments_L40 hl ok tab fin hRm ⟨(by omega), (by omega)⟩ ?_ _ _ _ hE
    · intro h8 hE
      refine zg_iincLR (k := 1) (L' := fun v13 => [(1, .int v13), (0, va_rf l0)]) ok dX2_laysMoments_101 (by decide +kernel) hE rfl (by decide) rfl (k9 := 0) rfl (fun _ => rfl) (fun v13 hE => ?_)
      refine zg_goto (tgt := 34) ok dX2_laysMoments_104 (by decide) ?_
      refine zg_sub (L' := [(0, va_rf l0), (1, .int v13)]) [1, 0] rfl ?_
      exact hR _ _ hE
theorem gt_f_X2_laysMoments_L34 {Xc : zw_X} {Q : zw_H → Prop} {X : String → Nat → zw_H → Prop} (hl : (zw_l Xc).stackTraces = false) (ok : zw_ok Xc cX2_laysMoments "MultipoleLineModel" yX2_laysMoments.name 4) (tab : zw_tab Xc []) (fin : zw_fin Xc (Option.none : Option Jvm.ClassFile.FieldType) (zq_V Q) X 0 0) (hRm : zw_rm Xc = rm_X2_laysMoments) {kc ks : Nat} (hb : kc ≤ 0 ∧ ks ≤ 0) {l0 : Option Nat} {k107 : zw_H → Prop} (hk107 : ∀  (h : zw_H), k107  h → zw_G Xc kc ks 4 h 107 [] [])  : ∀ (n9 : Nat) (l1 : Int32) (h : zw_H), zl2 (f_X2_laysMoments_B34 (zw_Zf Xc).2.2.2 Q X k107 l0) n9 l1 h → zw_G Xc kc ks 4 h 34 [(0, va_rf l0), (1, .int l1)] [] := by
  intro n9
  induction n9 with
  | zero => intro l1 h hE; exact hE.elim
  | succ n9 ih => intro l1 h hE; exact gt_f_X2_laysMoments_B34 hl ok tab fin hRm hb ih hk107 hE
set_option maxHeartbeats 8000000 in
theorem mt_X2_laysMoments {l : Launch} (hl : l.stackTraces = false) {Z : zw_Z} {a0 : Option Nat} {h : zw_H} {Q : zw_H → Prop} {X : String → Nat → zw_H → Prop} (hE : f_X2_laysMoments Z.2.2.2 a0 h Q X) : zw_Met l Z yX2_laysMoments (ws_ yX2_laysMoments cX2_laysMoments 4 (Option.none : Option Jvm.ClassFile.FieldType)) rm_X2_laysMoments [zA a0] h (zq_V Q) X := by
  refine zg_start (own := "MultipoleLineModel") (by decide +kernel) rfl (Nat.le_of_ble_eq_true rfl) hl (fun Xc ok tab fin hRm hXl hXZ => ?_)
  subst hXl
  subst hXZ
  unfold f_X2_laysMoments at hE
  refine zg_iconst (v := 0) ok dX2_laysMoments_0 (by decide) ?_
  refine zg_istore_nR (L' := [(1, .int 0), (0, va_rf a0)]) ok dX2_laysMoments_1 rfl (by decide) 0 rfl rfl rfl ?_
  refine zg_sub (L' := [(0, va_rf a0), (1, .int 0)]) [1, 0] rfl ?_
  refine gt_f_X2_laysMoments_L2 hl ok tab fin hRm ⟨Nat.le_of_ble_eq_true rfl, Nat.le_of_ble_eq_true rfl⟩ ?_ _ _ _ hE
  · intro h2 hE
    refine zg_aload_n ok dX2_laysMoments_25 rfl 0 rfl ?_
    refine zg_getA ok lf_X2_9 dX2_laysMoments_26 hE (fun v4 hE => ?_)
    refine zg_iconst (v := 3) ok dX2_laysMoments_29 (by decide) ?_
    refine zg_iald ok dX2_laysMoments_30 hE (fun v5 hE => ?_)
    refine zg_iconst (v := 1) ok dX2_laysMoments_31 (by decide) ?_
    refine zg_isub ok dX2_laysMoments_32 ?_
    refine zg_letI hE (fun v6 hE => ?_)
    refine zg_istore_nR (L' := [(1, .int v6), (0, va_rf a0)]) ok dX2_laysMoments_33 rfl (by decide) 0 rfl rfl rfl ?_
    refine zg_sub (L' := [(0, va_rf a0), (1, .int v6)]) [1, 0] rfl ?_
    refine gt_f_X2_laysMoments_L34 hl ok tab fin hRm ⟨Nat.le_of_ble_eq_true rfl, Nat.le_of_ble_eq_true rfl⟩ ?_ _ _ _ hE
    · intro h9 hE
      exact zg_vret ok fin dX2_laysMoments_107 ⟨Nat.le_of_ble_eq_true rfl, Nat.le_of_ble_eq_true rfl⟩ hE
set_option maxHeartbeats 8000000 in
theorem mt_X2_shifted {l : Launch} (hl : l.stackTraces = false) {Z : zw_Z} {a0 : Option Nat} {a1 : Int32} {a2 : Int32} {a3 : Int32} {h : zw_H} {Q : Int64 → zw_H → Prop} {X : String → Nat → zw_H → Prop} (hE : f_X2_shifted Z.2.2.2 a0 a1 a2 a3 h Q X) : zw_Met l Z yX2_shifted (ws_ yX2_shifted cX2_shifted 4 (Option.some Jvm.ClassFile.FieldType.long)) rm_X2_shifted [zA a0, zI a1, zI a2, zI a3] h (zq_J Q) X := by
  refine zg_start (own := "MultipoleLineModel") (by decide +kernel) rfl (Nat.le_of_ble_eq_true rfl) hl (fun Xc ok tab fin hRm hXl hXZ => ?_)
  subst hXl
  subst hXZ
  unfold f_X2_shifted at hE
  refine zg_aload_n ok dX2_shifted_0 rfl 0 rfl ?_
  refine zg_iload_n ok dX2_shifted_1 rfl 1 rfl ?_
  refine zg_iload_n ok dX2_shifted_2 rfl 2 rfl ?_
  refine zg_iload_n ok dX2_shifted_3 rfl 3 rfl ?_
  refine zg_callV (vs := [zI a1, zI a2, zI a3]) (rest := []) (rm := rm_X2_mayMoment) ok hRm lk_X2_240 dX2_shifted_4 hE (fun hE => mt_X2_mayMoment hl hE) rfl (Nat.le_of_ble_eq_true rfl) ⟨⟨Nat.le_of_ble_eq_true rfl, Nat.le_of_ble_eq_true rfl⟩, Nat.le_of_ble_eq_true rfl, Nat.le_of_ble_eq_true rfl⟩ (zg_retI (fun v1 h1 hE => ?_)) (zg_xok ok tab fin ⟨Nat.le_of_ble_eq_true rfl, Nat.le_of_ble_eq_true rfl⟩)
  refine zg_cost (kc2 := 0) (ks2 := 0) ⟨rfl, rfl⟩ ?_
  refine zg_if_ne (tgt := 12) ok dX2_shifted_7 (by decide) hE (fun hE => ?_) (fun hE => ?_)
  · refine zg_aload_n ok dX2_shifted_12 rfl 0 rfl ?_
    refine zg_callV (vs := []) (rest := []) (rm := rm_X2_laysMoments) ok hRm lk_X2_260 dX2_shifted_13 hE (fun hE => mt_X2_laysMoments hl hE) rfl (Nat.le_of_ble_eq_true rfl) ⟨⟨Nat.le_of_ble_eq_true rfl, Nat.le_of_ble_eq_true rfl⟩, Nat.le_of_ble_eq_true rfl, Nat.le_of_ble_eq_true rfl⟩ (zg_retV (fun h2 hE => ?_)) (zg_xok ok tab fin ⟨Nat.le_of_ble_eq_true rfl, Nat.le_of_ble_eq_true rfl⟩)
    refine zg_cost (kc2 := 0) (ks2 := 0) ⟨rfl, rfl⟩ ?_
    refine zg_aload_n ok dX2_shifted_16 rfl 0 rfl ?_
    refine zg_getA ok lf_X2_34 dX2_shifted_17 hE (fun v2 hE => ?_)
    refine zg_iload_n ok dX2_shifted_20 rfl 1 rfl ?_
    refine zg_iload_n ok dX2_shifted_21 rfl 2 rfl ?_
    refine zg_callS (vs := [zI a1, zI a2]) (rest := [va_rf v2]) (rm := rm_X2_laidAt) ok hRm lk_X2_247 dX2_shifted_22 hE (fun hE => mt_X2_laidAt hl hE) rfl (Nat.le_of_ble_eq_true rfl) ⟨⟨Nat.le_of_ble_eq_true rfl, Nat.le_of_ble_eq_true rfl⟩, Nat.le_of_ble_eq_true rfl, Nat.le_of_ble_eq_true rfl⟩ (zg_retI (fun v3 h3 hE => ?_)) (zg_xok ok tab fin ⟨Nat.le_of_ble_eq_true rfl, Nat.le_of_ble_eq_true rfl⟩)
    refine zg_cost (kc2 := 0) (ks2 := 0) ⟨rfl, rfl⟩ ?_
    refine zg_iload_n ok dX2_shifted_25 rfl 3 rfl ?_
    refine zg_iadd ok dX2_shifted_26 ?_
    refine zg_lald ok dX2_shifted_27 hE (fun v4 hE => ?_)
    exact zg_lret ok fin dX2_shifted_28 ⟨Nat.le_of_ble_eq_true rfl, Nat.le_of_ble_eq_true rfl⟩ hE
  · refine zg_lconst (v := 0) ok dX2_shifted_10 (by decide) ?_
    exact zg_lret ok fin dX2_shifted_11 ⟨Nat.le_of_ble_eq_true rfl, Nat.le_of_ble_eq_true rfl⟩ hE
set_option maxHeartbeats 8000000 in
theorem gt_f_X2_momentGap_J89 {Xc : zw_X} {Q : Int64 → zw_H → Prop} {X : String → Nat → zw_H → Prop} (hl : (zw_l Xc).stackTraces = false) (ok : zw_ok Xc cX2_momentGap "MultipoleLineModel" yX2_momentGap.name 8) (tab : zw_tab Xc []) (fin : zw_fin Xc (Option.some Jvm.ClassFile.FieldType.long) (zq_J Q) X 0 0) (hRm : zw_rm Xc = rm_X2_momentGap) {kc ks : Nat} (hb : kc ≤ 0 ∧ ks ≤ 0) {R : Int64 → Int32 → zw_H → Prop} {l0 : Option Nat} {l3 : Int32} {l4 : Int32} (hR : ∀ (l1 : Int64) (l5 : Int32) (h : zw_H), R l1 l5 h → zw_G Xc kc ks 8 h 41 [(0, va_rf l0), (3, .int l3), (4, .int l4), (1, .long l1), (5, .int l5)] []) {k97 : Int64 → zw_H → Prop} (hk97 : ∀ (l1 : Int64) (h : zw_H), k97 l1 h → zw_G Xc kc ks 8 h 97 [(0, va_rf l0), (1, .long l1), (3, .int l3), (4, .int l4)] [])  {l5 : Int32} {s0 : Int64} {s1 : Int64} {h : zw_H} (hE : f_X2_momentGap_J89 (zw_Zf Xc).2.2.2 Q X R k97 l0 l3 l4 l5 s0 s1 h) : zw_G Xc kc ks 8 h 89 [(0, va_rf l0), (3, .int l3), (4, .int l4), (5, .int l5)] [.long s0, .long s1] := by
  unfold f_X2_momentGap_J89 at hE
  refine zg_ladd ok dX2_momentGap_89 ?_
  refine zg_letJ hE (fun v9 hE => ?_)
  refine zg_lstore_nR (L' := [(1, .long v9), (0, va_rf l0), (3, .int l3), (4, .int l4), (5, .int l5)]) ok dX2_momentGap_90 rfl (by decide) 0 rfl rfl rfl ?_
  refine zg_iincL (k := 4) (L' := fun v10 => [(5, .int v10), (1, .long v9), (0, va_rf l0), (3, .int l3), (4, .int l4)]) ok dX2_momentGap_91 (by decide +kernel) hE rfl (by decide) (fun _ => rfl) (fun v10 hE => ?_)
  refine zg_goto (tgt := 41) ok dX2_momentGap_94 (by decide) ?_
  refine zg_sub (L' := [(0, va_rf l0), (3, .int l3), (4, .int l4), (1, .long v9), (5, .int v10)]) [2, 3, 4, 1, 0] rfl ?_
  exact hR _ _ _ hE
set_option maxHeartbeats 8000000 in
theorem gt_f_X2_momentGap_B41 {Xc : zw_X} {Q : Int64 → zw_H → Prop} {X : String → Nat → zw_H → Prop} (hl : (zw_l Xc).stackTraces = false) (ok : zw_ok Xc cX2_momentGap "MultipoleLineModel" yX2_momentGap.name 8) (tab : zw_tab Xc []) (fin : zw_fin Xc (Option.some Jvm.ClassFile.FieldType.long) (zq_J Q) X 0 0) (hRm : zw_rm Xc = rm_X2_momentGap) {kc ks : Nat} (hb : kc ≤ 0 ∧ ks ≤ 0) {R : Int64 → Int32 → zw_H → Prop} {l0 : Option Nat} {l3 : Int32} {l4 : Int32} (hR : ∀ (l1 : Int64) (l5 : Int32) (h : zw_H), R l1 l5 h → zw_G Xc kc ks 8 h 41 [(0, va_rf l0), (3, .int l3), (4, .int l4), (1, .long l1), (5, .int l5)] []) {k97 : Int64 → zw_H → Prop} (hk97 : ∀ (l1 : Int64) (h : zw_H), k97 l1 h → zw_G Xc kc ks 8 h 97 [(0, va_rf l0), (1, .long l1), (3, .int l3), (4, .int l4)] [])  {l1 : Int64} {l5 : Int32} {h : zw_H} (hE : f_X2_momentGap_B41 (zw_Zf Xc).2.2.2 Q X k97 l0 l3 l4 R l1 l5 h) : zw_G Xc kc ks 8 h 41 [(0, va_rf l0), (3, .int l3), (4, .int l4), (1, .long l1), (5, .int l5)] [] := by
  unfold f_X2_momentGap_B41 at hE
  refine zg_iload ok dX2_momentGap_41 4 rfl ?_
  refine zg_iconst (v := 4) ok dX2_momentGap_43 (by decide) ?_
  refine zg_icmp_gt (tgt := 97) ok dX2_momentGap_44 (by decide) hE (fun hE => ?_) (fun hE => ?_)
  · refine zg_sub (L' := [(0, va_rf l0), (1, .long l1), (3, .int l3), (4, .int l4)]) [0, 3, 1, 2] rfl ?_
    exact hk97 _ _ hE
  · refine zg_aload_n ok dX2_momentGap_47 rfl 0 rfl ?_
    refine zg_iload_n ok dX2_momentGap_48 rfl 1 rfl ?_
    refine zg_iload ok dX2_momentGap_49 2 rfl ?_
    refine zg_iload ok dX2_momentGap_51 4 rfl ?_
    refine zg_callV (vs := [zI l3, zI l4, zI l5]) (rest := []) (rm := rm_X2_momentOf) ok hRm lk_X2_243 dX2_momentGap_53 hE (fun hE => mt_X2_momentOf hl hE) rfl (Nat.le_of_ble_eq_true rfl) ⟨⟨Nat.le_of_ble_eq_true rfl, Nat.le_of_ble_eq_true rfl⟩, (by show kc + 0 ≤ 0; omega), (by show ks + 0 ≤ 0; omega)⟩ (zg_retJ (fun v4 h3 hE => ?_)) (zg_xok ok tab fin ⟨(by show kc + 0 ≤ 0; omega), (by show ks + 0 ≤ 0; omega)⟩)
    refine zg_cost (kc2 := kc) (ks2 := ks) ⟨(by show kc + 0 = kc; omega), (by show ks + 0 = ks; omega)⟩ ?_
    refine zg_aload_n ok dX2_momentGap_56 rfl 0 rfl ?_
    refine zg_getA ok lf_X2_34 dX2_momentGap_57 hE (fun v5 hE => ?_)
    refine zg_iload_n ok dX2_momentGap_60 rfl 1 rfl ?_
    refine zg_iload ok dX2_momentGap_61 2 rfl ?_
    refine zg_callS (vs := [zI l3, zI l4]) (rest := [va_rf v5, .long v4]) (rm := rm_X2_laidAt) ok hRm lk_X2_247 dX2_momentGap_63 hE (fun hE => mt_X2_laidAt hl hE) rfl (Nat.le_of_ble_eq_true rfl) ⟨⟨Nat.le_of_ble_eq_true rfl, Nat.le_of_ble_eq_true rfl⟩, (by show kc + 0 ≤ 0; omega), (by show ks + 0 ≤ 0; omega)⟩ (zg_retI (fun v6 h4 hE => ?_)) (zg_xok ok tab fin ⟨(by show kc + 0 ≤ 0; omega), (by show ks + 0 ≤ 0; omega)⟩)
    refine zg_cost (kc2 := kc) (ks2 := ks) ⟨(by show kc + 0 = kc; omega), (by show ks + 0 = ks; omega)⟩ ?_
    refine zg_iload ok dX2_momentGap_66 4 rfl ?_
    refine zg_iadd ok dX2_momentGap_68 ?_
    refine zg_lald ok dX2_momentGap_69 hE (fun v7 hE => ?_)
    refine zg_lsub ok dX2_momentGap_70 ?_
    refine zg_letJ hE (fun v8 hE => ?_)
    refine zg_lstore (L' := [(6, .long v8), (0, va_rf l0), (3, .int l3), (4, .int l4), (1, .long l1), (5, .int l5)]) ok dX2_momentGap_71 (by decide) rfl ?_
    refine zg_lload_n ok dX2_momentGap_73 rfl 4 rfl ?_
    refine zg_lload ok dX2_momentGap_74 0 rfl ?_
    refine zg_lconst (v := 0) ok dX2_momentGap_76 (by decide) ?_
    refine zg_lcmp ok dX2_momentGap_77 ?_
    refine zg_if_ge (tgt := 87) ok dX2_momentGap_78 (by decide) hE (fun hE => ?_) (fun hE => ?_)
    · refine zg_lload ok dX2_momentGap_87 0 rfl ?_
      refine zg_sub (L' := [(0, va_rf l0), (3, .int l3), (4, .int l4), (5, .int l5)]) [1, 2, 3, 5] rfl ?_
      exact gt_f_X2_momentGap_J89 hl ok tab fin hRm hb hR hk97 hE
    · refine zg_lload ok dX2_momentGap_81 0 rfl ?_
      refine zg_lneg ok dX2_momentGap_83 ?_
      refine zg_goto (tgt := 89) ok dX2_momentGap_84 (by decide) ?_
      refine zg_sub (L' := [(0, va_rf l0), (3, .int l3), (4, .int l4), (5, .int l5)]) [1, 2, 3, 5] rfl ?_
      exact gt_f_X2_momentGap_J89 hl ok tab fin hRm hb hR hk97 hE
theorem gt_f_X2_momentGap_L41 {Xc : zw_X} {Q : Int64 → zw_H → Prop} {X : String → Nat → zw_H → Prop} (hl : (zw_l Xc).stackTraces = false) (ok : zw_ok Xc cX2_momentGap "MultipoleLineModel" yX2_momentGap.name 8) (tab : zw_tab Xc []) (fin : zw_fin Xc (Option.some Jvm.ClassFile.FieldType.long) (zq_J Q) X 0 0) (hRm : zw_rm Xc = rm_X2_momentGap) {kc ks : Nat} (hb : kc ≤ 0 ∧ ks ≤ 0) {l0 : Option Nat} {l3 : Int32} {l4 : Int32} {k97 : Int64 → zw_H → Prop} (hk97 : ∀ (l1 : Int64) (h : zw_H), k97 l1 h → zw_G Xc kc ks 8 h 97 [(0, va_rf l0), (1, .long l1), (3, .int l3), (4, .int l4)] [])  : ∀ (n9 : Nat) (l1 : Int64) (l5 : Int32) (h : zw_H), zl3 (f_X2_momentGap_B41 (zw_Zf Xc).2.2.2 Q X k97 l0 l3 l4) n9 l1 l5 h → zw_G Xc kc ks 8 h 41 [(0, va_rf l0), (3, .int l3), (4, .int l4), (1, .long l1), (5, .int l5)] [] := by
  intro n9
  induction n9 with
  | zero => intro l1 l5 h hE; exact hE.elim
  | succ n9 ih => intro l1 l5 h hE; exact gt_f_X2_momentGap_B41 hl ok tab fin hRm hb ih hk97 hE
set_option maxHeartbeats 8000000 in
theorem gt_f_X2_momentGap_B30 {Xc : zw_X} {Q : Int64 → zw_H → Prop} {X : String → Nat → zw_H → Prop} (hl : (zw_l Xc).stackTraces = false) (ok : zw_ok Xc cX2_momentGap "MultipoleLineModel" yX2_momentGap.name 8) (tab : zw_tab Xc []) (fin : zw_fin Xc (Option.some Jvm.ClassFile.FieldType.long) (zq_J Q) X 0 0) (hRm : zw_rm Xc = rm_X2_momentGap) {kc ks : Nat} (hb : kc ≤ 0 ∧ ks ≤ 0) {R : Int64 → Int32 → zw_H → Prop} {l0 : Option Nat} {l3 : Int32} (hR : ∀ (l1 : Int64) (l4 : Int32) (h : zw_H), R l1 l4 h → zw_G Xc kc ks 8 h 30 [(0, va_rf l0), (3, .int l3), (1, .long l1), (4, .int l4)] []) {k103 : Int64 → zw_H → Prop} (hk103 : ∀ (l1 : Int64) (h : zw_H), k103 l1 h → zw_G Xc kc ks 8 h 103 [(0, va_rf l0), (1, .long l1), (3, .int l3)] [])  {l1 : Int64} {l4 : Int32} {h : zw_H} (hE : f_X2_momentGap_B30 (zw_Zf Xc).2.2.2 Q X k103 l0 l3 R l1 l4 h) : zw_G Xc kc ks 8 h 30 [(0, va_rf l0), (3, .int l3), (1, .long l1), (4, .int l4)] [] := by
  unfold f_X2_momentGap_B30 at hE
  refine zg_iload ok dX2_momentGap_30 3 rfl ?_
  refine zg_iconst (v := 1) ok dX2_momentGap_32 (by decide) ?_
  refine zg_iload_n ok dX2_momentGap_33 rfl 1 rfl ?_
  refine zg_ishl ok dX2_momentGap_34 ?_
  refine zg_icmp_ge (tgt := 103) ok dX2_momentGap_35 (by decide) hE (fun hE => ?_) (fun hE => ?_)
  · refine zg_sub (L' := [(0, va_rf l0), (1, .long l1), (3, .int l3)]) [0, 2, 1] rfl ?_
    exact hk103 _ _ hE
  · refine zg_iconst (v := 0) ok dX2_momentGap_38 (by decide) ?_
    refine zg_istore (L' := [(5, .int 0), (0, va_rf l0), (3, .int l3), (1, .long l1), (4, .int l4)]) ok dX2_momentGap_39 (by decide) rfl ?_
    refine zg_sub (L' := [(0, va_rf l0), (3, .int l3), (4, .int l4), (1, .long l1), (5, .int 0)]) [1, 2, 4, 3, 0] rfl ?_
    refine gt_f_X2_momentGap_L41 hl ok tab fin hRm ⟨(by omega), (by omega)⟩ ?_ _ _ _ _ hE
    · intro v11 h5 hE
      refine zg_iincL (k := 3) (L' := fun v12 => [(4, .int v12), (0, va_rf l0), (1, .long v11), (3, .int l3)]) ok dX2_momentGap_97 (by decide +kernel) hE rfl (by decide) (fun _ => rfl) (fun v12 hE => ?_)
      refine zg_goto (tgt := 30) ok dX2_momentGap_100 (by decide) ?_
      refine zg_sub (L' := [(0, va_rf l0), (3, .int l3), (1, .long v11), (4, .int v12)]) [1, 3, 2, 0] rfl ?_
      exact hR _ _ _ hE
theorem gt_f_X2_momentGap_L30 {Xc : zw_X} {Q : Int64 → zw_H → Prop} {X : String → Nat → zw_H → Prop} (hl : (zw_l Xc).stackTraces = false) (ok : zw_ok Xc cX2_momentGap "MultipoleLineModel" yX2_momentGap.name 8) (tab : zw_tab Xc []) (fin : zw_fin Xc (Option.some Jvm.ClassFile.FieldType.long) (zq_J Q) X 0 0) (hRm : zw_rm Xc = rm_X2_momentGap) {kc ks : Nat} (hb : kc ≤ 0 ∧ ks ≤ 0) {l0 : Option Nat} {l3 : Int32} {k103 : Int64 → zw_H → Prop} (hk103 : ∀ (l1 : Int64) (h : zw_H), k103 l1 h → zw_G Xc kc ks 8 h 103 [(0, va_rf l0), (1, .long l1), (3, .int l3)] [])  : ∀ (n9 : Nat) (l1 : Int64) (l4 : Int32) (h : zw_H), zl3 (f_X2_momentGap_B30 (zw_Zf Xc).2.2.2 Q X k103 l0 l3) n9 l1 l4 h → zw_G Xc kc ks 8 h 30 [(0, va_rf l0), (3, .int l3), (1, .long l1), (4, .int l4)] [] := by
  intro n9
  induction n9 with
  | zero => intro l1 l4 h hE; exact hE.elim
  | succ n9 ih => intro l1 l4 h hE; exact gt_f_X2_momentGap_B30 hl ok tab fin hRm hb ih hk103 hE
set_option maxHeartbeats 8000000 in
theorem gt_f_X2_momentGap_B17 {Xc : zw_X} {Q : Int64 → zw_H → Prop} {X : String → Nat → zw_H → Prop} (hl : (zw_l Xc).stackTraces = false) (ok : zw_ok Xc cX2_momentGap "MultipoleLineModel" yX2_momentGap.name 8) (tab : zw_tab Xc []) (fin : zw_fin Xc (Option.some Jvm.ClassFile.FieldType.long) (zq_J Q) X 0 0) (hRm : zw_rm Xc = rm_X2_momentGap) {kc ks : Nat} (hb : kc ≤ 0 ∧ ks ≤ 0) {R : Int64 → Int32 → zw_H → Prop} {l0 : Option Nat} (hR : ∀ (l1 : Int64) (l3 : Int32) (h : zw_H), R l1 l3 h → zw_G Xc kc ks 8 h 17 [(0, va_rf l0), (1, .long l1), (3, .int l3)] []) {k109 : Int64 → zw_H → Prop} (hk109 : ∀ (l1 : Int64) (h : zw_H), k109 l1 h → zw_G Xc kc ks 8 h 109 [(1, .long l1)] [])  {l1 : Int64} {l3 : Int32} {h : zw_H} (hE : f_X2_momentGap_B17 (zw_Zf Xc).2.2.2 Q X k109 l0 R l1 l3 h) : zw_G Xc kc ks 8 h 17 [(0, va_rf l0), (1, .long l1), (3, .int l3)] [] := by
  unfold f_X2_momentGap_B17 at hE
  refine zg_iload_n ok dX2_momentGap_17 rfl 2 rfl ?_
  refine zg_aload_n ok dX2_momentGap_18 rfl 0 rfl ?_
  refine zg_getA ok lf_X2_9 dX2_momentGap_19 hE (fun v2 hE => ?_)
  refine zg_iconst (v := 3) ok dX2_momentGap_22 (by decide) ?_
  refine zg_iald ok dX2_momentGap_23 hE (fun v3 hE => ?_)
  refine zg_icmp_gt (tgt := 109) ok dX2_momentGap_24 (by decide) hE (fun hE => ?_) (fun hE => ?_)
  · refine zg_sub (L' := [(1, .long l1)]) [1] rfl ?_
    exact hk109 _ _ hE
  · refine zg_iconst (v := 0) ok dX2_momentGap_27 (by decide) ?_
    refine zg_istore (L' := [(4, .int 0), (0, va_rf l0), (1, .long l1), (3, .int l3)]) ok dX2_momentGap_28 (by decide) rfl ?_
    refine zg_sub (L' := [(0, va_rf l0), (3, .int l3), (1, .long l1), (4, .int 0)]) [1, 3, 2, 0] rfl ?_
    refine gt_f_X2_momentGap_L30 hl ok tab fin hRm ⟨(by omega), (by omega)⟩ ?_ _ _ _ _ hE
    · intro v13 h6 hE
      refine zg_iincL (k := 2) (L' := fun v14 => [(3, .int v14), (0, va_rf l0), (1, .long v13)]) ok dX2_momentGap_103 (by decide +kernel) hE rfl (by decide) (fun _ => rfl) (fun v14 hE => ?_)
      refine zg_goto (tgt := 17) ok dX2_momentGap_106 (by decide) ?_
      refine zg_sub (L' := [(0, va_rf l0), (1, .long v13), (3, .int v14)]) [1, 2, 0] rfl ?_
      exact hR _ _ _ hE
theorem gt_f_X2_momentGap_L17 {Xc : zw_X} {Q : Int64 → zw_H → Prop} {X : String → Nat → zw_H → Prop} (hl : (zw_l Xc).stackTraces = false) (ok : zw_ok Xc cX2_momentGap "MultipoleLineModel" yX2_momentGap.name 8) (tab : zw_tab Xc []) (fin : zw_fin Xc (Option.some Jvm.ClassFile.FieldType.long) (zq_J Q) X 0 0) (hRm : zw_rm Xc = rm_X2_momentGap) {kc ks : Nat} (hb : kc ≤ 0 ∧ ks ≤ 0) {l0 : Option Nat} {k109 : Int64 → zw_H → Prop} (hk109 : ∀ (l1 : Int64) (h : zw_H), k109 l1 h → zw_G Xc kc ks 8 h 109 [(1, .long l1)] [])  : ∀ (n9 : Nat) (l1 : Int64) (l3 : Int32) (h : zw_H), zl3 (f_X2_momentGap_B17 (zw_Zf Xc).2.2.2 Q X k109 l0) n9 l1 l3 h → zw_G Xc kc ks 8 h 17 [(0, va_rf l0), (1, .long l1), (3, .int l3)] [] := by
  intro n9
  induction n9 with
  | zero => intro l1 l3 h hE; exact hE.elim
  | succ n9 ih => intro l1 l3 h hE; exact gt_f_X2_momentGap_B17 hl ok tab fin hRm hb ih hk109 hE
set_option maxHeartbeats 8000000 in
theorem mt_X2_momentGap {l : Launch} (hl : l.stackTraces = false) {Z : zw_Z} {a0 : Option Nat} {h : zw_H} {Q : Int64 → zw_H → Prop} {X : String → Nat → zw_H → Prop} (hE : f_X2_momentGap Z.2.2.2 a0 h Q X) : zw_Met l Z yX2_momentGap (ws_ yX2_momentGap cX2_momentGap 8 (Option.some Jvm.ClassFile.FieldType.long)) rm_X2_momentGap [zA a0] h (zq_J Q) X := by
  refine zg_start (own := "MultipoleLineModel") (by decide +kernel) rfl (Nat.le_of_ble_eq_true rfl) hl (fun Xc ok tab fin hRm hXl hXZ => ?_)
  subst hXl
  subst hXZ
  unfold f_X2_momentGap at hE
  refine zg_aload_n ok dX2_momentGap_0 rfl 0 rfl ?_
  refine zg_callV (vs := []) (rest := []) (rm := rm_X2_mayAsk) ok hRm lk_X2_229 dX2_momentGap_1 hE (fun hE => mt_X2_mayAsk hl hE) rfl (Nat.le_of_ble_eq_true rfl) ⟨⟨Nat.le_of_ble_eq_true rfl, Nat.le_of_ble_eq_true rfl⟩, Nat.le_of_ble_eq_true rfl, Nat.le_of_ble_eq_true rfl⟩ (zg_retI (fun v1 h1 hE => ?_)) (zg_xok ok tab fin ⟨Nat.le_of_ble_eq_true rfl, Nat.le_of_ble_eq_true rfl⟩)
  refine zg_cost (kc2 := 0) (ks2 := 0) ⟨rfl, rfl⟩ ?_
  refine zg_if_ne (tgt := 9) ok dX2_momentGap_4 (by decide) hE (fun hE => ?_) (fun hE => ?_)
  · refine zg_aload_n ok dX2_momentGap_9 rfl 0 rfl ?_
    refine zg_callV (vs := []) (rest := []) (rm := rm_X2_laysMoments) ok hRm lk_X2_260 dX2_momentGap_10 hE (fun hE => mt_X2_laysMoments hl hE) rfl (Nat.le_of_ble_eq_true rfl) ⟨⟨Nat.le_of_ble_eq_true rfl, Nat.le_of_ble_eq_true rfl⟩, Nat.le_of_ble_eq_true rfl, Nat.le_of_ble_eq_true rfl⟩ (zg_retV (fun h2 hE => ?_)) (zg_xok ok tab fin ⟨Nat.le_of_ble_eq_true rfl, Nat.le_of_ble_eq_true rfl⟩)
    refine zg_cost (kc2 := 0) (ks2 := 0) ⟨rfl, rfl⟩ ?_
    refine zg_lconst (v := 0) ok dX2_momentGap_13 (by decide) ?_
    refine zg_lstore_nR (L' := [(1, .long 0), (0, va_rf a0)]) ok dX2_momentGap_14 rfl (by decide) 0 rfl rfl rfl ?_
    refine zg_iconst (v := 0) ok dX2_momentGap_15 (by decide) ?_
    refine zg_istore_n (L' := [(3, .int 0), (1, .long 0), (0, va_rf a0)]) ok dX2_momentGap_16 rfl (by decide) rfl ?_
    refine zg_sub (L' := [(0, va_rf a0), (1, .long 0), (3, .int 0)]) [2, 1, 0] rfl ?_
    refine gt_f_X2_momentGap_L17 hl ok tab fin hRm ⟨Nat.le_of_ble_eq_true rfl, Nat.le_of_ble_eq_true rfl⟩ ?_ _ _ _ _ hE
    · intro v15 h7 hE
      refine zg_lload_n ok dX2_momentGap_109 rfl 0 rfl ?_
      exact zg_lret ok fin dX2_momentGap_110 ⟨Nat.le_of_ble_eq_true rfl, Nat.le_of_ble_eq_true rfl⟩ hE
  · refine zg_lconst (v := 0) ok dX2_momentGap_7 (by decide) ?_
    exact zg_lret ok fin dX2_momentGap_8 ⟨Nat.le_of_ble_eq_true rfl, Nat.le_of_ble_eq_true rfl⟩ hE
set_option maxHeartbeats 8000000 in
theorem mt_X2_isNear {l : Launch} (hl : l.stackTraces = false) {Z : zw_Z} {a0 : Option Nat} {a1 : Int32} {a2 : Int32} {h : zw_H} {Q : Int32 → zw_H → Prop} {X : String → Nat → zw_H → Prop} (hE : f_X2_isNear Z.2.2.2 a0 a1 a2 h Q X) : zw_Met l Z yX2_isNear (ws_ yX2_isNear cX2_isNear 3 (Option.some Jvm.ClassFile.FieldType.boolean)) rm_X2_isNear [zA a0, zI a1, zI a2] h (zq_I Q) X := by
  refine zg_start (own := "MultipoleLineModel") (by decide +kernel) rfl (Nat.le_of_ble_eq_true rfl) hl (fun Xc ok tab fin hRm hXl hXZ => ?_)
  subst hXl
  subst hXZ
  unfold f_X2_isNear at hE
  refine zg_aload_n ok dX2_isNear_0 rfl 0 rfl ?_
  refine zg_getA ok lf_X2_9 dX2_isNear_1 hE (fun v1 hE => ?_)
  refine zg_iconst (v := 3) ok dX2_isNear_4 (by decide) ?_
  refine zg_iald ok dX2_isNear_5 hE (fun v2 hE => ?_)
  refine zg_aload_n ok dX2_isNear_6 rfl 0 rfl ?_
  refine zg_iload_n ok dX2_isNear_7 rfl 1 rfl ?_
  refine zg_iconst (v := 0) ok dX2_isNear_8 (by decide) ?_
  refine zg_callV (vs := [zI a1, zI 0]) (rest := [.int v2]) (rm := rm_X2_of) ok hRm lk_X2_163 dX2_isNear_9 hE (fun hE => mt_X2_of hl hE) rfl (Nat.le_of_ble_eq_true rfl) ⟨⟨Nat.le_of_ble_eq_true rfl, Nat.le_of_ble_eq_true rfl⟩, Nat.le_of_ble_eq_true rfl, Nat.le_of_ble_eq_true rfl⟩ (zg_retI (fun v3 h1 hE => ?_)) (zg_xok ok tab fin ⟨Nat.le_of_ble_eq_true rfl, Nat.le_of_ble_eq_true rfl⟩)
  refine zg_cost (kc2 := 0) (ks2 := 0) ⟨rfl, rfl⟩ ?_
  refine zg_callS (vs := [zI v2, zI v3]) (rest := []) (rm := rm_X2_boxOf) ok hRm lk_X2_178 dX2_isNear_12 hE (fun hE => mt_X2_boxOf hl hE) rfl (Nat.le_of_ble_eq_true rfl) ⟨⟨Nat.le_of_ble_eq_true rfl, Nat.le_of_ble_eq_true rfl⟩, Nat.le_of_ble_eq_true rfl, Nat.le_of_ble_eq_true rfl⟩ (zg_retI (fun v4 h2 hE => ?_)) (zg_xok ok tab fin ⟨Nat.le_of_ble_eq_true rfl, Nat.le_of_ble_eq_true rfl⟩)
  refine zg_cost (kc2 := 0) (ks2 := 0) ⟨rfl, rfl⟩ ?_
  refine zg_aload_n ok dX2_isNear_15 rfl 0 rfl ?_
  refine zg_getA ok lf_X2_9 dX2_isNear_16 hE (fun v5 hE => ?_)
  refine zg_iconst (v := 3) ok dX2_isNear_19 (by decide) ?_
  refine zg_iald ok dX2_isNear_20 hE (fun v6 hE => ?_)
  refine zg_iload_n ok dX2_isNear_21 rfl 2 rfl ?_
  refine zg_callS (vs := [zI v6, zI a2]) (rest := [.int v4]) (rm := rm_X2_boxOf) ok hRm lk_X2_178 dX2_isNear_22 hE (fun hE => mt_X2_boxOf hl hE) rfl (Nat.le_of_ble_eq_true rfl) ⟨⟨Nat.le_of_ble_eq_true rfl, Nat.le_of_ble_eq_true rfl⟩, Nat.le_of_ble_eq_true rfl, Nat.le_of_ble_eq_true rfl⟩ (zg_retI (fun v7 h3 hE => ?_)) (zg_xok ok tab fin ⟨Nat.le_of_ble_eq_true rfl, Nat.le_of_ble_eq_true rfl⟩)
  refine zg_cost (kc2 := 0) (ks2 := 0) ⟨rfl, rfl⟩ ?_
  refine zg_callS (vs := [zI v4, zI v7]) (rest := []) (rm := rm_X2_far) ok hRm lk_X2_187 dX2_isNear_25 hE (fun hE => mt_X2_far hl hE) rfl (Nat.le_of_ble_eq_true rfl) ⟨⟨Nat.le_of_ble_eq_true rfl, Nat.le_of_ble_eq_true rfl⟩, Nat.le_of_ble_eq_true rfl, Nat.le_of_ble_eq_true rfl⟩ (zg_retI (fun v8 h4 hE => ?_)) (zg_xok ok tab fin ⟨Nat.le_of_ble_eq_true rfl, Nat.le_of_ble_eq_true rfl⟩)
  refine zg_cost (kc2 := 0) (ks2 := 0) ⟨rfl, rfl⟩ ?_
  refine zg_iconst (v := 1) ok dX2_isNear_28 (by decide) ?_
  refine zg_icmp_gt (tgt := 36) ok dX2_isNear_29 (by decide) hE (fun hE => ?_) (fun hE => ?_)
  · refine zg_iconst (v := 0) ok dX2_isNear_36 (by decide) ?_
    exact zg_zret ok fin dX2_isNear_37 ⟨Nat.le_of_ble_eq_true rfl, Nat.le_of_ble_eq_true rfl⟩ rfl hE
  · refine zg_iconst (v := 1) ok dX2_isNear_32 (by decide) ?_
    refine zg_goto (tgt := 37) ok dX2_isNear_33 (by decide) ?_
    exact zg_zret ok fin dX2_isNear_37 ⟨Nat.le_of_ble_eq_true rfl, Nat.le_of_ble_eq_true rfl⟩ rfl hE
set_option maxHeartbeats 8000000 in
theorem gt_f_X2_nearAll_B4 {Xc : zw_X} {Q : Int32 → zw_H → Prop} {X : String → Nat → zw_H → Prop} (hl : (zw_l Xc).stackTraces = false) (ok : zw_ok Xc cX2_nearAll "MultipoleLineModel" yX2_nearAll.name 4) (tab : zw_tab Xc []) (fin : zw_fin Xc (Option.some Jvm.ClassFile.FieldType.int) (zq_I Q) X 0 0) (hRm : zw_rm Xc = rm_X2_nearAll) {kc ks : Nat} (hb : kc ≤ 0 ∧ ks ≤ 0) {R : Int32 → Int32 → zw_H → Prop} {l0 : Option Nat} {l1 : Int32} (hR : ∀ (l2 : Int32) (l3 : Int32) (h : zw_H), R l2 l3 h → zw_G Xc kc ks 4 h 4 [(0, va_rf l0), (1, .int l1), (2, .int l2), (3, .int l3)] []) {k32 : Int32 → zw_H → Prop} (hk32 : ∀ (l2 : Int32) (h : zw_H), k32 l2 h → zw_G Xc kc ks 4 h 32 [(2, .int l2)] [])  {l2 : Int32} {l3 : Int32} {h : zw_H} (hE : f_X2_nearAll_B4 (zw_Zf Xc).2.2.2 Q X k32 l0 l1 R l2 l3 h) : zw_G Xc kc ks 4 h 4 [(0, va_rf l0), (1, .int l1), (2, .int l2), (3, .int l3)] [] := by
  unfold f_X2_nearAll_B4 at hE
  refine zg_iload_n ok dX2_nearAll_4 rfl 3 rfl ?_
  refine zg_aload_n ok dX2_nearAll_5 rfl 0 rfl ?_
  refine zg_getA ok lf_X2_9 dX2_nearAll_6 hE (fun v1 hE => ?_)
  refine zg_iconst (v := 0) ok dX2_nearAll_9 (by decide) ?_
  refine zg_iald ok dX2_nearAll_10 hE (fun v2 hE => ?_)
  refine zg_icmp_ge (tgt := 32) ok dX2_nearAll_11 (by decide) hE (fun hE => ?_) (fun hE => ?_)
  · refine zg_sub (L' := [(2, .int l2)]) [2] rfl ?_
    exact hk32 _ _ hE
  · refine zg_iload_n ok dX2_nearAll_14 rfl 2 rfl ?_
    refine zg_aload_n ok dX2_nearAll_15 rfl 0 rfl ?_
    refine zg_iload_n ok dX2_nearAll_16 rfl 3 rfl ?_
    refine zg_iload_n ok dX2_nearAll_17 rfl 1 rfl ?_
    refine zg_callV (vs := [zI l3, zI l1]) (rest := [.int l2]) (rm := rm_X2_isNear) ok hRm lk_X2_263 dX2_nearAll_18 hE (fun hE => mt_X2_isNear hl hE) rfl (Nat.le_of_ble_eq_true rfl) ⟨⟨Nat.le_of_ble_eq_true rfl, Nat.le_of_ble_eq_true rfl⟩, (by show kc + 0 ≤ 0; omega), (by show ks + 0 ≤ 0; omega)⟩ (zg_retI (fun v3 h1 hE => ?_)) (zg_xok ok tab fin ⟨(by show kc + 0 ≤ 0; omega), (by show ks + 0 ≤ 0; omega)⟩)
    refine zg_cost (kc2 := kc) (ks2 := ks) ⟨(by show kc + 0 = kc; omega), (by show ks + 0 = ks; omega)⟩ ?_
    refine zg_callS (vs := [zI v3]) (rest := [.int l2]) (rm := rm_X2_one) ok hRm lk_X2_170 dX2_nearAll_21 hE (fun hE => mt_X2_one hl hE) rfl (Nat.le_of_ble_eq_true rfl) ⟨⟨Nat.le_of_ble_eq_true rfl, Nat.le_of_ble_eq_true rfl⟩, (by show kc + 0 ≤ 0; omega), (by show ks + 0 ≤ 0; omega)⟩ (zg_retI (fun v4 h2 hE => ?_)) (zg_xok ok tab fin ⟨(by show kc + 0 ≤ 0; omega), (by show ks + 0 ≤ 0; omega)⟩)
    refine zg_cost (kc2 := kc) (ks2 := ks) ⟨(by show kc + 0 = kc; omega), (by show ks + 0 = ks; omega)⟩ ?_
    refine zg_iadd ok dX2_nearAll_24 ?_
    refine zg_letI hE (fun v5 hE => ?_)
    refine zg_istore_n (L' := [(2, .int v5), (0, va_rf l0), (1, .int l1), (3, .int l3)]) ok dX2_nearAll_25 rfl (by decide) rfl ?_
    refine zg_iincL (k := 3) (L' := fun v6 => [(3, .int v6), (2, .int v5), (0, va_rf l0), (1, .int l1)]) ok dX2_nearAll_26 (by decide +kernel) hE rfl (by decide) (fun _ => rfl) (fun v6 hE => ?_)
    refine zg_goto (tgt := 4) ok dX2_nearAll_29 (by decide) ?_
    refine zg_sub (L' := [(0, va_rf l0), (1, .int l1), (2, .int v5), (3, .int v6)]) [2, 3, 1, 0] rfl ?_
    exact hR _ _ _ hE
theorem gt_f_X2_nearAll_L4 {Xc : zw_X} {Q : Int32 → zw_H → Prop} {X : String → Nat → zw_H → Prop} (hl : (zw_l Xc).stackTraces = false) (ok : zw_ok Xc cX2_nearAll "MultipoleLineModel" yX2_nearAll.name 4) (tab : zw_tab Xc []) (fin : zw_fin Xc (Option.some Jvm.ClassFile.FieldType.int) (zq_I Q) X 0 0) (hRm : zw_rm Xc = rm_X2_nearAll) {kc ks : Nat} (hb : kc ≤ 0 ∧ ks ≤ 0) {l0 : Option Nat} {l1 : Int32} {k32 : Int32 → zw_H → Prop} (hk32 : ∀ (l2 : Int32) (h : zw_H), k32 l2 h → zw_G Xc kc ks 4 h 32 [(2, .int l2)] [])  : ∀ (n9 : Nat) (l2 : Int32) (l3 : Int32) (h : zw_H), zl3 (f_X2_nearAll_B4 (zw_Zf Xc).2.2.2 Q X k32 l0 l1) n9 l2 l3 h → zw_G Xc kc ks 4 h 4 [(0, va_rf l0), (1, .int l1), (2, .int l2), (3, .int l3)] [] := by
  intro n9
  induction n9 with
  | zero => intro l2 l3 h hE; exact hE.elim
  | succ n9 ih => intro l2 l3 h hE; exact gt_f_X2_nearAll_B4 hl ok tab fin hRm hb ih hk32 hE
set_option maxHeartbeats 8000000 in
theorem mt_X2_nearAll {l : Launch} (hl : l.stackTraces = false) {Z : zw_Z} {a0 : Option Nat} {a1 : Int32} {h : zw_H} {Q : Int32 → zw_H → Prop} {X : String → Nat → zw_H → Prop} (hE : f_X2_nearAll Z.2.2.2 a0 a1 h Q X) : zw_Met l Z yX2_nearAll (ws_ yX2_nearAll cX2_nearAll 4 (Option.some Jvm.ClassFile.FieldType.int)) rm_X2_nearAll [zA a0, zI a1] h (zq_I Q) X := by
  refine zg_start (own := "MultipoleLineModel") (by decide +kernel) rfl (Nat.le_of_ble_eq_true rfl) hl (fun Xc ok tab fin hRm hXl hXZ => ?_)
  subst hXl
  subst hXZ
  unfold f_X2_nearAll at hE
  refine zg_iconst (v := 0) ok dX2_nearAll_0 (by decide) ?_
  refine zg_istore_n (L' := [(2, .int 0), (0, va_rf a0), (1, .int a1)]) ok dX2_nearAll_1 rfl (by decide) rfl ?_
  refine zg_iconst (v := 0) ok dX2_nearAll_2 (by decide) ?_
  refine zg_istore_n (L' := [(3, .int 0), (2, .int 0), (0, va_rf a0), (1, .int a1)]) ok dX2_nearAll_3 rfl (by decide) rfl ?_
  refine zg_sub (L' := [(0, va_rf a0), (1, .int a1), (2, .int 0), (3, .int 0)]) [2, 3, 1, 0] rfl ?_
  refine gt_f_X2_nearAll_L4 hl ok tab fin hRm ⟨Nat.le_of_ble_eq_true rfl, Nat.le_of_ble_eq_true rfl⟩ ?_ _ _ _ _ hE
  · intro v7 h3 hE
    refine zg_iload_n ok dX2_nearAll_32 rfl 0 rfl ?_
    exact zg_iret ok fin dX2_nearAll_33 ⟨Nat.le_of_ble_eq_true rfl, Nat.le_of_ble_eq_true rfl⟩ hE
set_option maxHeartbeats 8000000 in
theorem mt_X2_nearMany {l : Launch} (hl : l.stackTraces = false) {Z : zw_Z} {a0 : Option Nat} {a1 : Int32} {h : zw_H} {Q : Int32 → zw_H → Prop} {X : String → Nat → zw_H → Prop} (hE : f_X2_nearMany Z.2.2.2 a0 a1 h Q X) : zw_Met l Z yX2_nearMany (ws_ yX2_nearMany cX2_nearMany 2 (Option.some Jvm.ClassFile.FieldType.int)) rm_X2_nearMany [zA a0, zI a1] h (zq_I Q) X := by
  refine zg_start (own := "MultipoleLineModel") (by decide +kernel) rfl (Nat.le_of_ble_eq_true rfl) hl (fun Xc ok tab fin hRm hXl hXZ => ?_)
  subst hXl
  subst hXZ
  unfold f_X2_nearMany at hE
  refine zg_aload_n ok dX2_nearMany_0 rfl 0 rfl ?_
  refine zg_iload_n ok dX2_nearMany_1 rfl 1 rfl ?_
  refine zg_callV (vs := [zI a1]) (rest := []) (rm := rm_X2_mayPoint) ok hRm lk_X2_216 dX2_nearMany_2 hE (fun hE => mt_X2_mayPoint hl hE) rfl (Nat.le_of_ble_eq_true rfl) ⟨⟨Nat.le_of_ble_eq_true rfl, Nat.le_of_ble_eq_true rfl⟩, Nat.le_of_ble_eq_true rfl, Nat.le_of_ble_eq_true rfl⟩ (zg_retI (fun v1 h1 hE => ?_)) (zg_xok ok tab fin ⟨Nat.le_of_ble_eq_true rfl, Nat.le_of_ble_eq_true rfl⟩)
  refine zg_cost (kc2 := 0) (ks2 := 0) ⟨rfl, rfl⟩ ?_
  refine zg_if_eq (tgt := 16) ok dX2_nearMany_5 (by decide) hE (fun hE => ?_) (fun hE => ?_)
  · refine zg_iconst (v := 0) ok dX2_nearMany_16 (by decide) ?_
    exact zg_iret ok fin dX2_nearMany_17 ⟨Nat.le_of_ble_eq_true rfl, Nat.le_of_ble_eq_true rfl⟩ hE
  · refine zg_aload_n ok dX2_nearMany_8 rfl 0 rfl ?_
    refine zg_iload_n ok dX2_nearMany_9 rfl 1 rfl ?_
    refine zg_callV (vs := [zI a1]) (rest := []) (rm := rm_X2_nearAll) ok hRm lk_X2_266 dX2_nearMany_10 hE (fun hE => mt_X2_nearAll hl hE) rfl (Nat.le_of_ble_eq_true rfl) ⟨⟨Nat.le_of_ble_eq_true rfl, Nat.le_of_ble_eq_true rfl⟩, Nat.le_of_ble_eq_true rfl, Nat.le_of_ble_eq_true rfl⟩ (zg_retI (fun v2 h2 hE => ?_)) (zg_xok ok tab fin ⟨Nat.le_of_ble_eq_true rfl, Nat.le_of_ble_eq_true rfl⟩)
    refine zg_cost (kc2 := 0) (ks2 := 0) ⟨rfl, rfl⟩ ?_
    refine zg_goto (tgt := 17) ok dX2_nearMany_13 (by decide) ?_
    exact zg_iret ok fin dX2_nearMany_17 ⟨Nat.le_of_ble_eq_true rfl, Nat.le_of_ble_eq_true rfl⟩ hE
set_option maxHeartbeats 8000000 in
theorem gt_f_X2_nearBody_J50 {Xc : zw_X} {Q : Int32 → zw_H → Prop} {X : String → Nat → zw_H → Prop} (hl : (zw_l Xc).stackTraces = false) (ok : zw_ok Xc cX2_nearBody "MultipoleLineModel" yX2_nearBody.name 5) (tab : zw_tab Xc []) (fin : zw_fin Xc (Option.some Jvm.ClassFile.FieldType.int) (zq_I Q) X 0 0) (hRm : zw_rm Xc = rm_X2_nearBody) {kc ks : Nat} (hb : kc ≤ 0 ∧ ks ≤ 0) {R : Int32 → Int32 → zw_H → Prop} {l0 : Option Nat} {l1 : Int32} {l2 : Int32} (hR : ∀ (l3 : Int32) (l4 : Int32) (h : zw_H), R l3 l4 h → zw_G Xc kc ks 5 h 15 [(0, va_rf l0), (1, .int l1), (2, .int l2), (3, .int l3), (4, .int l4)] []) {k44 : Int32 → zw_H → Prop} (hk44 : ∀ (l4 : Int32) (h : zw_H), k44 l4 h → zw_G Xc kc ks 5 h 44 [(4, .int l4)] []) {k56 : zw_H → Prop} (hk56 : ∀  (h : zw_H), k56  h → zw_G Xc kc ks 5 h 56 [] [])  {l3 : Int32} {l4 : Int32}  {h : zw_H} (hE : f_X2_nearBody_J50 (zw_Zf Xc).2.2.2 Q X R k44 k56 l0 l1 l2 l3 l4 h) : zw_G Xc kc ks 5 h 50 [(0, va_rf l0), (1, .int l1), (2, .int l2), (3, .int l3), (4, .int l4)] [] := by
  unfold f_X2_nearBody_J50 at hE
  refine zg_iincL (k := 4) (L' := fun v6 => [(4, .int v6), (0, va_rf l0), (1, .int l1), (2, .int l2), (3, .int l3)]) ok dX2_nearBody_50 (by decide +kernel) hE rfl (by decide) (fun _ => rfl) (fun v6 hE => ?_)
  refine zg_goto (tgt := 15) ok dX2_nearBody_53 (by decide) ?_
  refine zg_sub (L' := [(0, va_rf l0), (1, .int l1), (2, .int l2), (3, .int l3), (4, .int v6)]) [1, 2, 3, 4, 0] rfl ?_
  exact hR _ _ _ hE
set_option maxHeartbeats 8000000 in
theorem gt_f_X2_nearBody_B15 {Xc : zw_X} {Q : Int32 → zw_H → Prop} {X : String → Nat → zw_H → Prop} (hl : (zw_l Xc).stackTraces = false) (ok : zw_ok Xc cX2_nearBody "MultipoleLineModel" yX2_nearBody.name 5) (tab : zw_tab Xc []) (fin : zw_fin Xc (Option.some Jvm.ClassFile.FieldType.int) (zq_I Q) X 0 0) (hRm : zw_rm Xc = rm_X2_nearBody) {kc ks : Nat} (hb : kc ≤ 0 ∧ ks ≤ 0) {R : Int32 → Int32 → zw_H → Prop} {l0 : Option Nat} {l1 : Int32} {l2 : Int32} (hR : ∀ (l3 : Int32) (l4 : Int32) (h : zw_H), R l3 l4 h → zw_G Xc kc ks 5 h 15 [(0, va_rf l0), (1, .int l1), (2, .int l2), (3, .int l3), (4, .int l4)] []) {k44 : Int32 → zw_H → Prop} (hk44 : ∀ (l4 : Int32) (h : zw_H), k44 l4 h → zw_G Xc kc ks 5 h 44 [(4, .int l4)] []) {k56 : zw_H → Prop} (hk56 : ∀  (h : zw_H), k56  h → zw_G Xc kc ks 5 h 56 [] [])  {l3 : Int32} {l4 : Int32} {h : zw_H} (hE : f_X2_nearBody_B15 (zw_Zf Xc).2.2.2 Q X k44 k56 l0 l1 l2 R l3 l4 h) : zw_G Xc kc ks 5 h 15 [(0, va_rf l0), (1, .int l1), (2, .int l2), (3, .int l3), (4, .int l4)] [] := by
  unfold f_X2_nearBody_B15 at hE
  refine zg_iload ok dX2_nearBody_15 4 rfl ?_
  refine zg_aload_n ok dX2_nearBody_17 rfl 0 rfl ?_
  refine zg_getA ok lf_X2_9 dX2_nearBody_18 hE (fun v2 hE => ?_)
  refine zg_iconst (v := 0) ok dX2_nearBody_21 (by decide) ?_
  refine zg_iald ok dX2_nearBody_22 hE (fun v3 hE => ?_)
  refine zg_icmp_ge (tgt := 56) ok dX2_nearBody_23 (by decide) hE (fun hE => ?_) (fun hE => ?_)
  · refine zg_sub (L' := []) [] rfl ?_
    exact hk56 _ hE
  · refine zg_aload_n ok dX2_nearBody_26 rfl 0 rfl ?_
    refine zg_iload ok dX2_nearBody_27 4 rfl ?_
    refine zg_iload_n ok dX2_nearBody_29 rfl 1 rfl ?_
    refine zg_callV (vs := [zI l4, zI l1]) (rest := []) (rm := rm_X2_isNear) ok hRm lk_X2_263 dX2_nearBody_30 hE (fun hE => mt_X2_isNear hl hE) rfl (Nat.le_of_ble_eq_true rfl) ⟨⟨Nat.le_of_ble_eq_true rfl, Nat.le_of_ble_eq_true rfl⟩, (by show kc + 0 ≤ 0; omega), (by show ks + 0 ≤ 0; omega)⟩ (zg_retI (fun v4 h2 hE => ?_)) (zg_xok ok tab fin ⟨(by show kc + 0 ≤ 0; omega), (by show ks + 0 ≤ 0; omega)⟩)
    refine zg_cost (kc2 := kc) (ks2 := ks) ⟨(by show kc + 0 = kc; omega), (by show ks + 0 = ks; omega)⟩ ?_
    refine zg_if_ne (tgt := 39) ok dX2_nearBody_33 (by decide) hE (fun hE => ?_) (fun hE => ?_)
    · refine zg_iload_n ok dX2_nearBody_39 rfl 3 rfl ?_
      refine zg_iload_n ok dX2_nearBody_40 rfl 2 rfl ?_
      refine zg_icmp_ne (tgt := 47) ok dX2_nearBody_41 (by decide) hE (fun hE => ?_) (fun hE => ?_)
      · refine zg_iincL (k := 3) (L' := fun v5 => [(3, .int v5), (0, va_rf l0), (1, .int l1), (2, .int l2), (4, .int l4)]) ok dX2_nearBody_47 (by decide +kernel) hE rfl (by decide) (fun _ => rfl) (fun v5 hE => ?_)
        refine zg_sub (L' := [(0, va_rf l0), (1, .int l1), (2, .int l2), (3, .int v5), (4, .int l4)]) [1, 2, 3, 0, 4] rfl ?_
        exact gt_f_X2_nearBody_J50 hl ok tab fin hRm hb hR hk44 hk56 hE
      · refine zg_sub (L' := [(4, .int l4)]) [4] rfl ?_
        exact hk44 _ _ hE
    · refine zg_goto (tgt := 50) ok dX2_nearBody_36 (by decide) ?_
      exact gt_f_X2_nearBody_J50 hl ok tab fin hRm hb hR hk44 hk56 hE
theorem gt_f_X2_nearBody_L15 {Xc : zw_X} {Q : Int32 → zw_H → Prop} {X : String → Nat → zw_H → Prop} (hl : (zw_l Xc).stackTraces = false) (ok : zw_ok Xc cX2_nearBody "MultipoleLineModel" yX2_nearBody.name 5) (tab : zw_tab Xc []) (fin : zw_fin Xc (Option.some Jvm.ClassFile.FieldType.int) (zq_I Q) X 0 0) (hRm : zw_rm Xc = rm_X2_nearBody) {kc ks : Nat} (hb : kc ≤ 0 ∧ ks ≤ 0) {l0 : Option Nat} {l1 : Int32} {l2 : Int32} {k44 : Int32 → zw_H → Prop} (hk44 : ∀ (l4 : Int32) (h : zw_H), k44 l4 h → zw_G Xc kc ks 5 h 44 [(4, .int l4)] []) {k56 : zw_H → Prop} (hk56 : ∀  (h : zw_H), k56  h → zw_G Xc kc ks 5 h 56 [] [])  : ∀ (n9 : Nat) (l3 : Int32) (l4 : Int32) (h : zw_H), zl3 (f_X2_nearBody_B15 (zw_Zf Xc).2.2.2 Q X k44 k56 l0 l1 l2) n9 l3 l4 h → zw_G Xc kc ks 5 h 15 [(0, va_rf l0), (1, .int l1), (2, .int l2), (3, .int l3), (4, .int l4)] [] := by
  intro n9
  induction n9 with
  | zero => intro l3 l4 h hE; exact hE.elim
  | succ n9 ih => intro l3 l4 h hE; exact gt_f_X2_nearBody_B15 hl ok tab fin hRm hb ih hk44 hk56 hE
set_option maxHeartbeats 8000000 in
theorem mt_X2_nearBody {l : Launch} (hl : l.stackTraces = false) {Z : zw_Z} {a0 : Option Nat} {a1 : Int32} {a2 : Int32} {h : zw_H} {Q : Int32 → zw_H → Prop} {X : String → Nat → zw_H → Prop} (hE : f_X2_nearBody Z.2.2.2 a0 a1 a2 h Q X) : zw_Met l Z yX2_nearBody (ws_ yX2_nearBody cX2_nearBody 5 (Option.some Jvm.ClassFile.FieldType.int)) rm_X2_nearBody [zA a0, zI a1, zI a2] h (zq_I Q) X := by
  refine zg_start (own := "MultipoleLineModel") (by decide +kernel) rfl (Nat.le_of_ble_eq_true rfl) hl (fun Xc ok tab fin hRm hXl hXZ => ?_)
  subst hXl
  subst hXZ
  unfold f_X2_nearBody at hE
  refine zg_aload_n ok dX2_nearBody_0 rfl 0 rfl ?_
  refine zg_iload_n ok dX2_nearBody_1 rfl 1 rfl ?_
  refine zg_callV (vs := [zI a1]) (rest := []) (rm := rm_X2_mayPoint) ok hRm lk_X2_216 dX2_nearBody_2 hE (fun hE => mt_X2_mayPoint hl hE) rfl (Nat.le_of_ble_eq_true rfl) ⟨⟨Nat.le_of_ble_eq_true rfl, Nat.le_of_ble_eq_true rfl⟩, Nat.le_of_ble_eq_true rfl, Nat.le_of_ble_eq_true rfl⟩ (zg_retI (fun v1 h1 hE => ?_)) (zg_xok ok tab fin ⟨Nat.le_of_ble_eq_true rfl, Nat.le_of_ble_eq_true rfl⟩)
  refine zg_cost (kc2 := 0) (ks2 := 0) ⟨rfl, rfl⟩ ?_
  refine zg_if_ne (tgt := 10) ok dX2_nearBody_5 (by decide) hE (fun hE => ?_) (fun hE => ?_)
  · refine zg_iconst (v := 0) ok dX2_nearBody_10 (by decide) ?_
    refine zg_istore_n (L' := [(3, .int 0), (0, va_rf a0), (1, .int a1), (2, .int a2)]) ok dX2_nearBody_11 rfl (by decide) rfl ?_
    refine zg_iconst (v := 0) ok dX2_nearBody_12 (by decide) ?_
    refine zg_istore (L' := [(4, .int 0), (3, .int 0), (0, va_rf a0), (1, .int a1), (2, .int a2)]) ok dX2_nearBody_13 (by decide) rfl ?_
    refine zg_sub (L' := [(0, va_rf a0), (1, .int a1), (2, .int a2), (3, .int 0), (4, .int 0)]) [2, 3, 4, 1, 0] rfl ?_
    refine gt_f_X2_nearBody_L15 hl ok tab fin hRm ⟨Nat.le_of_ble_eq_true rfl, Nat.le_of_ble_eq_true rfl⟩ ?_ ?_ _ _ _ _ hE
    · intro v7 h3 hE
      refine zg_iload ok dX2_nearBody_44 0 rfl ?_
      exact zg_iret ok fin dX2_nearBody_46 ⟨Nat.le_of_ble_eq_true rfl, Nat.le_of_ble_eq_true rfl⟩ hE
    · intro h4 hE
      refine zg_iconst (v := (-1)) ok dX2_nearBody_56 (by decide) ?_
      exact zg_iret ok fin dX2_nearBody_57 ⟨Nat.le_of_ble_eq_true rfl, Nat.le_of_ble_eq_true rfl⟩ hE
  · refine zg_iconst (v := 0) ok dX2_nearBody_8 (by decide) ?_
    exact zg_iret ok fin dX2_nearBody_9 ⟨Nat.le_of_ble_eq_true rfl, Nat.le_of_ble_eq_true rfl⟩ hE
set_option maxHeartbeats 8000000 in
theorem mt_X2_isFar {l : Launch} (hl : l.stackTraces = false) {Z : zw_Z} {a0 : Option Nat} {a1 : Int32} {a2 : Int32} {a3 : Int32} {h : zw_H} {Q : Int32 → zw_H → Prop} {X : String → Nat → zw_H → Prop} (hE : f_X2_isFar Z.2.2.2 a0 a1 a2 a3 h Q X) : zw_Met l Z yX2_isFar (ws_ yX2_isFar cX2_isFar 4 (Option.some Jvm.ClassFile.FieldType.boolean)) rm_X2_isFar [zA a0, zI a1, zI a2, zI a3] h (zq_I Q) X := by
  refine zg_start (own := "MultipoleLineModel") (by decide +kernel) rfl (Nat.le_of_ble_eq_true rfl) hl (fun Xc ok tab fin hRm hXl hXZ => ?_)
  subst hXl
  subst hXZ
  unfold f_X2_isFar at hE
  refine zg_iload_n ok dX2_isFar_0 rfl 2 rfl ?_
  refine zg_iload_n ok dX2_isFar_1 rfl 3 rfl ?_
  refine zg_callS (vs := [zI a2, zI a3]) (rest := []) (rm := rm_X2_far) ok hRm lk_X2_187 dX2_isFar_2 hE (fun hE => mt_X2_far hl hE) rfl (Nat.le_of_ble_eq_true rfl) ⟨⟨Nat.le_of_ble_eq_true rfl, Nat.le_of_ble_eq_true rfl⟩, Nat.le_of_ble_eq_true rfl, Nat.le_of_ble_eq_true rfl⟩ (zg_retI (fun v1 h1 hE => ?_)) (zg_xok ok tab fin ⟨Nat.le_of_ble_eq_true rfl, Nat.le_of_ble_eq_true rfl⟩)
  refine zg_cost (kc2 := 0) (ks2 := 0) ⟨rfl, rfl⟩ ?_
  refine zg_iconst (v := 1) ok dX2_isFar_5 (by decide) ?_
  refine zg_icmp_le (tgt := 35) ok dX2_isFar_6 (by decide) hE (fun hE => ?_) (fun hE => ?_)
  · refine zg_iconst (v := 0) ok dX2_isFar_35 (by decide) ?_
    exact zg_zret ok fin dX2_isFar_36 ⟨Nat.le_of_ble_eq_true rfl, Nat.le_of_ble_eq_true rfl⟩ rfl hE
  · refine zg_iload_n ok dX2_isFar_9 rfl 2 rfl ?_
    refine zg_iconst (v := 2) ok dX2_isFar_10 (by decide) ?_
    refine zg_idivE ok dX2_isFar_11 hE (fun hE => ?_)
    refine zg_iload_n ok dX2_isFar_12 rfl 3 rfl ?_
    refine zg_iconst (v := 2) ok dX2_isFar_13 (by decide) ?_
    refine zg_idivE ok dX2_isFar_14 hE (fun hE => ?_)
    refine zg_callS (vs := [zI (a2 / 2), zI (a3 / 2)]) (rest := []) (rm := rm_X2_far) ok hRm lk_X2_187 dX2_isFar_15 hE (fun hE => mt_X2_far hl hE) rfl (Nat.le_of_ble_eq_true rfl) ⟨⟨Nat.le_of_ble_eq_true rfl, Nat.le_of_ble_eq_true rfl⟩, Nat.le_of_ble_eq_true rfl, Nat.le_of_ble_eq_true rfl⟩ (zg_retI (fun v2 h2 hE => ?_)) (zg_xok ok tab fin ⟨Nat.le_of_ble_eq_true rfl, Nat.le_of_ble_eq_true rfl⟩)
    refine zg_cost (kc2 := 0) (ks2 := 0) ⟨rfl, rfl⟩ ?_
    refine zg_iconst (v := 1) ok dX2_isFar_18 (by decide) ?_
    refine zg_icmp_gt (tgt := 35) ok dX2_isFar_19 (by decide) hE (fun hE => ?_) (fun hE => ?_)
    · refine zg_iconst (v := 0) ok dX2_isFar_35 (by decide) ?_
      exact zg_zret ok fin dX2_isFar_36 ⟨Nat.le_of_ble_eq_true rfl, Nat.le_of_ble_eq_true rfl⟩ rfl hE
    · refine zg_aload_n ok dX2_isFar_22 rfl 0 rfl ?_
      refine zg_iload_n ok dX2_isFar_23 rfl 1 rfl ?_
      refine zg_iload_n ok dX2_isFar_24 rfl 2 rfl ?_
      refine zg_callV (vs := [zI a1, zI a2]) (rest := []) (rm := rm_X2_bodiesIn) ok hRm lk_X2_190 dX2_isFar_25 hE (fun hE => mt_X2_bodiesIn hl hE) rfl (Nat.le_of_ble_eq_true rfl) ⟨⟨Nat.le_of_ble_eq_true rfl, Nat.le_of_ble_eq_true rfl⟩, Nat.le_of_ble_eq_true rfl, Nat.le_of_ble_eq_true rfl⟩ (zg_retI (fun v3 h3 hE => ?_)) (zg_xok ok tab fin ⟨Nat.le_of_ble_eq_true rfl, Nat.le_of_ble_eq_true rfl⟩)
      refine zg_cost (kc2 := 0) (ks2 := 0) ⟨rfl, rfl⟩ ?_
      refine zg_if_le (tgt := 35) ok dX2_isFar_28 (by decide) hE (fun hE => ?_) (fun hE => ?_)
      · refine zg_iconst (v := 0) ok dX2_isFar_35 (by decide) ?_
        exact zg_zret ok fin dX2_isFar_36 ⟨Nat.le_of_ble_eq_true rfl, Nat.le_of_ble_eq_true rfl⟩ rfl hE
      · refine zg_iconst (v := 1) ok dX2_isFar_31 (by decide) ?_
        refine zg_goto (tgt := 36) ok dX2_isFar_32 (by decide) ?_
        exact zg_zret ok fin dX2_isFar_36 ⟨Nat.le_of_ble_eq_true rfl, Nat.le_of_ble_eq_true rfl⟩ rfl hE
set_option maxHeartbeats 8000000 in
theorem gt_f_X2_laysFar_J73 {Xc : zw_X} {Q : zw_H → Prop} {X : String → Nat → zw_H → Prop} (hl : (zw_l Xc).stackTraces = false) (ok : zw_ok Xc cX2_laysFar "MultipoleLineModel" yX2_laysFar.name 4) (tab : zw_tab Xc []) (fin : zw_fin Xc (Option.none : Option Jvm.ClassFile.FieldType) (zq_V Q) X 0 0) (hRm : zw_rm Xc = rm_X2_laysFar) {kc ks : Nat} (hb : kc ≤ 0 ∧ ks ≤ 0) {R : Int32 → zw_H → Prop} {l0 : Option Nat} {l1 : Int32} {l2 : Int32} (hR : ∀ (l3 : Int32) (h : zw_H), R l3 h → zw_G Xc kc ks 4 h 19 [(0, va_rf l0), (1, .int l1), (2, .int l2), (3, .int l3)] []) {k79 : zw_H → Prop} (hk79 : ∀  (h : zw_H), k79  h → zw_G Xc kc ks 4 h 79 [(0, va_rf l0), (1, .int l1), (2, .int l2)] [])  {l3 : Int32}  {h : zw_H} (hE : f_X2_laysFar_J73 (zw_Zf Xc).2.2.2 Q X R k79 l0 l1 l2 l3 h) : zw_G Xc kc ks 4 h 73 [(0, va_rf l0), (1, .int l1), (2, .int l2), (3, .int l3)] [] := by
  unfold f_X2_laysFar_J73 at hE
  refine zg_iincL (k := 3) (L' := fun v10 => [(3, .int v10), (0, va_rf l0), (1, .int l1), (2, .int l2)]) ok dX2_laysFar_73 (by decide +kernel) hE rfl (by decide) (fun _ => rfl) (fun v10 hE => ?_)
  refine zg_goto (tgt := 19) ok dX2_laysFar_76 (by decide) ?_
  refine zg_sub (L' := [(0, va_rf l0), (1, .int l1), (2, .int l2), (3, .int v10)]) [1, 2, 3, 0] rfl ?_
  exact hR _ _ hE
set_option maxHeartbeats 8000000 in
theorem gt_f_X2_laysFar_B19 {Xc : zw_X} {Q : zw_H → Prop} {X : String → Nat → zw_H → Prop} (hl : (zw_l Xc).stackTraces = false) (ok : zw_ok Xc cX2_laysFar "MultipoleLineModel" yX2_laysFar.name 4) (tab : zw_tab Xc []) (fin : zw_fin Xc (Option.none : Option Jvm.ClassFile.FieldType) (zq_V Q) X 0 0) (hRm : zw_rm Xc = rm_X2_laysFar) {kc ks : Nat} (hb : kc ≤ 0 ∧ ks ≤ 0) {R : Int32 → zw_H → Prop} {l0 : Option Nat} {l1 : Int32} {l2 : Int32} (hR : ∀ (l3 : Int32) (h : zw_H), R l3 h → zw_G Xc kc ks 4 h 19 [(0, va_rf l0), (1, .int l1), (2, .int l2), (3, .int l3)] []) {k79 : zw_H → Prop} (hk79 : ∀  (h : zw_H), k79  h → zw_G Xc kc ks 4 h 79 [(0, va_rf l0), (1, .int l1), (2, .int l2)] [])  {l3 : Int32} {h : zw_H} (hE : f_X2_laysFar_B19 (zw_Zf Xc).2.2.2 Q X k79 l0 l1 l2 R l3 h) : zw_G Xc kc ks 4 h 19 [(0, va_rf l0), (1, .int l1), (2, .int l2), (3, .int l3)] [] := by
  unfold f_X2_laysFar_B19 at hE
  refine zg_iload_n ok dX2_laysFar_19 rfl 3 rfl ?_
  refine zg_iconst (v := 1) ok dX2_laysFar_20 (by decide) ?_
  refine zg_iload_n ok dX2_laysFar_21 rfl 2 rfl ?_
  refine zg_ishl ok dX2_laysFar_22 ?_
  refine zg_icmp_ge (tgt := 79) ok dX2_laysFar_23 (by decide) hE (fun hE => ?_) (fun hE => ?_)
  · refine zg_sub (L' := [(0, va_rf l0), (1, .int l1), (2, .int l2)]) [0, 1, 2] rfl ?_
    exact hk79 _ hE
  · refine zg_aload_n ok dX2_laysFar_26 rfl 0 rfl ?_
    refine zg_iload_n ok dX2_laysFar_27 rfl 2 rfl ?_
    refine zg_iload_n ok dX2_laysFar_28 rfl 3 rfl ?_
    refine zg_iload_n ok dX2_laysFar_29 rfl 2 rfl ?_
    refine zg_iload_n ok dX2_laysFar_30 rfl 1 rfl ?_
    refine zg_callS (vs := [zI l2, zI l1]) (rest := [.int l3, .int l2, va_rf l0]) (rm := rm_X2_boxOf) ok hRm lk_X2_178 dX2_laysFar_31 hE (fun hE => mt_X2_boxOf hl hE) rfl (Nat.le_of_ble_eq_true rfl) ⟨⟨Nat.le_of_ble_eq_true rfl, Nat.le_of_ble_eq_true rfl⟩, (by show kc + 0 ≤ 0; omega), (by show ks + 0 ≤ 0; omega)⟩ (zg_retI (fun v3 h2 hE => ?_)) (zg_xok ok tab fin ⟨(by show kc + 0 ≤ 0; omega), (by show ks + 0 ≤ 0; omega)⟩)
    refine zg_cost (kc2 := kc) (ks2 := ks) ⟨(by show kc + 0 = kc; omega), (by show ks + 0 = ks; omega)⟩ ?_
    refine zg_callV (vs := [zI l2, zI l3, zI v3]) (rest := []) (rm := rm_X2_isFar) ok hRm lk_X2_272 dX2_laysFar_34 hE (fun hE => mt_X2_isFar hl hE) rfl (Nat.le_of_ble_eq_true rfl) ⟨⟨Nat.le_of_ble_eq_true rfl, Nat.le_of_ble_eq_true rfl⟩, (by show kc + 0 ≤ 0; omega), (by show ks + 0 ≤ 0; omega)⟩ (zg_retI (fun v4 h3 hE => ?_)) (zg_xok ok tab fin ⟨(by show kc + 0 ≤ 0; omega), (by show ks + 0 ≤ 0; omega)⟩)
    refine zg_cost (kc2 := kc) (ks2 := ks) ⟨(by show kc + 0 = kc; omega), (by show ks + 0 = ks; omega)⟩ ?_
    refine zg_if_ne (tgt := 43) ok dX2_laysFar_37 (by decide) hE (fun hE => ?_) (fun hE => ?_)
    · refine zg_aload_n ok dX2_laysFar_43 rfl 0 rfl ?_
      refine zg_getA ok lf_X2_38 dX2_laysFar_44 hE (fun v5 hE => ?_)
      refine zg_aload_n ok dX2_laysFar_47 rfl 0 rfl ?_
      refine zg_getI ok lf_X2_269 dX2_laysFar_48 hE (fun v6 hE => ?_)
      refine zg_iload_n ok dX2_laysFar_51 rfl 2 rfl ?_
      refine zg_iast ok dX2_laysFar_52 hE (fun h4 hE => ?_)
      refine zg_aload_n ok dX2_laysFar_53 rfl 0 rfl ?_
      refine zg_getA ok lf_X2_41 dX2_laysFar_54 hE (fun v7 hE => ?_)
      refine zg_aload_n ok dX2_laysFar_57 rfl 0 rfl ?_
      refine zg_getI ok lf_X2_269 dX2_laysFar_58 hE (fun v8 hE => ?_)
      refine zg_iload_n ok dX2_laysFar_61 rfl 3 rfl ?_
      refine zg_iast ok dX2_laysFar_62 hE (fun h5 hE => ?_)
      refine zg_aload_n ok dX2_laysFar_63 rfl 0 rfl ?_
      refine zg_dup ok dX2_laysFar_64 (zw_rfc _) ?_
      refine zg_getI ok lf_X2_269 dX2_laysFar_65 hE (fun v9 hE => ?_)
      refine zg_iconst (v := 1) ok dX2_laysFar_68 (by decide) ?_
      refine zg_iadd ok dX2_laysFar_69 ?_
      refine zg_put (ty := .int) ok lf_X2_269 (Or.inl rfl) (by decide) (by decide +kernel) rfl rfl dX2_laysFar_70 hE (fun h6 hE => ?_)
      exact gt_f_X2_laysFar_J73 hl ok tab fin hRm hb hR hk79 hE
    · refine zg_goto (tgt := 73) ok dX2_laysFar_40 (by decide) ?_
      exact gt_f_X2_laysFar_J73 hl ok tab fin hRm hb hR hk79 hE
theorem gt_f_X2_laysFar_L19 {Xc : zw_X} {Q : zw_H → Prop} {X : String → Nat → zw_H → Prop} (hl : (zw_l Xc).stackTraces = false) (ok : zw_ok Xc cX2_laysFar "MultipoleLineModel" yX2_laysFar.name 4) (tab : zw_tab Xc []) (fin : zw_fin Xc (Option.none : Option Jvm.ClassFile.FieldType) (zq_V Q) X 0 0) (hRm : zw_rm Xc = rm_X2_laysFar) {kc ks : Nat} (hb : kc ≤ 0 ∧ ks ≤ 0) {l0 : Option Nat} {l1 : Int32} {l2 : Int32} {k79 : zw_H → Prop} (hk79 : ∀  (h : zw_H), k79  h → zw_G Xc kc ks 4 h 79 [(0, va_rf l0), (1, .int l1), (2, .int l2)] [])  : ∀ (n9 : Nat) (l3 : Int32) (h : zw_H), zl2 (f_X2_laysFar_B19 (zw_Zf Xc).2.2.2 Q X k79 l0 l1 l2) n9 l3 h → zw_G Xc kc ks 4 h 19 [(0, va_rf l0), (1, .int l1), (2, .int l2), (3, .int l3)] [] := by
  intro n9
  induction n9 with
  | zero => intro l3 h hE; exact hE.elim
  | succ n9 ih => intro l3 h hE; exact gt_f_X2_laysFar_B19 hl ok tab fin hRm hb ih hk79 hE
set_option maxHeartbeats 8000000 in
theorem gt_f_X2_laysFar_B7 {Xc : zw_X} {Q : zw_H → Prop} {X : String → Nat → zw_H → Prop} (hl : (zw_l Xc).stackTraces = false) (ok : zw_ok Xc cX2_laysFar "MultipoleLineModel" yX2_laysFar.name 4) (tab : zw_tab Xc []) (fin : zw_fin Xc (Option.none : Option Jvm.ClassFile.FieldType) (zq_V Q) X 0 0) (hRm : zw_rm Xc = rm_X2_laysFar) {kc ks : Nat} (hb : kc ≤ 0 ∧ ks ≤ 0) {R : Int32 → zw_H → Prop} {l0 : Option Nat} {l1 : Int32} (hR : ∀ (l2 : Int32) (h : zw_H), R l2 h → zw_G Xc kc ks 4 h 7 [(0, va_rf l0), (1, .int l1), (2, .int l2)] []) {k85 : zw_H → Prop} (hk85 : ∀  (h : zw_H), k85  h → zw_G Xc kc ks 4 h 85 [] [])  {l2 : Int32} {h : zw_H} (hE : f_X2_laysFar_B7 (zw_Zf Xc).2.2.2 Q X k85 l0 l1 R l2 h) : zw_G Xc kc ks 4 h 7 [(0, va_rf l0), (1, .int l1), (2, .int l2)] [] := by
  unfold f_X2_laysFar_B7 at hE
  refine zg_iload_n ok dX2_laysFar_7 rfl 2 rfl ?_
  refine zg_aload_n ok dX2_laysFar_8 rfl 0 rfl ?_
  refine zg_getA ok lf_X2_9 dX2_laysFar_9 hE (fun v1 hE => ?_)
  refine zg_iconst (v := 3) ok dX2_laysFar_12 (by decide) ?_
  refine zg_iald ok dX2_laysFar_13 hE (fun v2 hE => ?_)
  refine zg_icmp_gt (tgt := 85) ok dX2_laysFar_14 (by decide) hE (fun hE => ?_) (fun hE => ?_)
  · refine zg_sub (L' := []) [] rfl ?_
    exact hk85 _ hE
  · refine zg_iconst (v := 0) ok dX2_laysFar_17 (by decide) ?_
    refine zg_istore_n (L' := [(3, .int 0), (0, va_rf l0), (1, .int l1), (2, .int l2)]) ok dX2_laysFar_18 rfl (by decide) rfl ?_
    refine zg_sub (L' := [(0, va_rf l0), (1, .int l1), (2, .int l2), (3, .int 0)]) [1, 2, 3, 0] rfl ?_
    refine gt_f_X2_laysFar_L19 hl ok tab fin hRm ⟨(by omega), (by omega)⟩ ?_ _ _ _ hE
    · intro h7 hE
      refine zg_iincL (k := 2) (L' := fun v11 => [(2, .int v11), (0, va_rf l0), (1, .int l1)]) ok dX2_laysFar_79 (by decide +kernel) hE rfl (by decide) (fun _ => rfl) (fun v11 hE => ?_)
      refine zg_goto (tgt := 7) ok dX2_laysFar_82 (by decide) ?_
      refine zg_sub (L' := [(0, va_rf l0), (1, .int l1), (2, .int v11)]) [1, 2, 0] rfl ?_
      exact hR _ _ hE
theorem gt_f_X2_laysFar_L7 {Xc : zw_X} {Q : zw_H → Prop} {X : String → Nat → zw_H → Prop} (hl : (zw_l Xc).stackTraces = false) (ok : zw_ok Xc cX2_laysFar "MultipoleLineModel" yX2_laysFar.name 4) (tab : zw_tab Xc []) (fin : zw_fin Xc (Option.none : Option Jvm.ClassFile.FieldType) (zq_V Q) X 0 0) (hRm : zw_rm Xc = rm_X2_laysFar) {kc ks : Nat} (hb : kc ≤ 0 ∧ ks ≤ 0) {l0 : Option Nat} {l1 : Int32} {k85 : zw_H → Prop} (hk85 : ∀  (h : zw_H), k85  h → zw_G Xc kc ks 4 h 85 [] [])  : ∀ (n9 : Nat) (l2 : Int32) (h : zw_H), zl2 (f_X2_laysFar_B7 (zw_Zf Xc).2.2.2 Q X k85 l0 l1) n9 l2 h → zw_G Xc kc ks 4 h 7 [(0, va_rf l0), (1, .int l1), (2, .int l2)] [] := by
  intro n9
  induction n9 with
  | zero => intro l2 h hE; exact hE.elim
  | succ n9 ih => intro l2 h hE; exact gt_f_X2_laysFar_B7 hl ok tab fin hRm hb ih hk85 hE
set_option maxHeartbeats 8000000 in
theorem mt_X2_laysFar {l : Launch} (hl : l.stackTraces = false) {Z : zw_Z} {a0 : Option Nat} {a1 : Int32} {h : zw_H} {Q : zw_H → Prop} {X : String → Nat → zw_H → Prop} (hE : f_X2_laysFar Z.2.2.2 a0 a1 h Q X) : zw_Met l Z yX2_laysFar (ws_ yX2_laysFar cX2_laysFar 4 (Option.none : Option Jvm.ClassFile.FieldType)) rm_X2_laysFar [zA a0, zI a1] h (zq_V Q) X := by
  refine zg_start (own := "MultipoleLineModel") (by decide +kernel) rfl (Nat.le_of_ble_eq_true rfl) hl (fun Xc ok tab fin hRm hXl hXZ => ?_)
  subst hXl
  subst hXZ
  unfold f_X2_laysFar at hE
  refine zg_aload_n ok dX2_laysFar_0 rfl 0 rfl ?_
  refine zg_iconst (v := 0) ok dX2_laysFar_1 (by decide) ?_
  refine zg_put (ty := .int) ok lf_X2_269 (Or.inl rfl) (by decide) (by decide +kernel) rfl rfl dX2_laysFar_2 hE (fun h1 hE => ?_)
  refine zg_iconst (v := 2) ok dX2_laysFar_5 (by decide) ?_
  refine zg_istore_n (L' := [(2, .int 2), (0, va_rf a0), (1, .int a1)]) ok dX2_laysFar_6 rfl (by decide) rfl ?_
  refine zg_sub (L' := [(0, va_rf a0), (1, .int a1), (2, .int 2)]) [1, 2, 0] rfl ?_
  refine gt_f_X2_laysFar_L7 hl ok tab fin hRm ⟨Nat.le_of_ble_eq_true rfl, Nat.le_of_ble_eq_true rfl⟩ ?_ _ _ _ hE
  · intro h8 hE
    exact zg_vret ok fin dX2_laysFar_85 ⟨Nat.le_of_ble_eq_true rfl, Nat.le_of_ble_eq_true rfl⟩ hE
set_option maxHeartbeats 8000000 in
theorem mt_X2_farMany {l : Launch} (hl : l.stackTraces = false) {Z : zw_Z} {a0 : Option Nat} {a1 : Int32} {h : zw_H} {Q : Int32 → zw_H → Prop} {X : String → Nat → zw_H → Prop} (hE : f_X2_farMany Z.2.2.2 a0 a1 h Q X) : zw_Met l Z yX2_farMany (ws_ yX2_farMany cX2_farMany 2 (Option.some Jvm.ClassFile.FieldType.int)) rm_X2_farMany [zA a0, zI a1] h (zq_I Q) X := by
  refine zg_start (own := "MultipoleLineModel") (by decide +kernel) rfl (Nat.le_of_ble_eq_true rfl) hl (fun Xc ok tab fin hRm hXl hXZ => ?_)
  subst hXl
  subst hXZ
  unfold f_X2_farMany at hE
  refine zg_aload_n ok dX2_farMany_0 rfl 0 rfl ?_
  refine zg_iload_n ok dX2_farMany_1 rfl 1 rfl ?_
  refine zg_callV (vs := [zI a1]) (rest := []) (rm := rm_X2_mayPoint) ok hRm lk_X2_216 dX2_farMany_2 hE (fun hE => mt_X2_mayPoint hl hE) rfl (Nat.le_of_ble_eq_true rfl) ⟨⟨Nat.le_of_ble_eq_true rfl, Nat.le_of_ble_eq_true rfl⟩, Nat.le_of_ble_eq_true rfl, Nat.le_of_ble_eq_true rfl⟩ (zg_retI (fun v1 h1 hE => ?_)) (zg_xok ok tab fin ⟨Nat.le_of_ble_eq_true rfl, Nat.le_of_ble_eq_true rfl⟩)
  refine zg_cost (kc2 := 0) (ks2 := 0) ⟨rfl, rfl⟩ ?_
  refine zg_if_ne (tgt := 10) ok dX2_farMany_5 (by decide) hE (fun hE => ?_) (fun hE => ?_)
  · refine zg_aload_n ok dX2_farMany_10 rfl 0 rfl ?_
    refine zg_iload_n ok dX2_farMany_11 rfl 1 rfl ?_
    refine zg_callV (vs := [zI a1]) (rest := []) (rm := rm_X2_laysFar) ok hRm lk_X2_275 dX2_farMany_12 hE (fun hE => mt_X2_laysFar hl hE) rfl (Nat.le_of_ble_eq_true rfl) ⟨⟨Nat.le_of_ble_eq_true rfl, Nat.le_of_ble_eq_true rfl⟩, Nat.le_of_ble_eq_true rfl, Nat.le_of_ble_eq_true rfl⟩ (zg_retV (fun h2 hE => ?_)) (zg_xok ok tab fin ⟨Nat.le_of_ble_eq_true rfl, Nat.le_of_ble_eq_true rfl⟩)
    refine zg_cost (kc2 := 0) (ks2 := 0) ⟨rfl, rfl⟩ ?_
    refine zg_aload_n ok dX2_farMany_15 rfl 0 rfl ?_
    refine zg_getI ok lf_X2_269 dX2_farMany_16 hE (fun v2 hE => ?_)
    exact zg_iret ok fin dX2_farMany_19 ⟨Nat.le_of_ble_eq_true rfl, Nat.le_of_ble_eq_true rfl⟩ hE
  · refine zg_iconst (v := 0) ok dX2_farMany_8 (by decide) ?_
    exact zg_iret ok fin dX2_farMany_9 ⟨Nat.le_of_ble_eq_true rfl, Nat.le_of_ble_eq_true rfl⟩ hE
set_option maxHeartbeats 8000000 in
theorem mt_X2_farBox {l : Launch} (hl : l.stackTraces = false) {Z : zw_Z} {a0 : Option Nat} {a1 : Int32} {a2 : Int32} {h : zw_H} {Q : Int32 → zw_H → Prop} {X : String → Nat → zw_H → Prop} (hE : f_X2_farBox Z.2.2.2 a0 a1 a2 h Q X) : zw_Met l Z yX2_farBox (ws_ yX2_farBox cX2_farBox 3 (Option.some Jvm.ClassFile.FieldType.int)) rm_X2_farBox [zA a0, zI a1, zI a2] h (zq_I Q) X := by
  refine zg_start (own := "MultipoleLineModel") (by decide +kernel) rfl (Nat.le_of_ble_eq_true rfl) hl (fun Xc ok tab fin hRm hXl hXZ => ?_)
  subst hXl
  subst hXZ
  unfold f_X2_farBox at hE
  refine zg_aload_n ok dX2_farBox_0 rfl 0 rfl ?_
  refine zg_iload_n ok dX2_farBox_1 rfl 1 rfl ?_
  refine zg_callV (vs := [zI a1]) (rest := []) (rm := rm_X2_mayPoint) ok hRm lk_X2_216 dX2_farBox_2 hE (fun hE => mt_X2_mayPoint hl hE) rfl (Nat.le_of_ble_eq_true rfl) ⟨⟨Nat.le_of_ble_eq_true rfl, Nat.le_of_ble_eq_true rfl⟩, Nat.le_of_ble_eq_true rfl, Nat.le_of_ble_eq_true rfl⟩ (zg_retI (fun v1 h1 hE => ?_)) (zg_xok ok tab fin ⟨Nat.le_of_ble_eq_true rfl, Nat.le_of_ble_eq_true rfl⟩)
  refine zg_cost (kc2 := 0) (ks2 := 0) ⟨rfl, rfl⟩ ?_
  refine zg_if_ne (tgt := 10) ok dX2_farBox_5 (by decide) hE (fun hE => ?_) (fun hE => ?_)
  · refine zg_aload_n ok dX2_farBox_10 rfl 0 rfl ?_
    refine zg_iload_n ok dX2_farBox_11 rfl 1 rfl ?_
    refine zg_callV (vs := [zI a1]) (rest := []) (rm := rm_X2_laysFar) ok hRm lk_X2_275 dX2_farBox_12 hE (fun hE => mt_X2_laysFar hl hE) rfl (Nat.le_of_ble_eq_true rfl) ⟨⟨Nat.le_of_ble_eq_true rfl, Nat.le_of_ble_eq_true rfl⟩, Nat.le_of_ble_eq_true rfl, Nat.le_of_ble_eq_true rfl⟩ (zg_retV (fun h2 hE => ?_)) (zg_xok ok tab fin ⟨Nat.le_of_ble_eq_true rfl, Nat.le_of_ble_eq_true rfl⟩)
    refine zg_cost (kc2 := 0) (ks2 := 0) ⟨rfl, rfl⟩ ?_
    refine zg_iload_n ok dX2_farBox_15 rfl 2 rfl ?_
    refine zg_iconst (v := 0) ok dX2_farBox_16 (by decide) ?_
    refine zg_aload_n ok dX2_farBox_17 rfl 0 rfl ?_
    refine zg_getI ok lf_X2_269 dX2_farBox_18 hE (fun v2 hE => ?_)
    refine zg_iconst (v := 1) ok dX2_farBox_21 (by decide) ?_
    refine zg_isub ok dX2_farBox_22 ?_
    refine zg_callS (vs := [zI a2, zI 0, zI (v2 - 1)]) (rest := []) (rm := rm_X2_in) ok hRm lk_X2_77 dX2_farBox_23 hE (fun hE => mt_X2_in hl hE) rfl (Nat.le_of_ble_eq_true rfl) ⟨⟨Nat.le_of_ble_eq_true rfl, Nat.le_of_ble_eq_true rfl⟩, Nat.le_of_ble_eq_true rfl, Nat.le_of_ble_eq_true rfl⟩ (zg_retI (fun v3 h3 hE => ?_)) (zg_xok ok tab fin ⟨Nat.le_of_ble_eq_true rfl, Nat.le_of_ble_eq_true rfl⟩)
    refine zg_cost (kc2 := 0) (ks2 := 0) ⟨rfl, rfl⟩ ?_
    refine zg_if_eq (tgt := 48) ok dX2_farBox_26 (by decide) hE (fun hE => ?_) (fun hE => ?_)
    · refine zg_iconst (v := (-1)) ok dX2_farBox_48 (by decide) ?_
      exact zg_iret ok fin dX2_farBox_49 ⟨Nat.le_of_ble_eq_true rfl, Nat.le_of_ble_eq_true rfl⟩ hE
    · refine zg_bipush (v := 100) ok dX2_farBox_29 (by decide) ?_
      refine zg_aload_n ok dX2_farBox_31 rfl 0 rfl ?_
      refine zg_getA ok lf_X2_38 dX2_farBox_32 hE (fun v4 hE => ?_)
      refine zg_iload_n ok dX2_farBox_35 rfl 2 rfl ?_
      refine zg_iald ok dX2_farBox_36 hE (fun v5 hE => ?_)
      refine zg_imul ok dX2_farBox_37 ?_
      refine zg_aload_n ok dX2_farBox_38 rfl 0 rfl ?_
      refine zg_getA ok lf_X2_41 dX2_farBox_39 hE (fun v6 hE => ?_)
      refine zg_iload_n ok dX2_farBox_42 rfl 2 rfl ?_
      refine zg_iald ok dX2_farBox_43 hE (fun v7 hE => ?_)
      refine zg_iadd ok dX2_farBox_44 ?_
      refine zg_goto (tgt := 49) ok dX2_farBox_45 (by decide) ?_
      exact zg_iret ok fin dX2_farBox_49 ⟨Nat.le_of_ble_eq_true rfl, Nat.le_of_ble_eq_true rfl⟩ hE
  · refine zg_iconst (v := 0) ok dX2_farBox_8 (by decide) ?_
    exact zg_iret ok fin dX2_farBox_9 ⟨Nat.le_of_ble_eq_true rfl, Nat.le_of_ble_eq_true rfl⟩ hE
set_option maxHeartbeats 8000000 in
theorem gt_f_X2_farBodies_B19 {Xc : zw_X} {Q : Int32 → zw_H → Prop} {X : String → Nat → zw_H → Prop} (hl : (zw_l Xc).stackTraces = false) (ok : zw_ok Xc cX2_farBodies "MultipoleLineModel" yX2_farBodies.name 4) (tab : zw_tab Xc []) (fin : zw_fin Xc (Option.some Jvm.ClassFile.FieldType.int) (zq_I Q) X 0 0) (hRm : zw_rm Xc = rm_X2_farBodies) {kc ks : Nat} (hb : kc ≤ 0 ∧ ks ≤ 0) {R : Int32 → Int32 → zw_H → Prop} {l0 : Option Nat} (hR : ∀ (l2 : Int32) (l3 : Int32) (h : zw_H), R l2 l3 h → zw_G Xc kc ks 4 h 19 [(0, va_rf l0), (2, .int l2), (3, .int l3)] []) {k52 : Int32 → zw_H → Prop} (hk52 : ∀ (l2 : Int32) (h : zw_H), k52 l2 h → zw_G Xc kc ks 4 h 52 [(2, .int l2)] [])  {l2 : Int32} {l3 : Int32} {h : zw_H} (hE : f_X2_farBodies_B19 (zw_Zf Xc).2.2.2 Q X k52 l0 R l2 l3 h) : zw_G Xc kc ks 4 h 19 [(0, va_rf l0), (2, .int l2), (3, .int l3)] [] := by
  unfold f_X2_farBodies_B19 at hE
  refine zg_iload_n ok dX2_farBodies_19 rfl 2 rfl ?_
  refine zg_aload_n ok dX2_farBodies_20 rfl 0 rfl ?_
  refine zg_getI ok lf_X2_269 dX2_farBodies_21 hE (fun v2 hE => ?_)
  refine zg_icmp_ge (tgt := 52) ok dX2_farBodies_24 (by decide) hE (fun hE => ?_) (fun hE => ?_)
  · refine zg_sub (L' := [(2, .int l2)]) [1] rfl ?_
    exact hk52 _ _ hE
  · refine zg_iload_n ok dX2_farBodies_27 rfl 1 rfl ?_
    refine zg_aload_n ok dX2_farBodies_28 rfl 0 rfl ?_
    refine zg_aload_n ok dX2_farBodies_29 rfl 0 rfl ?_
    refine zg_getA ok lf_X2_38 dX2_farBodies_30 hE (fun v3 hE => ?_)
    refine zg_iload_n ok dX2_farBodies_33 rfl 2 rfl ?_
    refine zg_iald ok dX2_farBodies_34 hE (fun v4 hE => ?_)
    refine zg_aload_n ok dX2_farBodies_35 rfl 0 rfl ?_
    refine zg_getA ok lf_X2_41 dX2_farBodies_36 hE (fun v5 hE => ?_)
    refine zg_iload_n ok dX2_farBodies_39 rfl 2 rfl ?_
    refine zg_iald ok dX2_farBodies_40 hE (fun v6 hE => ?_)
    refine zg_callV (vs := [zI v4, zI v6]) (rest := [.int l2]) (rm := rm_X2_bodiesIn) ok hRm lk_X2_190 dX2_farBodies_41 hE (fun hE => mt_X2_bodiesIn hl hE) rfl (Nat.le_of_ble_eq_true rfl) ⟨⟨Nat.le_of_ble_eq_true rfl, Nat.le_of_ble_eq_true rfl⟩, (by show kc + 0 ≤ 0; omega), (by show ks + 0 ≤ 0; omega)⟩ (zg_retI (fun v7 h3 hE => ?_)) (zg_xok ok tab fin ⟨(by show kc + 0 ≤ 0; omega), (by show ks + 0 ≤ 0; omega)⟩)
    refine zg_cost (kc2 := kc) (ks2 := ks) ⟨(by show kc + 0 = kc; omega), (by show ks + 0 = ks; omega)⟩ ?_
    refine zg_iadd ok dX2_farBodies_44 ?_
    refine zg_letI hE (fun v8 hE => ?_)
    refine zg_istore_n (L' := [(2, .int v8), (0, va_rf l0), (3, .int l3)]) ok dX2_farBodies_45 rfl (by decide) rfl ?_
    refine zg_iincL (k := 2) (L' := fun v9 => [(3, .int v9), (2, .int v8), (0, va_rf l0)]) ok dX2_farBodies_46 (by decide +kernel) hE rfl (by decide) (fun _ => rfl) (fun v9 hE => ?_)
    refine zg_goto (tgt := 19) ok dX2_farBodies_49 (by decide) ?_
    refine zg_sub (L' := [(0, va_rf l0), (2, .int v8), (3, .int v9)]) [2, 1, 0] rfl ?_
    exact hR _ _ _ hE
theorem gt_f_X2_farBodies_L19 {Xc : zw_X} {Q : Int32 → zw_H → Prop} {X : String → Nat → zw_H → Prop} (hl : (zw_l Xc).stackTraces = false) (ok : zw_ok Xc cX2_farBodies "MultipoleLineModel" yX2_farBodies.name 4) (tab : zw_tab Xc []) (fin : zw_fin Xc (Option.some Jvm.ClassFile.FieldType.int) (zq_I Q) X 0 0) (hRm : zw_rm Xc = rm_X2_farBodies) {kc ks : Nat} (hb : kc ≤ 0 ∧ ks ≤ 0) {l0 : Option Nat} {k52 : Int32 → zw_H → Prop} (hk52 : ∀ (l2 : Int32) (h : zw_H), k52 l2 h → zw_G Xc kc ks 4 h 52 [(2, .int l2)] [])  : ∀ (n9 : Nat) (l2 : Int32) (l3 : Int32) (h : zw_H), zl3 (f_X2_farBodies_B19 (zw_Zf Xc).2.2.2 Q X k52 l0) n9 l2 l3 h → zw_G Xc kc ks 4 h 19 [(0, va_rf l0), (2, .int l2), (3, .int l3)] [] := by
  intro n9
  induction n9 with
  | zero => intro l2 l3 h hE; exact hE.elim
  | succ n9 ih => intro l2 l3 h hE; exact gt_f_X2_farBodies_B19 hl ok tab fin hRm hb ih hk52 hE
set_option maxHeartbeats 8000000 in
theorem mt_X2_farBodies {l : Launch} (hl : l.stackTraces = false) {Z : zw_Z} {a0 : Option Nat} {a1 : Int32} {h : zw_H} {Q : Int32 → zw_H → Prop} {X : String → Nat → zw_H → Prop} (hE : f_X2_farBodies Z.2.2.2 a0 a1 h Q X) : zw_Met l Z yX2_farBodies (ws_ yX2_farBodies cX2_farBodies 4 (Option.some Jvm.ClassFile.FieldType.int)) rm_X2_farBodies [zA a0, zI a1] h (zq_I Q) X := by
  refine zg_start (own := "MultipoleLineModel") (by decide +kernel) rfl (Nat.le_of_ble_eq_true rfl) hl (fun Xc ok tab fin hRm hXl hXZ => ?_)
  subst hXl
  subst hXZ
  unfold f_X2_farBodies at hE
  refine zg_aload_n ok dX2_farBodies_0 rfl 0 rfl ?_
  refine zg_iload_n ok dX2_farBodies_1 rfl 1 rfl ?_
  refine zg_callV (vs := [zI a1]) (rest := []) (rm := rm_X2_mayPoint) ok hRm lk_X2_216 dX2_farBodies_2 hE (fun hE => mt_X2_mayPoint hl hE) rfl (Nat.le_of_ble_eq_true rfl) ⟨⟨Nat.le_of_ble_eq_true rfl, Nat.le_of_ble_eq_true rfl⟩, Nat.le_of_ble_eq_true rfl, Nat.le_of_ble_eq_true rfl⟩ (zg_retI (fun v1 h1 hE => ?_)) (zg_xok ok tab fin ⟨Nat.le_of_ble_eq_true rfl, Nat.le_of_ble_eq_true rfl⟩)
  refine zg_cost (kc2 := 0) (ks2 := 0) ⟨rfl, rfl⟩ ?_
  refine zg_if_ne (tgt := 10) ok dX2_farBodies_5 (by decide) hE (fun hE => ?_) (fun hE => ?_)
  · refine zg_aload_n ok dX2_farBodies_10 rfl 0 rfl ?_
    refine zg_iload_n ok dX2_farBodies_11 rfl 1 rfl ?_
    refine zg_callV (vs := [zI a1]) (rest := []) (rm := rm_X2_laysFar) ok hRm lk_X2_275 dX2_farBodies_12 hE (fun hE => mt_X2_laysFar hl hE) rfl (Nat.le_of_ble_eq_true rfl) ⟨⟨Nat.le_of_ble_eq_true rfl, Nat.le_of_ble_eq_true rfl⟩, Nat.le_of_ble_eq_true rfl, Nat.le_of_ble_eq_true rfl⟩ (zg_retV (fun h2 hE => ?_)) (zg_xok ok tab fin ⟨Nat.le_of_ble_eq_true rfl, Nat.le_of_ble_eq_true rfl⟩)
    refine zg_cost (kc2 := 0) (ks2 := 0) ⟨rfl, rfl⟩ ?_
    refine zg_iconst (v := 0) ok dX2_farBodies_15 (by decide) ?_
    refine zg_istore_n (L' := [(2, .int 0), (0, va_rf a0), (1, .int a1)]) ok dX2_farBodies_16 rfl (by decide) rfl ?_
    refine zg_iconst (v := 0) ok dX2_farBodies_17 (by decide) ?_
    refine zg_istore_n (L' := [(3, .int 0), (2, .int 0), (0, va_rf a0), (1, .int a1)]) ok dX2_farBodies_18 rfl (by decide) rfl ?_
    refine zg_sub (L' := [(0, va_rf a0), (2, .int 0), (3, .int 0)]) [2, 1, 0] rfl ?_
    refine gt_f_X2_farBodies_L19 hl ok tab fin hRm ⟨Nat.le_of_ble_eq_true rfl, Nat.le_of_ble_eq_true rfl⟩ ?_ _ _ _ _ hE
    · intro v10 h4 hE
      refine zg_iload_n ok dX2_farBodies_52 rfl 0 rfl ?_
      exact zg_iret ok fin dX2_farBodies_53 ⟨Nat.le_of_ble_eq_true rfl, Nat.le_of_ble_eq_true rfl⟩ hE
  · refine zg_iconst (v := 0) ok dX2_farBodies_8 (by decide) ?_
    exact zg_iret ok fin dX2_farBodies_9 ⟨Nat.le_of_ble_eq_true rfl, Nat.le_of_ble_eq_true rfl⟩ hE
set_option maxHeartbeats 8000000 in
theorem gt_f_X2_isPair_J67 {Xc : zw_X} {Q : Int32 → zw_H → Prop} {X : String → Nat → zw_H → Prop} (hl : (zw_l Xc).stackTraces = false) (ok : zw_ok Xc cX2_isPair "MultipoleLineModel" yX2_isPair.name 4) (tab : zw_tab Xc []) (fin : zw_fin Xc (Option.some Jvm.ClassFile.FieldType.boolean) (zq_I Q) X 0 0) (hRm : zw_rm Xc = rm_X2_isPair)   {s0 : Int32} {s1 : Int32} {h : zw_H} (hE : f_X2_isPair_J67 (zw_Zf Xc).2.2.2 Q X  s0 s1 h) : zw_G Xc 0 0 4 h 67 [] [.int s0, .int s1] := by
  unfold f_X2_isPair_J67 at hE
  refine zg_icmp_ne (tgt := 74) ok dX2_isPair_67 (by decide) hE (fun hE => ?_) (fun hE => ?_)
  · refine zg_iconst (v := 0) ok dX2_isPair_74 (by decide) ?_
    exact zg_zret ok fin dX2_isPair_75 ⟨Nat.le_of_ble_eq_true rfl, Nat.le_of_ble_eq_true rfl⟩ rfl hE
  · refine zg_iconst (v := 1) ok dX2_isPair_70 (by decide) ?_
    refine zg_goto (tgt := 75) ok dX2_isPair_71 (by decide) ?_
    exact zg_zret ok fin dX2_isPair_75 ⟨Nat.le_of_ble_eq_true rfl, Nat.le_of_ble_eq_true rfl⟩ rfl hE
set_option maxHeartbeats 8000000 in
theorem gt_f_X2_isPair_J58 {Xc : zw_X} {Q : Int32 → zw_H → Prop} {X : String → Nat → zw_H → Prop} (hl : (zw_l Xc).stackTraces = false) (ok : zw_ok Xc cX2_isPair "MultipoleLineModel" yX2_isPair.name 4) (tab : zw_tab Xc []) (fin : zw_fin Xc (Option.some Jvm.ClassFile.FieldType.boolean) (zq_I Q) X 0 0) (hRm : zw_rm Xc = rm_X2_isPair)  {l3 : Int32} {s0 : Int32} {h : zw_H} (hE : f_X2_isPair_J58 (zw_Zf Xc).2.2.2 Q X  l3 s0 h) : zw_G Xc 0 0 4 h 58 [(3, .int l3)] [.int s0] := by
  unfold f_X2_isPair_J58 at hE
  refine zg_iload_n ok dX2_isPair_58 rfl 0 rfl ?_
  refine zg_if_ne (tgt := 66) ok dX2_isPair_59 (by decide) hE (fun hE => ?_) (fun hE => ?_)
  · refine zg_iconst (v := 0) ok dX2_isPair_66 (by decide) ?_
    refine zg_sub (L' := []) [] rfl ?_
    exact gt_f_X2_isPair_J67 hl ok tab fin hRm  hE
  · refine zg_iconst (v := 1) ok dX2_isPair_62 (by decide) ?_
    refine zg_goto (tgt := 67) ok dX2_isPair_63 (by decide) ?_
    refine zg_sub (L' := []) [] rfl ?_
    exact gt_f_X2_isPair_J67 hl ok tab fin hRm  hE
set_option maxHeartbeats 8000000 in
theorem gt_f_X2_isPair_J50 {Xc : zw_X} {Q : Int32 → zw_H → Prop} {X : String → Nat → zw_H → Prop} (hl : (zw_l Xc).stackTraces = false) (ok : zw_ok Xc cX2_isPair "MultipoleLineModel" yX2_isPair.name 4) (tab : zw_tab Xc []) (fin : zw_fin Xc (Option.some Jvm.ClassFile.FieldType.boolean) (zq_I Q) X 0 0) (hRm : zw_rm Xc = rm_X2_isPair)  {l3 : Int32} {s0 : Int32} {s1 : Int32} {h : zw_H} (hE : f_X2_isPair_J50 (zw_Zf Xc).2.2.2 Q X  l3 s0 s1 h) : zw_G Xc 0 0 4 h 50 [(3, .int l3)] [.int s0, .int s1] := by
  unfold f_X2_isPair_J50 at hE
  refine zg_icmp_ne (tgt := 57) ok dX2_isPair_50 (by decide) hE (fun hE => ?_) (fun hE => ?_)
  · refine zg_iconst (v := 0) ok dX2_isPair_57 (by decide) ?_
    exact gt_f_X2_isPair_J58 hl ok tab fin hRm  hE
  · refine zg_iconst (v := 1) ok dX2_isPair_53 (by decide) ?_
    refine zg_goto (tgt := 58) ok dX2_isPair_54 (by decide) ?_
    exact gt_f_X2_isPair_J58 hl ok tab fin hRm  hE
set_option maxHeartbeats 8000000 in
theorem gt_f_X2_isPair_J36 {Xc : zw_X} {Q : Int32 → zw_H → Prop} {X : String → Nat → zw_H → Prop} (hl : (zw_l Xc).stackTraces = false) (ok : zw_ok Xc cX2_isPair "MultipoleLineModel" yX2_isPair.name 4) (tab : zw_tab Xc []) (fin : zw_fin Xc (Option.some Jvm.ClassFile.FieldType.boolean) (zq_I Q) X 0 0) (hRm : zw_rm Xc = rm_X2_isPair)  {l0 : Option Nat} {l2 : Int32} {l3 : Int32} {s0 : Int32} {h : zw_H} (hE : f_X2_isPair_J36 (zw_Zf Xc).2.2.2 Q X  l0 l2 l3 s0 h) : zw_G Xc 0 0 4 h 36 [(0, va_rf l0), (2, .int l2), (3, .int l3)] [.int s0] := by
  unfold f_X2_isPair_J36 at hE
  refine zg_aload_n ok dX2_isPair_36 rfl 0 rfl ?_
  refine zg_iload_n ok dX2_isPair_37 rfl 1 rfl ?_
  refine zg_iconst (v := 1) ok dX2_isPair_38 (by decide) ?_
  refine zg_callV (vs := [zI l2, zI 1]) (rest := [.int s0]) (rm := rm_X2_of) ok hRm lk_X2_163 dX2_isPair_39 hE (fun hE => mt_X2_of hl hE) rfl (Nat.le_of_ble_eq_true rfl) ⟨⟨Nat.le_of_ble_eq_true rfl, Nat.le_of_ble_eq_true rfl⟩, Nat.le_of_ble_eq_true rfl, Nat.le_of_ble_eq_true rfl⟩ (zg_retI (fun v14 h10 hE => ?_)) (zg_xok ok tab fin ⟨Nat.le_of_ble_eq_true rfl, Nat.le_of_ble_eq_true rfl⟩)
  refine zg_cost (kc2 := 0) (ks2 := 0) ⟨rfl, rfl⟩ ?_
  refine zg_if_le (tgt := 49) ok dX2_isPair_42 (by decide) hE (fun hE => ?_) (fun hE => ?_)
  · refine zg_iconst (v := 0) ok dX2_isPair_49 (by decide) ?_
    refine zg_sub (L' := [(3, .int l3)]) [2] rfl ?_
    exact gt_f_X2_isPair_J50 hl ok tab fin hRm  hE
  · refine zg_iconst (v := 1) ok dX2_isPair_45 (by decide) ?_
    refine zg_goto (tgt := 50) ok dX2_isPair_46 (by decide) ?_
    refine zg_sub (L' := [(3, .int l3)]) [2] rfl ?_
    exact gt_f_X2_isPair_J50 hl ok tab fin hRm  hE
set_option maxHeartbeats 8000000 in
theorem mt_X2_isPair {l : Launch} (hl : l.stackTraces = false) {Z : zw_Z} {a0 : Option Nat} {a1 : Int32} {a2 : Int32} {a3 : Int32} {h : zw_H} {Q : Int32 → zw_H → Prop} {X : String → Nat → zw_H → Prop} (hE : f_X2_isPair Z.2.2.2 a0 a1 a2 a3 h Q X) : zw_Met l Z yX2_isPair (ws_ yX2_isPair cX2_isPair 4 (Option.some Jvm.ClassFile.FieldType.boolean)) rm_X2_isPair [zA a0, zI a1, zI a2, zI a3] h (zq_I Q) X := by
  refine zg_start (own := "MultipoleLineModel") (by decide +kernel) rfl (Nat.le_of_ble_eq_true rfl) hl (fun Xc ok tab fin hRm hXl hXZ => ?_)
  subst hXl
  subst hXZ
  unfold f_X2_isPair at hE
  refine zg_aload_n ok dX2_isPair_0 rfl 0 rfl ?_
  refine zg_iload_n ok dX2_isPair_1 rfl 1 rfl ?_
  refine zg_iconst (v := 0) ok dX2_isPair_2 (by decide) ?_
  refine zg_callV (vs := [zI a1, zI 0]) (rest := []) (rm := rm_X2_of) ok hRm lk_X2_163 dX2_isPair_3 hE (fun hE => mt_X2_of hl hE) rfl (Nat.le_of_ble_eq_true rfl) ⟨⟨Nat.le_of_ble_eq_true rfl, Nat.le_of_ble_eq_true rfl⟩, Nat.le_of_ble_eq_true rfl, Nat.le_of_ble_eq_true rfl⟩ (zg_retI (fun v1 h1 hE => ?_)) (zg_xok ok tab fin ⟨Nat.le_of_ble_eq_true rfl, Nat.le_of_ble_eq_true rfl⟩)
  refine zg_cost (kc2 := 0) (ks2 := 0) ⟨rfl, rfl⟩ ?_
  refine zg_aload_n ok dX2_isPair_6 rfl 0 rfl ?_
  refine zg_iload_n ok dX2_isPair_7 rfl 2 rfl ?_
  refine zg_iconst (v := 0) ok dX2_isPair_8 (by decide) ?_
  refine zg_callV (vs := [zI a2, zI 0]) (rest := [.int v1]) (rm := rm_X2_of) ok hRm lk_X2_163 dX2_isPair_9 hE (fun hE => mt_X2_of hl hE) rfl (Nat.le_of_ble_eq_true rfl) ⟨⟨Nat.le_of_ble_eq_true rfl, Nat.le_of_ble_eq_true rfl⟩, Nat.le_of_ble_eq_true rfl, Nat.le_of_ble_eq_true rfl⟩ (zg_retI (fun v2 h2 hE => ?_)) (zg_xok ok tab fin ⟨Nat.le_of_ble_eq_true rfl, Nat.le_of_ble_eq_true rfl⟩)
  refine zg_cost (kc2 := 0) (ks2 := 0) ⟨rfl, rfl⟩ ?_
  refine zg_icmp_ne (tgt := 17) ok dX2_isPair_12 (by decide) hE (fun hE => ?_) (fun hE => ?_)
  · refine zg_iload_n ok dX2_isPair_17 rfl 3 rfl ?_
    refine zg_iconst (v := 2) ok dX2_isPair_18 (by decide) ?_
    refine zg_icmp_ge (tgt := 76) ok dX2_isPair_19 (by decide) hE (fun hE => ?_) (fun hE => ?_)
    · refine zg_iload_n ok dX2_isPair_76 rfl 3 rfl ?_
      refine zg_iconst (v := 2) ok dX2_isPair_77 (by decide) ?_
      refine zg_icmp_ne (tgt := 95) ok dX2_isPair_78 (by decide) hE (fun hE => ?_) (fun hE => ?_)
      · refine zg_aload_n ok dX2_isPair_95 rfl 0 rfl ?_
        refine zg_getA ok lf_X2_9 dX2_isPair_96 hE (fun v3 hE => ?_)
        refine zg_iconst (v := 3) ok dX2_isPair_99 (by decide) ?_
        refine zg_iald ok dX2_isPair_100 hE (fun v4 hE => ?_)
        refine zg_aload_n ok dX2_isPair_101 rfl 0 rfl ?_
        refine zg_iload_n ok dX2_isPair_102 rfl 1 rfl ?_
        refine zg_iconst (v := 0) ok dX2_isPair_103 (by decide) ?_
        refine zg_callV (vs := [zI a1, zI 0]) (rest := [.int v4]) (rm := rm_X2_of) ok hRm lk_X2_163 dX2_isPair_104 hE (fun hE => mt_X2_of hl hE) rfl (Nat.le_of_ble_eq_true rfl) ⟨⟨Nat.le_of_ble_eq_true rfl, Nat.le_of_ble_eq_true rfl⟩, Nat.le_of_ble_eq_true rfl, Nat.le_of_ble_eq_true rfl⟩ (zg_retI (fun v5 h3 hE => ?_)) (zg_xok ok tab fin ⟨Nat.le_of_ble_eq_true rfl, Nat.le_of_ble_eq_true rfl⟩)
        refine zg_cost (kc2 := 0) (ks2 := 0) ⟨rfl, rfl⟩ ?_
        refine zg_callS (vs := [zI v4, zI v5]) (rest := []) (rm := rm_X2_boxOf) ok hRm lk_X2_178 dX2_isPair_107 hE (fun hE => mt_X2_boxOf hl hE) rfl (Nat.le_of_ble_eq_true rfl) ⟨⟨Nat.le_of_ble_eq_true rfl, Nat.le_of_ble_eq_true rfl⟩, Nat.le_of_ble_eq_true rfl, Nat.le_of_ble_eq_true rfl⟩ (zg_retI (fun v6 h4 hE => ?_)) (zg_xok ok tab fin ⟨Nat.le_of_ble_eq_true rfl, Nat.le_of_ble_eq_true rfl⟩)
        refine zg_cost (kc2 := 0) (ks2 := 0) ⟨rfl, rfl⟩ ?_
        refine zg_aload_n ok dX2_isPair_110 rfl 0 rfl ?_
        refine zg_getA ok lf_X2_9 dX2_isPair_111 hE (fun v7 hE => ?_)
        refine zg_iconst (v := 3) ok dX2_isPair_114 (by decide) ?_
        refine zg_iald ok dX2_isPair_115 hE (fun v8 hE => ?_)
        refine zg_aload_n ok dX2_isPair_116 rfl 0 rfl ?_
        refine zg_iload_n ok dX2_isPair_117 rfl 2 rfl ?_
        refine zg_iconst (v := 0) ok dX2_isPair_118 (by decide) ?_
        refine zg_callV (vs := [zI a2, zI 0]) (rest := [.int v8, .int v6]) (rm := rm_X2_of) ok hRm lk_X2_163 dX2_isPair_119 hE (fun hE => mt_X2_of hl hE) rfl (Nat.le_of_ble_eq_true rfl) ⟨⟨Nat.le_of_ble_eq_true rfl, Nat.le_of_ble_eq_true rfl⟩, Nat.le_of_ble_eq_true rfl, Nat.le_of_ble_eq_true rfl⟩ (zg_retI (fun v9 h5 hE => ?_)) (zg_xok ok tab fin ⟨Nat.le_of_ble_eq_true rfl, Nat.le_of_ble_eq_true rfl⟩)
        refine zg_cost (kc2 := 0) (ks2 := 0) ⟨rfl, rfl⟩ ?_
        refine zg_callS (vs := [zI v8, zI v9]) (rest := [.int v6]) (rm := rm_X2_boxOf) ok hRm lk_X2_178 dX2_isPair_122 hE (fun hE => mt_X2_boxOf hl hE) rfl (Nat.le_of_ble_eq_true rfl) ⟨⟨Nat.le_of_ble_eq_true rfl, Nat.le_of_ble_eq_true rfl⟩, Nat.le_of_ble_eq_true rfl, Nat.le_of_ble_eq_true rfl⟩ (zg_retI (fun v10 h6 hE => ?_)) (zg_xok ok tab fin ⟨Nat.le_of_ble_eq_true rfl, Nat.le_of_ble_eq_true rfl⟩)
        refine zg_cost (kc2 := 0) (ks2 := 0) ⟨rfl, rfl⟩ ?_
        refine zg_icmp_ne (tgt := 132) ok dX2_isPair_125 (by decide) hE (fun hE => ?_) (fun hE => ?_)
        · refine zg_iconst (v := 0) ok dX2_isPair_132 (by decide) ?_
          exact zg_zret ok fin dX2_isPair_133 ⟨Nat.le_of_ble_eq_true rfl, Nat.le_of_ble_eq_true rfl⟩ rfl hE
        · refine zg_iconst (v := 1) ok dX2_isPair_128 (by decide) ?_
          refine zg_goto (tgt := 133) ok dX2_isPair_129 (by decide) ?_
          exact zg_zret ok fin dX2_isPair_133 ⟨Nat.le_of_ble_eq_true rfl, Nat.le_of_ble_eq_true rfl⟩ rfl hE
      · refine zg_aload_n ok dX2_isPair_81 rfl 0 rfl ?_
        refine zg_iload_n ok dX2_isPair_82 rfl 1 rfl ?_
        refine zg_aload_n ok dX2_isPair_83 rfl 0 rfl ?_
        refine zg_iload_n ok dX2_isPair_84 rfl 2 rfl ?_
        refine zg_iconst (v := 0) ok dX2_isPair_85 (by decide) ?_
        refine zg_callV (vs := [zI a2, zI 0]) (rest := [.int a1, va_rf a0]) (rm := rm_X2_of) ok hRm lk_X2_163 dX2_isPair_86 hE (fun hE => mt_X2_of hl hE) rfl (Nat.le_of_ble_eq_true rfl) ⟨⟨Nat.le_of_ble_eq_true rfl, Nat.le_of_ble_eq_true rfl⟩, Nat.le_of_ble_eq_true rfl, Nat.le_of_ble_eq_true rfl⟩ (zg_retI (fun v11 h7 hE => ?_)) (zg_xok ok tab fin ⟨Nat.le_of_ble_eq_true rfl, Nat.le_of_ble_eq_true rfl⟩)
        refine zg_cost (kc2 := 0) (ks2 := 0) ⟨rfl, rfl⟩ ?_
        refine zg_callV (vs := [zI a1, zI v11]) (rest := []) (rm := rm_X2_isNear) ok hRm lk_X2_263 dX2_isPair_89 hE (fun hE => mt_X2_isNear hl hE) rfl (Nat.le_of_ble_eq_true rfl) ⟨⟨Nat.le_of_ble_eq_true rfl, Nat.le_of_ble_eq_true rfl⟩, Nat.le_of_ble_eq_true rfl, Nat.le_of_ble_eq_true rfl⟩ (zg_retI (fun v12 h8 hE => ?_)) (zg_xok ok tab fin ⟨Nat.le_of_ble_eq_true rfl, Nat.le_of_ble_eq_true rfl⟩)
        refine zg_cost (kc2 := 0) (ks2 := 0) ⟨rfl, rfl⟩ ?_
        refine zg_goto (tgt := 133) ok dX2_isPair_92 (by decide) ?_
        exact zg_zretE (ret := none) ok fin dX2_isPair_133 ⟨Nat.le_of_ble_eq_true rfl, Nat.le_of_ble_eq_true rfl⟩ hE
    · refine zg_aload_n ok dX2_isPair_22 rfl 0 rfl ?_
      refine zg_iload_n ok dX2_isPair_23 rfl 1 rfl ?_
      refine zg_iconst (v := 1) ok dX2_isPair_24 (by decide) ?_
      refine zg_callV (vs := [zI a1, zI 1]) (rest := []) (rm := rm_X2_of) ok hRm lk_X2_163 dX2_isPair_25 hE (fun hE => mt_X2_of hl hE) rfl (Nat.le_of_ble_eq_true rfl) ⟨⟨Nat.le_of_ble_eq_true rfl, Nat.le_of_ble_eq_true rfl⟩, Nat.le_of_ble_eq_true rfl, Nat.le_of_ble_eq_true rfl⟩ (zg_retI (fun v13 h9 hE => ?_)) (zg_xok ok tab fin ⟨Nat.le_of_ble_eq_true rfl, Nat.le_of_ble_eq_true rfl⟩)
      refine zg_cost (kc2 := 0) (ks2 := 0) ⟨rfl, rfl⟩ ?_
      refine zg_if_le (tgt := 35) ok dX2_isPair_28 (by decide) hE (fun hE => ?_) (fun hE => ?_)
      · refine zg_iconst (v := 0) ok dX2_isPair_35 (by decide) ?_
        refine zg_sub (L' := [(0, va_rf a0), (2, .int a2), (3, .int a3)]) [0, 2, 3] rfl ?_
        exact gt_f_X2_isPair_J36 hl ok tab fin hRm  hE
      · refine zg_iconst (v := 1) ok dX2_isPair_31 (by decide) ?_
        refine zg_goto (tgt := 36) ok dX2_isPair_32 (by decide) ?_
        refine zg_sub (L' := [(0, va_rf a0), (2, .int a2), (3, .int a3)]) [0, 2, 3] rfl ?_
        exact gt_f_X2_isPair_J36 hl ok tab fin hRm  hE
  · refine zg_iconst (v := 0) ok dX2_isPair_15 (by decide) ?_
    exact zg_zret ok fin dX2_isPair_16 ⟨Nat.le_of_ble_eq_true rfl, Nat.le_of_ble_eq_true rfl⟩ rfl hE
set_option maxHeartbeats 8000000 in
theorem gt_f_X2_pairs_B38 {Xc : zw_X} {Q : Int32 → zw_H → Prop} {X : String → Nat → zw_H → Prop} (hl : (zw_l Xc).stackTraces = false) (ok : zw_ok Xc cX2_pairs "MultipoleLineModel" yX2_pairs.name 5) (tab : zw_tab Xc []) (fin : zw_fin Xc (Option.some Jvm.ClassFile.FieldType.int) (zq_I Q) X 0 0) (hRm : zw_rm Xc = rm_X2_pairs) {kc ks : Nat} (hb : kc ≤ 0 ∧ ks ≤ 0) {R : Int32 → Int32 → zw_H → Prop} {l0 : Option Nat} {l1 : Int32} {l3 : Int32} (hR : ∀ (l2 : Int32) (l4 : Int32) (h : zw_H), R l2 l4 h → zw_G Xc kc ks 5 h 38 [(0, va_rf l0), (1, .int l1), (3, .int l3), (2, .int l2), (4, .int l4)] []) {k69 : Int32 → zw_H → Prop} (hk69 : ∀ (l2 : Int32) (h : zw_H), k69 l2 h → zw_G Xc kc ks 5 h 69 [(0, va_rf l0), (1, .int l1), (2, .int l2), (3, .int l3)] [])  {l2 : Int32} {l4 : Int32} {h : zw_H} (hE : f_X2_pairs_B38 (zw_Zf Xc).2.2.2 Q X k69 l0 l1 l3 R l2 l4 h) : zw_G Xc kc ks 5 h 38 [(0, va_rf l0), (1, .int l1), (3, .int l3), (2, .int l2), (4, .int l4)] [] := by
  unfold f_X2_pairs_B38 at hE
  refine zg_iload ok dX2_pairs_38 4 rfl ?_
  refine zg_aload_n ok dX2_pairs_40 rfl 0 rfl ?_
  refine zg_getA ok lf_X2_9 dX2_pairs_41 hE (fun v7 hE => ?_)
  refine zg_iconst (v := 0) ok dX2_pairs_44 (by decide) ?_
  refine zg_iald ok dX2_pairs_45 hE (fun v8 hE => ?_)
  refine zg_icmp_ge (tgt := 69) ok dX2_pairs_46 (by decide) hE (fun hE => ?_) (fun hE => ?_)
  · refine zg_sub (L' := [(0, va_rf l0), (1, .int l1), (2, .int l2), (3, .int l3)]) [0, 1, 3, 2] rfl ?_
    exact hk69 _ _ hE
  · refine zg_iload_n ok dX2_pairs_49 rfl 3 rfl ?_
    refine zg_aload_n ok dX2_pairs_50 rfl 0 rfl ?_
    refine zg_iload_n ok dX2_pairs_51 rfl 2 rfl ?_
    refine zg_iload ok dX2_pairs_52 4 rfl ?_
    refine zg_iload_n ok dX2_pairs_54 rfl 1 rfl ?_
    refine zg_callV (vs := [zI l3, zI l4, zI l1]) (rest := [.int l2]) (rm := rm_X2_isPair) ok hRm lk_X2_278 dX2_pairs_55 hE (fun hE => mt_X2_isPair hl hE) rfl (Nat.le_of_ble_eq_true rfl) ⟨⟨Nat.le_of_ble_eq_true rfl, Nat.le_of_ble_eq_true rfl⟩, (by show kc + 0 ≤ 0; omega), (by show ks + 0 ≤ 0; omega)⟩ (zg_retI (fun v9 h3 hE => ?_)) (zg_xok ok tab fin ⟨(by show kc + 0 ≤ 0; omega), (by show ks + 0 ≤ 0; omega)⟩)
    refine zg_cost (kc2 := kc) (ks2 := ks) ⟨(by show kc + 0 = kc; omega), (by show ks + 0 = ks; omega)⟩ ?_
    refine zg_callS (vs := [zI v9]) (rest := [.int l2]) (rm := rm_X2_one) ok hRm lk_X2_170 dX2_pairs_58 hE (fun hE => mt_X2_one hl hE) rfl (Nat.le_of_ble_eq_true rfl) ⟨⟨Nat.le_of_ble_eq_true rfl, Nat.le_of_ble_eq_true rfl⟩, (by show kc + 0 ≤ 0; omega), (by show ks + 0 ≤ 0; omega)⟩ (zg_retI (fun v10 h4 hE => ?_)) (zg_xok ok tab fin ⟨(by show kc + 0 ≤ 0; omega), (by show ks + 0 ≤ 0; omega)⟩)
    refine zg_cost (kc2 := kc) (ks2 := ks) ⟨(by show kc + 0 = kc; omega), (by show ks + 0 = ks; omega)⟩ ?_
    refine zg_iadd ok dX2_pairs_61 ?_
    refine zg_letI hE (fun v11 hE => ?_)
    refine zg_istore_n (L' := [(2, .int v11), (0, va_rf l0), (1, .int l1), (3, .int l3), (4, .int l4)]) ok dX2_pairs_62 rfl (by decide) rfl ?_
    refine zg_iincL (k := 4) (L' := fun v12 => [(4, .int v12), (2, .int v11), (0, va_rf l0), (1, .int l1), (3, .int l3)]) ok dX2_pairs_63 (by decide +kernel) hE rfl (by decide) (fun _ => rfl) (fun v12 hE => ?_)
    refine zg_goto (tgt := 38) ok dX2_pairs_66 (by decide) ?_
    refine zg_sub (L' := [(0, va_rf l0), (1, .int l1), (3, .int l3), (2, .int v11), (4, .int v12)]) [2, 3, 4, 1, 0] rfl ?_
    exact hR _ _ _ hE
theorem gt_f_X2_pairs_L38 {Xc : zw_X} {Q : Int32 → zw_H → Prop} {X : String → Nat → zw_H → Prop} (hl : (zw_l Xc).stackTraces = false) (ok : zw_ok Xc cX2_pairs "MultipoleLineModel" yX2_pairs.name 5) (tab : zw_tab Xc []) (fin : zw_fin Xc (Option.some Jvm.ClassFile.FieldType.int) (zq_I Q) X 0 0) (hRm : zw_rm Xc = rm_X2_pairs) {kc ks : Nat} (hb : kc ≤ 0 ∧ ks ≤ 0) {l0 : Option Nat} {l1 : Int32} {l3 : Int32} {k69 : Int32 → zw_H → Prop} (hk69 : ∀ (l2 : Int32) (h : zw_H), k69 l2 h → zw_G Xc kc ks 5 h 69 [(0, va_rf l0), (1, .int l1), (2, .int l2), (3, .int l3)] [])  : ∀ (n9 : Nat) (l2 : Int32) (l4 : Int32) (h : zw_H), zl3 (f_X2_pairs_B38 (zw_Zf Xc).2.2.2 Q X k69 l0 l1 l3) n9 l2 l4 h → zw_G Xc kc ks 5 h 38 [(0, va_rf l0), (1, .int l1), (3, .int l3), (2, .int l2), (4, .int l4)] [] := by
  intro n9
  induction n9 with
  | zero => intro l2 l4 h hE; exact hE.elim
  | succ n9 ih => intro l2 l4 h hE; exact gt_f_X2_pairs_B38 hl ok tab fin hRm hb ih hk69 hE
set_option maxHeartbeats 8000000 in
theorem gt_f_X2_pairs_B23 {Xc : zw_X} {Q : Int32 → zw_H → Prop} {X : String → Nat → zw_H → Prop} (hl : (zw_l Xc).stackTraces = false) (ok : zw_ok Xc cX2_pairs "MultipoleLineModel" yX2_pairs.name 5) (tab : zw_tab Xc []) (fin : zw_fin Xc (Option.some Jvm.ClassFile.FieldType.int) (zq_I Q) X 0 0) (hRm : zw_rm Xc = rm_X2_pairs) {kc ks : Nat} (hb : kc ≤ 0 ∧ ks ≤ 0) {R : Int32 → Int32 → zw_H → Prop} {l0 : Option Nat} {l1 : Int32} (hR : ∀ (l2 : Int32) (l3 : Int32) (h : zw_H), R l2 l3 h → zw_G Xc kc ks 5 h 23 [(0, va_rf l0), (1, .int l1), (2, .int l2), (3, .int l3)] []) {k75 : Int32 → zw_H → Prop} (hk75 : ∀ (l2 : Int32) (h : zw_H), k75 l2 h → zw_G Xc kc ks 5 h 75 [(2, .int l2)] [])  {l2 : Int32} {l3 : Int32} {h : zw_H} (hE : f_X2_pairs_B23 (zw_Zf Xc).2.2.2 Q X k75 l0 l1 R l2 l3 h) : zw_G Xc kc ks 5 h 23 [(0, va_rf l0), (1, .int l1), (2, .int l2), (3, .int l3)] [] := by
  unfold f_X2_pairs_B23 at hE
  refine zg_iload_n ok dX2_pairs_23 rfl 3 rfl ?_
  refine zg_aload_n ok dX2_pairs_24 rfl 0 rfl ?_
  refine zg_getA ok lf_X2_9 dX2_pairs_25 hE (fun v4 hE => ?_)
  refine zg_iconst (v := 0) ok dX2_pairs_28 (by decide) ?_
  refine zg_iald ok dX2_pairs_29 hE (fun v5 hE => ?_)
  refine zg_icmp_ge (tgt := 75) ok dX2_pairs_30 (by decide) hE (fun hE => ?_) (fun hE => ?_)
  · refine zg_sub (L' := [(2, .int l2)]) [2] rfl ?_
    exact hk75 _ _ hE
  · refine zg_iload_n ok dX2_pairs_33 rfl 3 rfl ?_
    refine zg_iconst (v := 1) ok dX2_pairs_34 (by decide) ?_
    refine zg_iadd ok dX2_pairs_35 ?_
    refine zg_letI hE (fun v6 hE => ?_)
    refine zg_istore (L' := [(4, .int v6), (0, va_rf l0), (1, .int l1), (2, .int l2), (3, .int l3)]) ok dX2_pairs_36 (by decide) rfl ?_
    refine zg_sub (L' := [(0, va_rf l0), (1, .int l1), (3, .int l3), (2, .int l2), (4, .int v6)]) [1, 2, 4, 3, 0] rfl ?_
    refine gt_f_X2_pairs_L38 hl ok tab fin hRm ⟨(by omega), (by omega)⟩ ?_ _ _ _ _ hE
    · intro v13 h5 hE
      refine zg_iincL (k := 3) (L' := fun v14 => [(3, .int v14), (0, va_rf l0), (1, .int l1), (2, .int v13)]) ok dX2_pairs_69 (by decide +kernel) hE rfl (by decide) (fun _ => rfl) (fun v14 hE => ?_)
      refine zg_goto (tgt := 23) ok dX2_pairs_72 (by decide) ?_
      refine zg_sub (L' := [(0, va_rf l0), (1, .int l1), (2, .int v13), (3, .int v14)]) [1, 2, 3, 0] rfl ?_
      exact hR _ _ _ hE
theorem gt_f_X2_pairs_L23 {Xc : zw_X} {Q : Int32 → zw_H → Prop} {X : String → Nat → zw_H → Prop} (hl : (zw_l Xc).stackTraces = false) (ok : zw_ok Xc cX2_pairs "MultipoleLineModel" yX2_pairs.name 5) (tab : zw_tab Xc []) (fin : zw_fin Xc (Option.some Jvm.ClassFile.FieldType.int) (zq_I Q) X 0 0) (hRm : zw_rm Xc = rm_X2_pairs) {kc ks : Nat} (hb : kc ≤ 0 ∧ ks ≤ 0) {l0 : Option Nat} {l1 : Int32} {k75 : Int32 → zw_H → Prop} (hk75 : ∀ (l2 : Int32) (h : zw_H), k75 l2 h → zw_G Xc kc ks 5 h 75 [(2, .int l2)] [])  : ∀ (n9 : Nat) (l2 : Int32) (l3 : Int32) (h : zw_H), zl3 (f_X2_pairs_B23 (zw_Zf Xc).2.2.2 Q X k75 l0 l1) n9 l2 l3 h → zw_G Xc kc ks 5 h 23 [(0, va_rf l0), (1, .int l1), (2, .int l2), (3, .int l3)] [] := by
  intro n9
  induction n9 with
  | zero => intro l2 l3 h hE; exact hE.elim
  | succ n9 ih => intro l2 l3 h hE; exact gt_f_X2_pairs_B23 hl ok tab fin hRm hb ih hk75 hE
set_option maxHeartbeats 8000000 in
theorem mt_X2_pairs {l : Launch} (hl : l.stackTraces = false) {Z : zw_Z} {a0 : Option Nat} {a1 : Int32} {h : zw_H} {Q : Int32 → zw_H → Prop} {X : String → Nat → zw_H → Prop} (hE : f_X2_pairs Z.2.2.2 a0 a1 h Q X) : zw_Met l Z yX2_pairs (ws_ yX2_pairs cX2_pairs 5 (Option.some Jvm.ClassFile.FieldType.int)) rm_X2_pairs [zA a0, zI a1] h (zq_I Q) X := by
  refine zg_start (own := "MultipoleLineModel") (by decide +kernel) rfl (Nat.le_of_ble_eq_true rfl) hl (fun Xc ok tab fin hRm hXl hXZ => ?_)
  subst hXl
  subst hXZ
  unfold f_X2_pairs at hE
  refine zg_aload_n ok dX2_pairs_0 rfl 0 rfl ?_
  refine zg_aload_n ok dX2_pairs_1 rfl 0 rfl ?_
  refine zg_getI ok lf_X2_156 dX2_pairs_2 hE (fun v1 hE => ?_)
  refine zg_iload_n ok dX2_pairs_5 rfl 1 rfl ?_
  refine zg_iconst (v := 0) ok dX2_pairs_6 (by decide) ?_
  refine zg_iconst (v := 3) ok dX2_pairs_7 (by decide) ?_
  refine zg_callS (vs := [zI a1, zI 0, zI 3]) (rest := [.int v1, va_rf a0]) (rm := rm_X2_in) ok hRm lk_X2_77 dX2_pairs_8 hE (fun hE => mt_X2_in hl hE) rfl (Nat.le_of_ble_eq_true rfl) ⟨⟨Nat.le_of_ble_eq_true rfl, Nat.le_of_ble_eq_true rfl⟩, Nat.le_of_ble_eq_true rfl, Nat.le_of_ble_eq_true rfl⟩ (zg_retI (fun v2 h1 hE => ?_)) (zg_xok ok tab fin ⟨Nat.le_of_ble_eq_true rfl, Nat.le_of_ble_eq_true rfl⟩)
  refine zg_cost (kc2 := 0) (ks2 := 0) ⟨rfl, rfl⟩ ?_
  refine zg_callV (vs := [zI v1, zI v2]) (rest := []) (rm := rm_X2_mayTwo) ok hRm lk_X2_193 dX2_pairs_11 hE (fun hE => mt_X2_mayTwo hl hE) rfl (Nat.le_of_ble_eq_true rfl) ⟨⟨Nat.le_of_ble_eq_true rfl, Nat.le_of_ble_eq_true rfl⟩, Nat.le_of_ble_eq_true rfl, Nat.le_of_ble_eq_true rfl⟩ (zg_retI (fun v3 h2 hE => ?_)) (zg_xok ok tab fin ⟨Nat.le_of_ble_eq_true rfl, Nat.le_of_ble_eq_true rfl⟩)
  refine zg_cost (kc2 := 0) (ks2 := 0) ⟨rfl, rfl⟩ ?_
  refine zg_if_ne (tgt := 19) ok dX2_pairs_14 (by decide) hE (fun hE => ?_) (fun hE => ?_)
  · refine zg_iconst (v := 0) ok dX2_pairs_19 (by decide) ?_
    refine zg_istore_n (L' := [(2, .int 0), (0, va_rf a0), (1, .int a1)]) ok dX2_pairs_20 rfl (by decide) rfl ?_
    refine zg_iconst (v := 0) ok dX2_pairs_21 (by decide) ?_
    refine zg_istore_n (L' := [(3, .int 0), (2, .int 0), (0, va_rf a0), (1, .int a1)]) ok dX2_pairs_22 rfl (by decide) rfl ?_
    refine zg_sub (L' := [(0, va_rf a0), (1, .int a1), (2, .int 0), (3, .int 0)]) [2, 3, 1, 0] rfl ?_
    refine gt_f_X2_pairs_L23 hl ok tab fin hRm ⟨Nat.le_of_ble_eq_true rfl, Nat.le_of_ble_eq_true rfl⟩ ?_ _ _ _ _ hE
    · intro v15 h6 hE
      refine zg_iload_n ok dX2_pairs_75 rfl 0 rfl ?_
      exact zg_iret ok fin dX2_pairs_76 ⟨Nat.le_of_ble_eq_true rfl, Nat.le_of_ble_eq_true rfl⟩ hE
  · refine zg_iconst (v := 0) ok dX2_pairs_17 (by decide) ?_
    exact zg_iret ok fin dX2_pairs_18 ⟨Nat.le_of_ble_eq_true rfl, Nat.le_of_ble_eq_true rfl⟩ hE
