set_option maxRecDepth 100000
set_option maxHeartbeats 8000000 in
theorem gt_f_X2_writeLine_B22 {Xc : zw_X} {Q : Int32 → zw_H → Prop} {X : String → Nat → zw_H → Prop} (hl : (zw_l Xc).stackTraces = false) (ok : zw_ok Xc cX2_writeLine "MultipoleLineModel" yX2_writeLine.name 2) (tab : zw_tab Xc []) (fin : zw_fin Xc (Option.some Jvm.ClassFile.FieldType.int) (zq_I Q) X 0 0) (hRm : zw_rm Xc = rm_X2_writeLine) {kc ks : Nat} (hb : kc ≤ 0 ∧ ks ≤ 0) {R : Int32 → zw_H → Prop} {l0 : Option Nat} (hR : ∀ (l1 : Int32) (h : zw_H), R l1 h → zw_G Xc kc ks 2 h 22 [(0, va_rf l0), (1, .int l1)] []) {k43 : zw_H → Prop} (hk43 : ∀  (h : zw_H), k43  h → zw_G Xc kc ks 2 h 43 [(0, va_rf l0)] [])  {l1 : Int32} {h : zw_H} (hE : f_X2_writeLine_B22 (zw_Zf Xc).2.2.2 Q X k43 l0 R l1 h) : zw_G Xc kc ks 2 h 22 [(0, va_rf l0), (1, .int l1)] [] := by
  unfold f_X2_writeLine_B22 at hE
  refine zg_iload_n ok dX2_writeLine_22 rfl 1 rfl ?_
  refine zg_iconst (v := 5) ok dX2_writeLine_23 (by decide) ?_
  refine zg_icmp_gt (tgt := 43) ok dX2_writeLine_24 (by decide) hE (fun hE => ?_) (fun hE => ?_)
  · refine zg_sub (L' := [(0, va_rf l0)]) [0] rfl ?_
    exact hk43 _ hE
  · refine zg_aload_n ok dX2_writeLine_27 rfl 0 rfl ?_
    refine zg_aload_n ok dX2_writeLine_28 rfl 0 rfl ?_
    refine zg_getA ok lf_X2_9 dX2_writeLine_29 hE (fun v2 hE => ?_)
    refine zg_iload_n ok dX2_writeLine_32 rfl 1 rfl ?_
    refine zg_iald ok dX2_writeLine_33 hE (fun v3 hE => ?_)
    refine zg_callV (vs := [zI v3]) (rest := []) (rm := rm_X2_writesToken) ok hRm lk_X2_398 dX2_writeLine_34 hE (fun hE => mt_X2_writesToken hl hE) rfl (Nat.le_of_ble_eq_true rfl) ⟨⟨Nat.le_of_ble_eq_true rfl, Nat.le_of_ble_eq_true rfl⟩, (by show kc + 0 ≤ 0; omega), (by show ks + 0 ≤ 0; omega)⟩ (zg_retV (fun h4 hE => ?_)) (zg_xok ok tab fin ⟨(by show kc + 0 ≤ 0; omega), (by show ks + 0 ≤ 0; omega)⟩)
    refine zg_cost (kc2 := kc) (ks2 := ks) ⟨(by show kc + 0 = kc; omega), (by show ks + 0 = ks; omega)⟩ ?_
    refine zg_iincLR (k := 1) (L' := fun v4 => [(1, .int v4), (0, va_rf l0)]) ok dX2_writeLine_37 (by decide +kernel) hE rfl (by decide) rfl (k9 := 0) rfl (fun _ => rfl) (fun v4 hE => ?_)
    refine zg_goto (tgt := 22) ok dX2_writeLine_40 (by decide) ?_
    refine zg_sub (L' := [(0, va_rf l0), (1, .int v4)]) [1, 0] rfl ?_
    exact hR _ _ hE
theorem gt_f_X2_writeLine_L22 {Xc : zw_X} {Q : Int32 → zw_H → Prop} {X : String → Nat → zw_H → Prop} (hl : (zw_l Xc).stackTraces = false) (ok : zw_ok Xc cX2_writeLine "MultipoleLineModel" yX2_writeLine.name 2) (tab : zw_tab Xc []) (fin : zw_fin Xc (Option.some Jvm.ClassFile.FieldType.int) (zq_I Q) X 0 0) (hRm : zw_rm Xc = rm_X2_writeLine) {kc ks : Nat} (hb : kc ≤ 0 ∧ ks ≤ 0) {l0 : Option Nat} {k43 : zw_H → Prop} (hk43 : ∀  (h : zw_H), k43  h → zw_G Xc kc ks 2 h 43 [(0, va_rf l0)] [])  : ∀ (n9 : Nat) (l1 : Int32) (h : zw_H), zl2 (f_X2_writeLine_B22 (zw_Zf Xc).2.2.2 Q X k43 l0) n9 l1 h → zw_G Xc kc ks 2 h 22 [(0, va_rf l0), (1, .int l1)] [] := by
  intro n9
  induction n9 with
  | zero => intro l1 h hE; exact hE.elim
  | succ n9 ih => intro l1 h hE; exact gt_f_X2_writeLine_B22 hl ok tab fin hRm hb ih hk43 hE
set_option maxHeartbeats 8000000 in
theorem gt_f_X2_writeLine_J104 {Xc : zw_X} {Q : Int32 → zw_H → Prop} {X : String → Nat → zw_H → Prop} (hl : (zw_l Xc).stackTraces = false) (ok : zw_ok Xc cX2_writeLine "MultipoleLineModel" yX2_writeLine.name 2) (tab : zw_tab Xc []) (fin : zw_fin Xc (Option.some Jvm.ClassFile.FieldType.int) (zq_I Q) X 0 0) (hRm : zw_rm Xc = rm_X2_writeLine) {kc ks : Nat} (hb : kc ≤ 0 ∧ ks ≤ 0) {R : Int32 → zw_H → Prop} {l0 : Option Nat} (hR : ∀ (l1 : Int32) (h : zw_H), R l1 h → zw_G Xc kc ks 2 h 45 [(0, va_rf l0), (1, .int l1)] []) {k124 : zw_H → Prop} (hk124 : ∀  (h : zw_H), k124  h → zw_G Xc kc ks 2 h 124 [(0, va_rf l0)] [])  {l1 : Int32}  {h : zw_H} (hE : f_X2_writeLine_J104 (zw_Zf Xc).2.2.2 Q X R k124 l0 l1 h) : zw_G Xc kc ks 2 h 104 [(0, va_rf l0), (1, .int l1)] [] := by
  unfold f_X2_writeLine_J104 at hE
  refine zg_aload_n ok dX2_writeLine_104 rfl 0 rfl ?_
  refine zg_aload_n ok dX2_writeLine_105 rfl 0 rfl ?_
  refine zg_iload_n ok dX2_writeLine_106 rfl 1 rfl ?_
  refine zg_iconst (v := 1) ok dX2_writeLine_107 (by decide) ?_
  refine zg_callV (vs := [zI l1, zI 1]) (rest := [va_rf l0]) (rm := rm_X2_of) ok hRm lk_X2_163 dX2_writeLine_108 hE (fun hE => mt_X2_of hl hE) rfl (Nat.le_of_ble_eq_true rfl) ⟨⟨Nat.le_of_ble_eq_true rfl, Nat.le_of_ble_eq_true rfl⟩, (by show kc + 0 ≤ 0; omega), (by show ks + 0 ≤ 0; omega)⟩ (zg_retI (fun v10 h11 hE => ?_)) (zg_xok ok tab fin ⟨(by show kc + 0 ≤ 0; omega), (by show ks + 0 ≤ 0; omega)⟩)
  refine zg_cost (kc2 := kc) (ks2 := ks) ⟨(by show kc + 0 = kc; omega), (by show ks + 0 = ks; omega)⟩ ?_
  refine zg_iconst (v := 0) ok dX2_writeLine_111 (by decide) ?_
  refine zg_callS (vs := [zI v10, zI 0]) (rest := [va_rf l0]) (rm := rm_X2_far) ok hRm lk_X2_187 dX2_writeLine_112 hE (fun hE => mt_X2_far hl hE) rfl (Nat.le_of_ble_eq_true rfl) ⟨⟨Nat.le_of_ble_eq_true rfl, Nat.le_of_ble_eq_true rfl⟩, (by show kc + 0 ≤ 0; omega), (by show ks + 0 ≤ 0; omega)⟩ (zg_retI (fun v11 h12 hE => ?_)) (zg_xok ok tab fin ⟨(by show kc + 0 ≤ 0; omega), (by show ks + 0 ≤ 0; omega)⟩)
  refine zg_cost (kc2 := kc) (ks2 := ks) ⟨(by show kc + 0 = kc; omega), (by show ks + 0 = ks; omega)⟩ ?_
  refine zg_callV (vs := [zI v11]) (rest := []) (rm := rm_X2_writesToken) ok hRm lk_X2_398 dX2_writeLine_115 hE (fun hE => mt_X2_writesToken hl hE) rfl (Nat.le_of_ble_eq_true rfl) ⟨⟨Nat.le_of_ble_eq_true rfl, Nat.le_of_ble_eq_true rfl⟩, (by show kc + 0 ≤ 0; omega), (by show ks + 0 ≤ 0; omega)⟩ (zg_retV (fun h13 hE => ?_)) (zg_xok ok tab fin ⟨(by show kc + 0 ≤ 0; omega), (by show ks + 0 ≤ 0; omega)⟩)
  refine zg_cost (kc2 := kc) (ks2 := ks) ⟨(by show kc + 0 = kc; omega), (by show ks + 0 = ks; omega)⟩ ?_
  refine zg_iincLR (k := 1) (L' := fun v12 => [(1, .int v12), (0, va_rf l0)]) ok dX2_writeLine_118 (by decide +kernel) hE rfl (by decide) rfl (k9 := 0) rfl (fun _ => rfl) (fun v12 hE => ?_)
  refine zg_goto (tgt := 45) ok dX2_writeLine_121 (by decide) ?_
  refine zg_sub (L' := [(0, va_rf l0), (1, .int v12)]) [1, 0] rfl ?_
  exact hR _ _ hE
set_option maxHeartbeats 8000000 in
theorem gt_f_X2_writeLine_J75 {Xc : zw_X} {Q : Int32 → zw_H → Prop} {X : String → Nat → zw_H → Prop} (hl : (zw_l Xc).stackTraces = false) (ok : zw_ok Xc cX2_writeLine "MultipoleLineModel" yX2_writeLine.name 2) (tab : zw_tab Xc []) (fin : zw_fin Xc (Option.some Jvm.ClassFile.FieldType.int) (zq_I Q) X 0 0) (hRm : zw_rm Xc = rm_X2_writeLine) {kc ks : Nat} (hb : kc ≤ 0 ∧ ks ≤ 0) {R : Int32 → zw_H → Prop} {l0 : Option Nat} (hR : ∀ (l1 : Int32) (h : zw_H), R l1 h → zw_G Xc kc ks 2 h 45 [(0, va_rf l0), (1, .int l1)] []) {k124 : zw_H → Prop} (hk124 : ∀  (h : zw_H), k124  h → zw_G Xc kc ks 2 h 124 [(0, va_rf l0)] [])  {l1 : Int32} {s0 : Option Nat} {s1 : Option Nat} {h : zw_H} (hE : f_X2_writeLine_J75 (zw_Zf Xc).2.2.2 Q X R k124 l0 l1 s0 s1 h) : zw_G Xc kc ks 2 h 75 [(0, va_rf l0), (1, .int l1)] [va_rf s0, va_rf s1] := by
  unfold f_X2_writeLine_J75 at hE
  refine zg_callV (vs := [zA s0]) (rest := []) (rm := rm_X2_writesWord) ok hRm lk_X2_394 dX2_writeLine_75 hE (fun hE => mt_X2_writesWord hl hE) rfl (Nat.le_of_ble_eq_true rfl) ⟨⟨Nat.le_of_ble_eq_true rfl, Nat.le_of_ble_eq_true rfl⟩, (by show kc + 0 ≤ 0; omega), (by show ks + 0 ≤ 0; omega)⟩ (zg_retV (fun h7 hE => ?_)) (zg_xok ok tab fin ⟨(by show kc + 0 ≤ 0; omega), (by show ks + 0 ≤ 0; omega)⟩)
  refine zg_cost (kc2 := kc) (ks2 := ks) ⟨(by show kc + 0 = kc; omega), (by show ks + 0 = ks; omega)⟩ ?_
  refine zg_aload_n ok dX2_writeLine_78 rfl 0 rfl ?_
  refine zg_aload_n ok dX2_writeLine_79 rfl 0 rfl ?_
  refine zg_iload_n ok dX2_writeLine_80 rfl 1 rfl ?_
  refine zg_iconst (v := 0) ok dX2_writeLine_81 (by decide) ?_
  refine zg_callV (vs := [zI l1, zI 0]) (rest := [va_rf l0]) (rm := rm_X2_of) ok hRm lk_X2_163 dX2_writeLine_82 hE (fun hE => mt_X2_of hl hE) rfl (Nat.le_of_ble_eq_true rfl) ⟨⟨Nat.le_of_ble_eq_true rfl, Nat.le_of_ble_eq_true rfl⟩, (by show kc + 0 ≤ 0; omega), (by show ks + 0 ≤ 0; omega)⟩ (zg_retI (fun v8 h8 hE => ?_)) (zg_xok ok tab fin ⟨(by show kc + 0 ≤ 0; omega), (by show ks + 0 ≤ 0; omega)⟩)
  refine zg_cost (kc2 := kc) (ks2 := ks) ⟨(by show kc + 0 = kc; omega), (by show ks + 0 = ks; omega)⟩ ?_
  refine zg_callV (vs := [zI v8]) (rest := []) (rm := rm_X2_writesToken) ok hRm lk_X2_398 dX2_writeLine_85 hE (fun hE => mt_X2_writesToken hl hE) rfl (Nat.le_of_ble_eq_true rfl) ⟨⟨Nat.le_of_ble_eq_true rfl, Nat.le_of_ble_eq_true rfl⟩, (by show kc + 0 ≤ 0; omega), (by show ks + 0 ≤ 0; omega)⟩ (zg_retV (fun h9 hE => ?_)) (zg_xok ok tab fin ⟨(by show kc + 0 ≤ 0; omega), (by show ks + 0 ≤ 0; omega)⟩)
  refine zg_cost (kc2 := kc) (ks2 := ks) ⟨(by show kc + 0 = kc; omega), (by show ks + 0 = ks; omega)⟩ ?_
  refine zg_aload_n ok dX2_writeLine_88 rfl 0 rfl ?_
  refine zg_iload_n ok dX2_writeLine_89 rfl 1 rfl ?_
  refine zg_iconst (v := 1) ok dX2_writeLine_90 (by decide) ?_
  refine zg_callV (vs := [zI l1, zI 1]) (rest := []) (rm := rm_X2_of) ok hRm lk_X2_163 dX2_writeLine_91 hE (fun hE => mt_X2_of hl hE) rfl (Nat.le_of_ble_eq_true rfl) ⟨⟨Nat.le_of_ble_eq_true rfl, Nat.le_of_ble_eq_true rfl⟩, (by show kc + 0 ≤ 0; omega), (by show ks + 0 ≤ 0; omega)⟩ (zg_retI (fun v9 h10 hE => ?_)) (zg_xok ok tab fin ⟨(by show kc + 0 ≤ 0; omega), (by show ks + 0 ≤ 0; omega)⟩)
  refine zg_cost (kc2 := kc) (ks2 := ks) ⟨(by show kc + 0 = kc; omega), (by show ks + 0 = ks; omega)⟩ ?_
  refine zg_if_ge (tgt := 104) ok dX2_writeLine_94 (by decide) hE (fun hE => ?_) (fun hE => ?_)
  · exact gt_f_X2_writeLine_J104 hl ok tab fin hRm hb hR hk124 hE
  · refine zg_aload_n ok dX2_writeLine_97 rfl 0 rfl ?_
    refine zg_ldcSw ok ls_X2_405 dX2_writeLine_98 ?_
    refine zg_callV (vs := [zA ((zw_Zf Xc).2.2.2 22)]) (rest := []) (rm := rm_X2_writesWord) ok hRm lk_X2_394 dX2_writeLine_101 hE (fun hE => mt_X2_writesWord hl hE) rfl (Nat.le_of_ble_eq_true rfl) ⟨⟨Nat.le_of_ble_eq_true rfl, Nat.le_of_ble_eq_true rfl⟩, (by show kc + 0 ≤ 0; omega), (by show ks + 0 ≤ 0; omega)⟩ (zg_retV (fun h14 hE => ?_)) (zg_xok ok tab fin ⟨(by show kc + 0 ≤ 0; omega), (by show ks + 0 ≤ 0; omega)⟩)
    refine zg_cost (kc2 := kc) (ks2 := ks) ⟨(by show kc + 0 = kc; omega), (by show ks + 0 = ks; omega)⟩ ?_
    exact gt_f_X2_writeLine_J104 hl ok tab fin hRm hb hR hk124 hE
set_option maxHeartbeats 8000000 in
theorem gt_f_X2_writeLine_B45 {Xc : zw_X} {Q : Int32 → zw_H → Prop} {X : String → Nat → zw_H → Prop} (hl : (zw_l Xc).stackTraces = false) (ok : zw_ok Xc cX2_writeLine "MultipoleLineModel" yX2_writeLine.name 2) (tab : zw_tab Xc []) (fin : zw_fin Xc (Option.some Jvm.ClassFile.FieldType.int) (zq_I Q) X 0 0) (hRm : zw_rm Xc = rm_X2_writeLine) {kc ks : Nat} (hb : kc ≤ 0 ∧ ks ≤ 0) {R : Int32 → zw_H → Prop} {l0 : Option Nat} (hR : ∀ (l1 : Int32) (h : zw_H), R l1 h → zw_G Xc kc ks 2 h 45 [(0, va_rf l0), (1, .int l1)] []) {k124 : zw_H → Prop} (hk124 : ∀  (h : zw_H), k124  h → zw_G Xc kc ks 2 h 124 [(0, va_rf l0)] [])  {l1 : Int32} {h : zw_H} (hE : f_X2_writeLine_B45 (zw_Zf Xc).2.2.2 Q X k124 l0 R l1 h) : zw_G Xc kc ks 2 h 45 [(0, va_rf l0), (1, .int l1)] [] := by
  unfold f_X2_writeLine_B45 at hE
  refine zg_iload_n ok dX2_writeLine_45 rfl 1 rfl ?_
  refine zg_aload_n ok dX2_writeLine_46 rfl 0 rfl ?_
  refine zg_getA ok lf_X2_9 dX2_writeLine_47 hE (fun v5 hE => ?_)
  refine zg_iconst (v := 0) ok dX2_writeLine_50 (by decide) ?_
  refine zg_iald ok dX2_writeLine_51 hE (fun v6 hE => ?_)
  refine zg_icmp_ge (tgt := 124) ok dX2_writeLine_52 (by decide) hE (fun hE => ?_) (fun hE => ?_)
  · refine zg_sub (L' := [(0, va_rf l0)]) [0] rfl ?_
    exact hk124 _ hE
  · refine zg_aload_n ok dX2_writeLine_55 rfl 0 rfl ?_
    refine zg_aload_n ok dX2_writeLine_56 rfl 0 rfl ?_
    refine zg_iload_n ok dX2_writeLine_57 rfl 1 rfl ?_
    refine zg_iconst (v := 2) ok dX2_writeLine_58 (by decide) ?_
    refine zg_callV (vs := [zI l1, zI 2]) (rest := [va_rf l0]) (rm := rm_X2_of) ok hRm lk_X2_163 dX2_writeLine_59 hE (fun hE => mt_X2_of hl hE) rfl (Nat.le_of_ble_eq_true rfl) ⟨⟨Nat.le_of_ble_eq_true rfl, Nat.le_of_ble_eq_true rfl⟩, (by show kc + 0 ≤ 0; omega), (by show ks + 0 ≤ 0; omega)⟩ (zg_retI (fun v7 h6 hE => ?_)) (zg_xok ok tab fin ⟨(by show kc + 0 ≤ 0; omega), (by show ks + 0 ≤ 0; omega)⟩)
    refine zg_cost (kc2 := kc) (ks2 := ks) ⟨(by show kc + 0 = kc; omega), (by show ks + 0 = ks; omega)⟩ ?_
    refine zg_iconst (v := 1) ok dX2_writeLine_62 (by decide) ?_
    refine zg_icmp_ne (tgt := 72) ok dX2_writeLine_63 (by decide) hE (fun hE => ?_) (fun hE => ?_)
    · refine zg_ldcSw ok ls_X2_403 dX2_writeLine_72 ?_
      exact gt_f_X2_writeLine_J75 hl ok tab fin hRm hb hR hk124 hE
    · refine zg_ldcSw ok ls_X2_401 dX2_writeLine_66 ?_
      refine zg_goto (tgt := 75) ok dX2_writeLine_69 (by decide) ?_
      exact gt_f_X2_writeLine_J75 hl ok tab fin hRm hb hR hk124 hE
theorem gt_f_X2_writeLine_L45 {Xc : zw_X} {Q : Int32 → zw_H → Prop} {X : String → Nat → zw_H → Prop} (hl : (zw_l Xc).stackTraces = false) (ok : zw_ok Xc cX2_writeLine "MultipoleLineModel" yX2_writeLine.name 2) (tab : zw_tab Xc []) (fin : zw_fin Xc (Option.some Jvm.ClassFile.FieldType.int) (zq_I Q) X 0 0) (hRm : zw_rm Xc = rm_X2_writeLine) {kc ks : Nat} (hb : kc ≤ 0 ∧ ks ≤ 0) {l0 : Option Nat} {k124 : zw_H → Prop} (hk124 : ∀  (h : zw_H), k124  h → zw_G Xc kc ks 2 h 124 [(0, va_rf l0)] [])  : ∀ (n9 : Nat) (l1 : Int32) (h : zw_H), zl2 (f_X2_writeLine_B45 (zw_Zf Xc).2.2.2 Q X k124 l0) n9 l1 h → zw_G Xc kc ks 2 h 45 [(0, va_rf l0), (1, .int l1)] [] := by
  intro n9
  induction n9 with
  | zero => intro l1 h hE; exact hE.elim
  | succ n9 ih => intro l1 h hE; exact gt_f_X2_writeLine_B45 hl ok tab fin hRm hb ih hk124 hE
set_option maxHeartbeats 8000000 in
theorem mt_X2_writeLine {l : Launch} (hl : l.stackTraces = false) {Z : zw_Z} {a0 : Option Nat} {h : zw_H} {Q : Int32 → zw_H → Prop} {X : String → Nat → zw_H → Prop} (hE : f_X2_writeLine Z.2.2.2 a0 h Q X) : zw_Met l Z yX2_writeLine (ws_ yX2_writeLine cX2_writeLine 2 (Option.some Jvm.ClassFile.FieldType.int)) rm_X2_writeLine [zA a0] h (zq_I Q) X := by
  refine zg_start (own := "MultipoleLineModel") (by decide +kernel) rfl (Nat.le_of_ble_eq_true rfl) hl (fun Xc ok tab fin hRm hXl hXZ => ?_)
  subst hXl
  subst hXZ
  unfold f_X2_writeLine at hE
  refine zg_aload_n ok dX2_writeLine_0 rfl 0 rfl ?_
  refine zg_callV (vs := []) (rest := []) (rm := rm_X2_mayAsk) ok hRm lk_X2_229 dX2_writeLine_1 hE (fun hE => mt_X2_mayAsk hl hE) rfl (Nat.le_of_ble_eq_true rfl) ⟨⟨Nat.le_of_ble_eq_true rfl, Nat.le_of_ble_eq_true rfl⟩, Nat.le_of_ble_eq_true rfl, Nat.le_of_ble_eq_true rfl⟩ (zg_retI (fun v1 h1 hE => ?_)) (zg_xok ok tab fin ⟨Nat.le_of_ble_eq_true rfl, Nat.le_of_ble_eq_true rfl⟩)
  refine zg_cost (kc2 := 0) (ks2 := 0) ⟨rfl, rfl⟩ ?_
  refine zg_if_ne (tgt := 9) ok dX2_writeLine_4 (by decide) hE (fun hE => ?_) (fun hE => ?_)
  · refine zg_aload_n ok dX2_writeLine_9 rfl 0 rfl ?_
    refine zg_iconst (v := 0) ok dX2_writeLine_10 (by decide) ?_
    refine zg_put (ty := .int) ok lf_X2_382 (Or.inl rfl) (by decide) (by decide +kernel) rfl rfl dX2_writeLine_11 hE (fun h2 hE => ?_)
    refine zg_aload_n ok dX2_writeLine_14 rfl 0 rfl ?_
    refine zg_ldcS ok ls_X2_139 dX2_writeLine_15 ?_
    refine zg_callV (vs := [zA ((zw_Zf Xc).2.2.2 16)]) (rest := []) (rm := rm_X2_writesWord) ok hRm lk_X2_394 dX2_writeLine_17 hE (fun hE => mt_X2_writesWord hl hE) rfl (Nat.le_of_ble_eq_true rfl) ⟨⟨Nat.le_of_ble_eq_true rfl, Nat.le_of_ble_eq_true rfl⟩, Nat.le_of_ble_eq_true rfl, Nat.le_of_ble_eq_true rfl⟩ (zg_retV (fun h3 hE => ?_)) (zg_xok ok tab fin ⟨Nat.le_of_ble_eq_true rfl, Nat.le_of_ble_eq_true rfl⟩)
    refine zg_cost (kc2 := 0) (ks2 := 0) ⟨rfl, rfl⟩ ?_
    refine zg_iconst (v := 3) ok dX2_writeLine_20 (by decide) ?_
    refine zg_istore_nR (L' := [(1, .int 3), (0, va_rf a0)]) ok dX2_writeLine_21 rfl (by decide) 0 rfl rfl rfl ?_
    refine zg_sub (L' := [(0, va_rf a0), (1, .int 3)]) [1, 0] rfl ?_
    refine gt_f_X2_writeLine_L22 hl ok tab fin hRm ⟨Nat.le_of_ble_eq_true rfl, Nat.le_of_ble_eq_true rfl⟩ ?_ _ _ _ hE
    · intro h5 hE
      refine zg_iconst (v := 0) ok dX2_writeLine_43 (by decide) ?_
      refine zg_istore_nR (L' := [(1, .int 0), (0, va_rf a0)]) ok dX2_writeLine_44 rfl (by decide) 0 rfl rfl rfl ?_
      refine zg_sub (L' := [(0, va_rf a0), (1, .int 0)]) [1, 0] rfl ?_
      refine gt_f_X2_writeLine_L45 hl ok tab fin hRm ⟨Nat.le_of_ble_eq_true rfl, Nat.le_of_ble_eq_true rfl⟩ ?_ _ _ _ hE
      · intro h15 hE
        refine zg_aload_n ok dX2_writeLine_124 rfl 0 rfl ?_
        refine zg_getI ok lf_X2_382 dX2_writeLine_125 hE (fun v13 hE => ?_)
        exact zg_iret ok fin dX2_writeLine_128 ⟨Nat.le_of_ble_eq_true rfl, Nat.le_of_ble_eq_true rfl⟩ hE
  · refine zg_iconst (v := 0) ok dX2_writeLine_7 (by decide) ?_
    exact zg_iret ok fin dX2_writeLine_8 ⟨Nat.le_of_ble_eq_true rfl, Nat.le_of_ble_eq_true rfl⟩ hE
set_option maxHeartbeats 8000000 in
theorem gt_f_X2_writeFar_J53 {Xc : zw_X} {Q : Int32 → zw_H → Prop} {X : String → Nat → zw_H → Prop} (hl : (zw_l Xc).stackTraces = false) (ok : zw_ok Xc cX2_writeFar "MultipoleLineModel" yX2_writeFar.name 3) (tab : zw_tab Xc []) (fin : zw_fin Xc (Option.some Jvm.ClassFile.FieldType.int) (zq_I Q) X 0 0) (hRm : zw_rm Xc = rm_X2_writeFar) {kc ks : Nat} (hb : kc ≤ 0 ∧ ks ≤ 0) {R : Int32 → zw_H → Prop} {l0 : Option Nat} (hR : ∀ (l2 : Int32) (h : zw_H), R l2 h → zw_G Xc kc ks 3 h 35 [(0, va_rf l0), (2, .int l2)] []) {k85 : zw_H → Prop} (hk85 : ∀  (h : zw_H), k85  h → zw_G Xc kc ks 3 h 85 [(0, va_rf l0)] [])  {l2 : Int32}  {h : zw_H} (hE : f_X2_writeFar_J53 (zw_Zf Xc).2.2.2 Q X R k85 l0 l2 h) : zw_G Xc kc ks 3 h 53 [(0, va_rf l0), (2, .int l2)] [] := by
  unfold f_X2_writeFar_J53 at hE
  refine zg_aload_n ok dX2_writeFar_53 rfl 0 rfl ?_
  refine zg_aload_n ok dX2_writeFar_54 rfl 0 rfl ?_
  refine zg_getA ok lf_X2_38 dX2_writeFar_55 hE (fun v4 hE => ?_)
  refine zg_iload_n ok dX2_writeFar_58 rfl 1 rfl ?_
  refine zg_iald ok dX2_writeFar_59 hE (fun v5 hE => ?_)
  refine zg_callV (vs := [zI v5]) (rest := []) (rm := rm_X2_writesNumber) ok hRm lk_X2_388 dX2_writeFar_60 hE (fun hE => mt_X2_writesNumber hl hE) rfl (Nat.le_of_ble_eq_true rfl) ⟨⟨Nat.le_of_ble_eq_true rfl, Nat.le_of_ble_eq_true rfl⟩, (by show kc + 0 ≤ 0; omega), (by show ks + 0 ≤ 0; omega)⟩ (zg_retV (fun h4 hE => ?_)) (zg_xok ok tab fin ⟨(by show kc + 0 ≤ 0; omega), (by show ks + 0 ≤ 0; omega)⟩)
  refine zg_cost (kc2 := kc) (ks2 := ks) ⟨(by show kc + 0 = kc; omega), (by show ks + 0 = ks; omega)⟩ ?_
  refine zg_aload_n ok dX2_writeFar_63 rfl 0 rfl ?_
  refine zg_bipush (v := 47) ok dX2_writeFar_64 (by decide) ?_
  refine zg_callV (vs := [zI 47]) (rest := []) (rm := rm_X2_writesByte) ok hRm lk_X2_385 dX2_writeFar_66 hE (fun hE => mt_X2_writesByte hl hE) rfl (Nat.le_of_ble_eq_true rfl) ⟨⟨Nat.le_of_ble_eq_true rfl, Nat.le_of_ble_eq_true rfl⟩, (by show kc + 0 ≤ 0; omega), (by show ks + 0 ≤ 0; omega)⟩ (zg_retV (fun h5 hE => ?_)) (zg_xok ok tab fin ⟨(by show kc + 0 ≤ 0; omega), (by show ks + 0 ≤ 0; omega)⟩)
  refine zg_cost (kc2 := kc) (ks2 := ks) ⟨(by show kc + 0 = kc; omega), (by show ks + 0 = ks; omega)⟩ ?_
  refine zg_aload_n ok dX2_writeFar_69 rfl 0 rfl ?_
  refine zg_aload_n ok dX2_writeFar_70 rfl 0 rfl ?_
  refine zg_getA ok lf_X2_41 dX2_writeFar_71 hE (fun v6 hE => ?_)
  refine zg_iload_n ok dX2_writeFar_74 rfl 1 rfl ?_
  refine zg_iald ok dX2_writeFar_75 hE (fun v7 hE => ?_)
  refine zg_callV (vs := [zI v7]) (rest := []) (rm := rm_X2_writesNumber) ok hRm lk_X2_388 dX2_writeFar_76 hE (fun hE => mt_X2_writesNumber hl hE) rfl (Nat.le_of_ble_eq_true rfl) ⟨⟨Nat.le_of_ble_eq_true rfl, Nat.le_of_ble_eq_true rfl⟩, (by show kc + 0 ≤ 0; omega), (by show ks + 0 ≤ 0; omega)⟩ (zg_retV (fun h6 hE => ?_)) (zg_xok ok tab fin ⟨(by show kc + 0 ≤ 0; omega), (by show ks + 0 ≤ 0; omega)⟩)
  refine zg_cost (kc2 := kc) (ks2 := ks) ⟨(by show kc + 0 = kc; omega), (by show ks + 0 = ks; omega)⟩ ?_
  refine zg_iincL (k := 1) (L' := fun v8 => [(2, .int v8), (0, va_rf l0)]) ok dX2_writeFar_79 (by decide +kernel) hE rfl (by decide) (fun _ => rfl) (fun v8 hE => ?_)
  refine zg_goto (tgt := 35) ok dX2_writeFar_82 (by decide) ?_
  refine zg_sub (L' := [(0, va_rf l0), (2, .int v8)]) [1, 0] rfl ?_
  exact hR _ _ hE
set_option maxHeartbeats 8000000 in
theorem gt_f_X2_writeFar_B35 {Xc : zw_X} {Q : Int32 → zw_H → Prop} {X : String → Nat → zw_H → Prop} (hl : (zw_l Xc).stackTraces = false) (ok : zw_ok Xc cX2_writeFar "MultipoleLineModel" yX2_writeFar.name 3) (tab : zw_tab Xc []) (fin : zw_fin Xc (Option.some Jvm.ClassFile.FieldType.int) (zq_I Q) X 0 0) (hRm : zw_rm Xc = rm_X2_writeFar) {kc ks : Nat} (hb : kc ≤ 0 ∧ ks ≤ 0) {R : Int32 → zw_H → Prop} {l0 : Option Nat} (hR : ∀ (l2 : Int32) (h : zw_H), R l2 h → zw_G Xc kc ks 3 h 35 [(0, va_rf l0), (2, .int l2)] []) {k85 : zw_H → Prop} (hk85 : ∀  (h : zw_H), k85  h → zw_G Xc kc ks 3 h 85 [(0, va_rf l0)] [])  {l2 : Int32} {h : zw_H} (hE : f_X2_writeFar_B35 (zw_Zf Xc).2.2.2 Q X k85 l0 R l2 h) : zw_G Xc kc ks 3 h 35 [(0, va_rf l0), (2, .int l2)] [] := by
  unfold f_X2_writeFar_B35 at hE
  refine zg_iload_n ok dX2_writeFar_35 rfl 1 rfl ?_
  refine zg_aload_n ok dX2_writeFar_36 rfl 0 rfl ?_
  refine zg_getI ok lf_X2_269 dX2_writeFar_37 hE (fun v3 hE => ?_)
  refine zg_icmp_ge (tgt := 85) ok dX2_writeFar_40 (by decide) hE (fun hE => ?_) (fun hE => ?_)
  · refine zg_sub (L' := [(0, va_rf l0)]) [0] rfl ?_
    exact hk85 _ hE
  · refine zg_iload_n ok dX2_writeFar_43 rfl 1 rfl ?_
    refine zg_if_le (tgt := 53) ok dX2_writeFar_44 (by decide) hE (fun hE => ?_) (fun hE => ?_)
    · exact gt_f_X2_writeFar_J53 hl ok tab fin hRm hb hR hk85 hE
    · refine zg_aload_n ok dX2_writeFar_47 rfl 0 rfl ?_
      refine zg_bipush (v := 32) ok dX2_writeFar_48 (by decide) ?_
      refine zg_callV (vs := [zI 32]) (rest := []) (rm := rm_X2_writesByte) ok hRm lk_X2_385 dX2_writeFar_50 hE (fun hE => mt_X2_writesByte hl hE) rfl (Nat.le_of_ble_eq_true rfl) ⟨⟨Nat.le_of_ble_eq_true rfl, Nat.le_of_ble_eq_true rfl⟩, (by show kc + 0 ≤ 0; omega), (by show ks + 0 ≤ 0; omega)⟩ (zg_retV (fun h7 hE => ?_)) (zg_xok ok tab fin ⟨(by show kc + 0 ≤ 0; omega), (by show ks + 0 ≤ 0; omega)⟩)
      refine zg_cost (kc2 := kc) (ks2 := ks) ⟨(by show kc + 0 = kc; omega), (by show ks + 0 = ks; omega)⟩ ?_
      exact gt_f_X2_writeFar_J53 hl ok tab fin hRm hb hR hk85 hE
theorem gt_f_X2_writeFar_L35 {Xc : zw_X} {Q : Int32 → zw_H → Prop} {X : String → Nat → zw_H → Prop} (hl : (zw_l Xc).stackTraces = false) (ok : zw_ok Xc cX2_writeFar "MultipoleLineModel" yX2_writeFar.name 3) (tab : zw_tab Xc []) (fin : zw_fin Xc (Option.some Jvm.ClassFile.FieldType.int) (zq_I Q) X 0 0) (hRm : zw_rm Xc = rm_X2_writeFar) {kc ks : Nat} (hb : kc ≤ 0 ∧ ks ≤ 0) {l0 : Option Nat} {k85 : zw_H → Prop} (hk85 : ∀  (h : zw_H), k85  h → zw_G Xc kc ks 3 h 85 [(0, va_rf l0)] [])  : ∀ (n9 : Nat) (l2 : Int32) (h : zw_H), zl2 (f_X2_writeFar_B35 (zw_Zf Xc).2.2.2 Q X k85 l0) n9 l2 h → zw_G Xc kc ks 3 h 35 [(0, va_rf l0), (2, .int l2)] [] := by
  intro n9
  induction n9 with
  | zero => intro l2 h hE; exact hE.elim
  | succ n9 ih => intro l2 h hE; exact gt_f_X2_writeFar_B35 hl ok tab fin hRm hb ih hk85 hE
set_option maxHeartbeats 8000000 in
theorem gt_f_X2_writeFar_J33 {Xc : zw_X} {Q : Int32 → zw_H → Prop} {X : String → Nat → zw_H → Prop} (hl : (zw_l Xc).stackTraces = false) (ok : zw_ok Xc cX2_writeFar "MultipoleLineModel" yX2_writeFar.name 3) (tab : zw_tab Xc []) (fin : zw_fin Xc (Option.some Jvm.ClassFile.FieldType.int) (zq_I Q) X 0 0) (hRm : zw_rm Xc = rm_X2_writeFar)  {l0 : Option Nat}  {h : zw_H} (hE : f_X2_writeFar_J33 (zw_Zf Xc).2.2.2 Q X  l0 h) : zw_G Xc 0 0 3 h 33 [(0, va_rf l0)] [] := by
  unfold f_X2_writeFar_J33 at hE
  refine zg_iconst (v := 0) ok dX2_writeFar_33 (by decide) ?_
  refine zg_istore_n (L' := [(2, .int 0), (0, va_rf l0)]) ok dX2_writeFar_34 rfl (by decide) rfl ?_
  refine zg_sub (L' := [(0, va_rf l0), (2, .int 0)]) [1, 0] rfl ?_
  refine gt_f_X2_writeFar_L35 hl ok tab fin hRm ⟨Nat.le_of_ble_eq_true rfl, Nat.le_of_ble_eq_true rfl⟩ ?_ _ _ _ hE
  · intro h8 hE
    refine zg_aload_n ok dX2_writeFar_85 rfl 0 rfl ?_
    refine zg_getI ok lf_X2_382 dX2_writeFar_86 hE (fun v9 hE => ?_)
    exact zg_iret ok fin dX2_writeFar_89 ⟨Nat.le_of_ble_eq_true rfl, Nat.le_of_ble_eq_true rfl⟩ hE
set_option maxHeartbeats 8000000 in
theorem mt_X2_writeFar {l : Launch} (hl : l.stackTraces = false) {Z : zw_Z} {a0 : Option Nat} {a1 : Int32} {h : zw_H} {Q : Int32 → zw_H → Prop} {X : String → Nat → zw_H → Prop} (hE : f_X2_writeFar Z.2.2.2 a0 a1 h Q X) : zw_Met l Z yX2_writeFar (ws_ yX2_writeFar cX2_writeFar 3 (Option.some Jvm.ClassFile.FieldType.int)) rm_X2_writeFar [zA a0, zI a1] h (zq_I Q) X := by
  refine zg_start (own := "MultipoleLineModel") (by decide +kernel) rfl (Nat.le_of_ble_eq_true rfl) hl (fun Xc ok tab fin hRm hXl hXZ => ?_)
  subst hXl
  subst hXZ
  unfold f_X2_writeFar at hE
  refine zg_aload_n ok dX2_writeFar_0 rfl 0 rfl ?_
  refine zg_iload_n ok dX2_writeFar_1 rfl 1 rfl ?_
  refine zg_callV (vs := [zI a1]) (rest := []) (rm := rm_X2_mayPoint) ok hRm lk_X2_216 dX2_writeFar_2 hE (fun hE => mt_X2_mayPoint hl hE) rfl (Nat.le_of_ble_eq_true rfl) ⟨⟨Nat.le_of_ble_eq_true rfl, Nat.le_of_ble_eq_true rfl⟩, Nat.le_of_ble_eq_true rfl, Nat.le_of_ble_eq_true rfl⟩ (zg_retI (fun v1 h1 hE => ?_)) (zg_xok ok tab fin ⟨Nat.le_of_ble_eq_true rfl, Nat.le_of_ble_eq_true rfl⟩)
  refine zg_cost (kc2 := 0) (ks2 := 0) ⟨rfl, rfl⟩ ?_
  refine zg_if_ne (tgt := 10) ok dX2_writeFar_5 (by decide) hE (fun hE => ?_) (fun hE => ?_)
  · refine zg_aload_n ok dX2_writeFar_10 rfl 0 rfl ?_
    refine zg_iload_n ok dX2_writeFar_11 rfl 1 rfl ?_
    refine zg_callV (vs := [zI a1]) (rest := []) (rm := rm_X2_laysFar) ok hRm lk_X2_275 dX2_writeFar_12 hE (fun hE => mt_X2_laysFar hl hE) rfl (Nat.le_of_ble_eq_true rfl) ⟨⟨Nat.le_of_ble_eq_true rfl, Nat.le_of_ble_eq_true rfl⟩, Nat.le_of_ble_eq_true rfl, Nat.le_of_ble_eq_true rfl⟩ (zg_retV (fun h2 hE => ?_)) (zg_xok ok tab fin ⟨Nat.le_of_ble_eq_true rfl, Nat.le_of_ble_eq_true rfl⟩)
    refine zg_cost (kc2 := 0) (ks2 := 0) ⟨rfl, rfl⟩ ?_
    refine zg_aload_n ok dX2_writeFar_15 rfl 0 rfl ?_
    refine zg_iconst (v := 0) ok dX2_writeFar_16 (by decide) ?_
    refine zg_put (ty := .int) ok lf_X2_382 (Or.inl rfl) (by decide) (by decide +kernel) rfl rfl dX2_writeFar_17 hE (fun h3 hE => ?_)
    refine zg_aload_n ok dX2_writeFar_20 rfl 0 rfl ?_
    refine zg_getI ok lf_X2_269 dX2_writeFar_21 hE (fun v2 hE => ?_)
    refine zg_if_ne (tgt := 33) ok dX2_writeFar_24 (by decide) hE (fun hE => ?_) (fun hE => ?_)
    · refine zg_sub (L' := [(0, va_rf a0)]) [0] rfl ?_
      exact gt_f_X2_writeFar_J33 hl ok tab fin hRm  hE
    · refine zg_aload_n ok dX2_writeFar_27 rfl 0 rfl ?_
      refine zg_bipush (v := 46) ok dX2_writeFar_28 (by decide) ?_
      refine zg_callV (vs := [zI 46]) (rest := []) (rm := rm_X2_writesByte) ok hRm lk_X2_385 dX2_writeFar_30 hE (fun hE => mt_X2_writesByte hl hE) rfl (Nat.le_of_ble_eq_true rfl) ⟨⟨Nat.le_of_ble_eq_true rfl, Nat.le_of_ble_eq_true rfl⟩, Nat.le_of_ble_eq_true rfl, Nat.le_of_ble_eq_true rfl⟩ (zg_retV (fun h9 hE => ?_)) (zg_xok ok tab fin ⟨Nat.le_of_ble_eq_true rfl, Nat.le_of_ble_eq_true rfl⟩)
      refine zg_cost (kc2 := 0) (ks2 := 0) ⟨rfl, rfl⟩ ?_
      refine zg_sub (L' := [(0, va_rf a0)]) [0] rfl ?_
      exact gt_f_X2_writeFar_J33 hl ok tab fin hRm  hE
  · refine zg_iconst (v := 0) ok dX2_writeFar_8 (by decide) ?_
    exact zg_iret ok fin dX2_writeFar_9 ⟨Nat.le_of_ble_eq_true rfl, Nat.le_of_ble_eq_true rfl⟩ hE
set_option maxHeartbeats 8000000 in
theorem mt_X2_textByte {l : Launch} (hl : l.stackTraces = false) {Z : zw_Z} {a0 : Option Nat} {a1 : Int32} {h : zw_H} {Q : Int32 → zw_H → Prop} {X : String → Nat → zw_H → Prop} (hE : f_X2_textByte Z.2.2.2 a0 a1 h Q X) : zw_Met l Z yX2_textByte (ws_ yX2_textByte cX2_textByte 2 (Option.some Jvm.ClassFile.FieldType.int)) rm_X2_textByte [zA a0, zI a1] h (zq_I Q) X := by
  refine zg_start (own := "MultipoleLineModel") (by decide +kernel) rfl (Nat.le_of_ble_eq_true rfl) hl (fun Xc ok tab fin hRm hXl hXZ => ?_)
  subst hXl
  subst hXZ
  unfold f_X2_textByte at hE
  refine zg_aload_n ok dX2_textByte_0 rfl 0 rfl ?_
  refine zg_iload_n ok dX2_textByte_1 rfl 1 rfl ?_
  refine zg_iconst (v := 0) ok dX2_textByte_2 (by decide) ?_
  refine zg_aload_n ok dX2_textByte_3 rfl 0 rfl ?_
  refine zg_getI ok lf_X2_382 dX2_textByte_4 hE (fun v1 hE => ?_)
  refine zg_iconst (v := 1) ok dX2_textByte_7 (by decide) ?_
  refine zg_isub ok dX2_textByte_8 ?_
  refine zg_callS (vs := [zI a1, zI 0, zI (v1 - 1)]) (rest := [va_rf a0]) (rm := rm_X2_in) ok hRm lk_X2_77 dX2_textByte_9 hE (fun hE => mt_X2_in hl hE) rfl (Nat.le_of_ble_eq_true rfl) ⟨⟨Nat.le_of_ble_eq_true rfl, Nat.le_of_ble_eq_true rfl⟩, Nat.le_of_ble_eq_true rfl, Nat.le_of_ble_eq_true rfl⟩ (zg_retI (fun v2 h1 hE => ?_)) (zg_xok ok tab fin ⟨Nat.le_of_ble_eq_true rfl, Nat.le_of_ble_eq_true rfl⟩)
  refine zg_cost (kc2 := 0) (ks2 := 0) ⟨rfl, rfl⟩ ?_
  refine zg_iconst (v := 1) ok dX2_textByte_12 (by decide) ?_
  refine zg_iconst (v := 1) ok dX2_textByte_13 (by decide) ?_
  refine zg_callV (vs := [zI v2, zI 1, zI 1]) (rest := []) (rm := rm_X2_may) ok hRm lk_X2_60 dX2_textByte_14 hE (fun hE => mt_X2_may hl hE) rfl (Nat.le_of_ble_eq_true rfl) ⟨⟨Nat.le_of_ble_eq_true rfl, Nat.le_of_ble_eq_true rfl⟩, Nat.le_of_ble_eq_true rfl, Nat.le_of_ble_eq_true rfl⟩ (zg_retI (fun v3 h2 hE => ?_)) (zg_xok ok tab fin ⟨Nat.le_of_ble_eq_true rfl, Nat.le_of_ble_eq_true rfl⟩)
  refine zg_cost (kc2 := 0) (ks2 := 0) ⟨rfl, rfl⟩ ?_
  refine zg_if_eq (tgt := 29) ok dX2_textByte_17 (by decide) hE (fun hE => ?_) (fun hE => ?_)
  · refine zg_iconst (v := 0) ok dX2_textByte_29 (by decide) ?_
    exact zg_iret ok fin dX2_textByte_30 ⟨Nat.le_of_ble_eq_true rfl, Nat.le_of_ble_eq_true rfl⟩ hE
  · refine zg_aload_n ok dX2_textByte_20 rfl 0 rfl ?_
    refine zg_getA ok lf_X2_54 dX2_textByte_21 hE (fun v4 hE => ?_)
    refine zg_iload_n ok dX2_textByte_24 rfl 1 rfl ?_
    refine zg_bald ok dX2_textByte_25 hE (fun v5 hE => ?_)
    refine zg_goto (tgt := 30) ok dX2_textByte_26 (by decide) ?_
    exact zg_iret ok fin dX2_textByte_30 ⟨Nat.le_of_ble_eq_true rfl, Nat.le_of_ble_eq_true rfl⟩ hE
set_option maxHeartbeats 8000000 in
theorem mt_X2_isCharge {l : Launch} (hl : l.stackTraces = false) {Z : zw_Z} {a0 : Int32} {h : zw_H} {Q : Int32 → zw_H → Prop} {X : String → Nat → zw_H → Prop} (hE : f_X2_isCharge Z.2.2.2 a0 h Q X) : zw_Met l Z yX2_isCharge (ws_ yX2_isCharge cX2_isCharge 1 (Option.some Jvm.ClassFile.FieldType.boolean)) rm_X2_isCharge [zI a0] h (zq_I Q) X := by
  refine zg_start (own := "MultipoleLineModel") (by decide +kernel) rfl (Nat.le_of_ble_eq_true rfl) hl (fun Xc ok tab fin hRm hXl hXZ => ?_)
  subst hXl
  subst hXZ
  unfold f_X2_isCharge at hE
  refine zg_iload_n ok dX2_isCharge_0 rfl 0 rfl ?_
  refine zg_if_eq (tgt := 19) ok dX2_isCharge_1 (by decide) hE (fun hE => ?_) (fun hE => ?_)
  · refine zg_iconst (v := 0) ok dX2_isCharge_19 (by decide) ?_
    exact zg_zret ok fin dX2_isCharge_20 ⟨Nat.le_of_ble_eq_true rfl, Nat.le_of_ble_eq_true rfl⟩ rfl hE
  · refine zg_iload_n ok dX2_isCharge_4 rfl 0 rfl ?_
    refine zg_bipush (v := (-99)) ok dX2_isCharge_5 (by decide) ?_
    refine zg_bipush (v := 99) ok dX2_isCharge_7 (by decide) ?_
    refine zg_callS (vs := [zI a0, zI (-99), zI 99]) (rest := []) (rm := rm_X2_in) ok hRm lk_X2_77 dX2_isCharge_9 hE (fun hE => mt_X2_in hl hE) rfl (Nat.le_of_ble_eq_true rfl) ⟨⟨Nat.le_of_ble_eq_true rfl, Nat.le_of_ble_eq_true rfl⟩, Nat.le_of_ble_eq_true rfl, Nat.le_of_ble_eq_true rfl⟩ (zg_retI (fun v1 h1 hE => ?_)) (zg_xok ok tab fin ⟨Nat.le_of_ble_eq_true rfl, Nat.le_of_ble_eq_true rfl⟩)
    refine zg_cost (kc2 := 0) (ks2 := 0) ⟨rfl, rfl⟩ ?_
    refine zg_if_eq (tgt := 19) ok dX2_isCharge_12 (by decide) hE (fun hE => ?_) (fun hE => ?_)
    · refine zg_iconst (v := 0) ok dX2_isCharge_19 (by decide) ?_
      exact zg_zret ok fin dX2_isCharge_20 ⟨Nat.le_of_ble_eq_true rfl, Nat.le_of_ble_eq_true rfl⟩ rfl hE
    · refine zg_iconst (v := 1) ok dX2_isCharge_15 (by decide) ?_
      refine zg_goto (tgt := 20) ok dX2_isCharge_16 (by decide) ?_
      exact zg_zret ok fin dX2_isCharge_20 ⟨Nat.le_of_ble_eq_true rfl, Nat.le_of_ble_eq_true rfl⟩ rfl hE
set_option maxHeartbeats 8000000 in
theorem gt_f_X2_remembers_J49 {Xc : zw_X} {Q : zw_H → Prop} {X : String → Nat → zw_H → Prop} (hl : (zw_l Xc).stackTraces = false) (ok : zw_ok Xc cX2_remembers "MultipoleLineModel" yX2_remembers.name 2) (tab : zw_tab Xc []) (fin : zw_fin Xc (Option.none : Option Jvm.ClassFile.FieldType) (zq_V Q) X 0 0) (hRm : zw_rm Xc = rm_X2_remembers)  {l0 : Option Nat}  {h : zw_H} (hE : f_X2_remembers_J49 (zw_Zf Xc).2.2.2 Q X  l0 h) : zw_G Xc 0 0 2 h 49 [(0, va_rf l0)] [] := by
  unfold f_X2_remembers_J49 at hE
  refine zg_aload_n ok dX2_remembers_49 rfl 0 rfl ?_
  refine zg_getA ok lf_X2_9 dX2_remembers_50 hE (fun v2 hE => ?_)
  refine zg_iconst (v := 0) ok dX2_remembers_53 (by decide) ?_
  refine zg_aload_n ok dX2_remembers_54 rfl 0 rfl ?_
  refine zg_getA ok lf_X2_16 dX2_remembers_55 hE (fun v3 hE => ?_)
  refine zg_aload_n ok dX2_remembers_58 rfl 0 rfl ?_
  refine zg_getI ok lf_X2_160 dX2_remembers_59 hE (fun v4 hE => ?_)
  refine zg_bipush (v := 103) ok dX2_remembers_62 (by decide) ?_
  refine zg_imul ok dX2_remembers_64 ?_
  refine zg_callS (vs := [zA v2, zI 0, zA v3, zI (v4 * 103)]) (rest := []) (rm := rm_X2_lays) ok hRm lk_X2_149 dX2_remembers_65 hE (fun hE => mt_X2_lays hl hE) rfl (Nat.le_of_ble_eq_true rfl) ⟨⟨Nat.le_of_ble_eq_true rfl, Nat.le_of_ble_eq_true rfl⟩, Nat.le_of_ble_eq_true rfl, Nat.le_of_ble_eq_true rfl⟩ (zg_retV (fun h1 hE => ?_)) (zg_xok ok tab fin ⟨Nat.le_of_ble_eq_true rfl, Nat.le_of_ble_eq_true rfl⟩)
  refine zg_cost (kc2 := 0) (ks2 := 0) ⟨rfl, rfl⟩ ?_
  refine zg_aload_n ok dX2_remembers_68 rfl 0 rfl ?_
  refine zg_dup ok dX2_remembers_69 (zw_rfc _) ?_
  refine zg_getI ok lf_X2_160 dX2_remembers_70 hE (fun v5 hE => ?_)
  refine zg_iconst (v := 1) ok dX2_remembers_73 (by decide) ?_
  refine zg_iadd ok dX2_remembers_74 ?_
  refine zg_put (ty := .int) ok lf_X2_160 (Or.inl rfl) (by decide) (by decide +kernel) rfl rfl dX2_remembers_75 hE (fun h2 hE => ?_)
  exact zg_vret ok fin dX2_remembers_78 ⟨Nat.le_of_ble_eq_true rfl, Nat.le_of_ble_eq_true rfl⟩ hE
set_option maxHeartbeats 8000000 in
theorem gt_f_X2_remembers_B11 {Xc : zw_X} {Q : zw_H → Prop} {X : String → Nat → zw_H → Prop} (hl : (zw_l Xc).stackTraces = false) (ok : zw_ok Xc cX2_remembers "MultipoleLineModel" yX2_remembers.name 2) (tab : zw_tab Xc []) (fin : zw_fin Xc (Option.none : Option Jvm.ClassFile.FieldType) (zq_V Q) X 0 0) (hRm : zw_rm Xc = rm_X2_remembers) {kc ks : Nat} (hb : kc ≤ 0 ∧ ks ≤ 0) {R : Int32 → zw_H → Prop} {l0 : Option Nat} (hR : ∀ (l1 : Int32) (h : zw_H), R l1 h → zw_G Xc kc ks 2 h 11 [(0, va_rf l0), (1, .int l1)] []) {k39 : zw_H → Prop} (hk39 : ∀  (h : zw_H), k39  h → zw_G Xc kc ks 2 h 39 [(0, va_rf l0)] [])  {l1 : Int32} {h : zw_H} (hE : f_X2_remembers_B11 (zw_Zf Xc).2.2.2 Q X k39 l0 R l1 h) : zw_G Xc kc ks 2 h 11 [(0, va_rf l0), (1, .int l1)] [] := by
  unfold f_X2_remembers_B11 at hE
  refine zg_iload_n ok dX2_remembers_11 rfl 1 rfl ?_
  refine zg_sipush (v := 721) ok dX2_remembers_12 (by decide) ?_
  refine zg_icmp_ge (tgt := 39) ok dX2_remembers_15 (by decide) hE (fun hE => ?_) (fun hE => ?_)
  · refine zg_sub (L' := [(0, va_rf l0)]) [0] rfl ?_
    exact hk39 _ hE
  · refine zg_aload_n ok dX2_remembers_18 rfl 0 rfl ?_
    refine zg_getA ok lf_X2_16 dX2_remembers_19 hE (fun v6 hE => ?_)
    refine zg_iload_n ok dX2_remembers_22 rfl 1 rfl ?_
    refine zg_aload_n ok dX2_remembers_23 rfl 0 rfl ?_
    refine zg_getA ok lf_X2_16 dX2_remembers_24 hE (fun v7 hE => ?_)
    refine zg_iload_n ok dX2_remembers_27 rfl 1 rfl ?_
    refine zg_bipush (v := 103) ok dX2_remembers_28 (by decide) ?_
    refine zg_iadd ok dX2_remembers_30 ?_
    refine zg_iald ok dX2_remembers_31 hE (fun v8 hE => ?_)
    refine zg_iast ok dX2_remembers_32 hE (fun h3 hE => ?_)
    refine zg_iincLR (k := 1) (L' := fun v9 => [(1, .int v9), (0, va_rf l0)]) ok dX2_remembers_33 (by decide +kernel) hE rfl (by decide) rfl (k9 := 0) rfl (fun _ => rfl) (fun v9 hE => ?_)
    refine zg_goto (tgt := 11) ok dX2_remembers_36 (by decide) ?_
    refine zg_sub (L' := [(0, va_rf l0), (1, .int v9)]) [1, 0] rfl ?_
    exact hR _ _ hE
theorem gt_f_X2_remembers_L11 {Xc : zw_X} {Q : zw_H → Prop} {X : String → Nat → zw_H → Prop} (hl : (zw_l Xc).stackTraces = false) (ok : zw_ok Xc cX2_remembers "MultipoleLineModel" yX2_remembers.name 2) (tab : zw_tab Xc []) (fin : zw_fin Xc (Option.none : Option Jvm.ClassFile.FieldType) (zq_V Q) X 0 0) (hRm : zw_rm Xc = rm_X2_remembers) {kc ks : Nat} (hb : kc ≤ 0 ∧ ks ≤ 0) {l0 : Option Nat} {k39 : zw_H → Prop} (hk39 : ∀  (h : zw_H), k39  h → zw_G Xc kc ks 2 h 39 [(0, va_rf l0)] [])  : ∀ (n9 : Nat) (l1 : Int32) (h : zw_H), zl2 (f_X2_remembers_B11 (zw_Zf Xc).2.2.2 Q X k39 l0) n9 l1 h → zw_G Xc kc ks 2 h 11 [(0, va_rf l0), (1, .int l1)] [] := by
  intro n9
  induction n9 with
  | zero => intro l1 h hE; exact hE.elim
  | succ n9 ih => intro l1 h hE; exact gt_f_X2_remembers_B11 hl ok tab fin hRm hb ih hk39 hE
set_option maxHeartbeats 8000000 in
theorem mt_X2_remembers {l : Launch} (hl : l.stackTraces = false) {Z : zw_Z} {a0 : Option Nat} {h : zw_H} {Q : zw_H → Prop} {X : String → Nat → zw_H → Prop} (hE : f_X2_remembers Z.2.2.2 a0 h Q X) : zw_Met l Z yX2_remembers (ws_ yX2_remembers cX2_remembers 2 (Option.none : Option Jvm.ClassFile.FieldType)) rm_X2_remembers [zA a0] h (zq_V Q) X := by
  refine zg_start (own := "MultipoleLineModel") (by decide +kernel) rfl (Nat.le_of_ble_eq_true rfl) hl (fun Xc ok tab fin hRm hXl hXZ => ?_)
  subst hXl
  subst hXZ
  unfold f_X2_remembers at hE
  refine zg_aload_n ok dX2_remembers_0 rfl 0 rfl ?_
  refine zg_getI ok lf_X2_160 dX2_remembers_1 hE (fun v1 hE => ?_)
  refine zg_bipush (v := 8) ok dX2_remembers_4 (by decide) ?_
  refine zg_icmp_ne (tgt := 49) ok dX2_remembers_6 (by decide) hE (fun hE => ?_) (fun hE => ?_)
  · exact gt_f_X2_remembers_J49 hl ok tab fin hRm  hE
  · refine zg_iconst (v := 0) ok dX2_remembers_9 (by decide) ?_
    refine zg_istore_nR (L' := [(1, .int 0), (0, va_rf a0)]) ok dX2_remembers_10 rfl (by decide) 0 rfl rfl rfl ?_
    refine zg_sub (L' := [(0, va_rf a0), (1, .int 0)]) [1, 0] rfl ?_
    refine gt_f_X2_remembers_L11 hl ok tab fin hRm ⟨Nat.le_of_ble_eq_true rfl, Nat.le_of_ble_eq_true rfl⟩ ?_ _ _ _ hE
    · intro h4 hE
      refine zg_aload_n ok dX2_remembers_39 rfl 0 rfl ?_
      refine zg_dup ok dX2_remembers_40 (zw_rfc _) ?_
      refine zg_getI ok lf_X2_160 dX2_remembers_41 hE (fun v10 hE => ?_)
      refine zg_iconst (v := 1) ok dX2_remembers_44 (by decide) ?_
      refine zg_isub ok dX2_remembers_45 ?_
      refine zg_put (ty := .int) ok lf_X2_160 (Or.inl rfl) (by decide) (by decide +kernel) rfl rfl dX2_remembers_46 hE (fun h5 hE => ?_)
      exact gt_f_X2_remembers_J49 hl ok tab fin hRm  hE
set_option maxHeartbeats 8000000 in
theorem gt_f_X2_add_J59 {Xc : zw_X} {Q : Int32 → zw_H → Prop} {X : String → Nat → zw_H → Prop} (hl : (zw_l Xc).stackTraces = false) (ok : zw_ok Xc cX2_add "MultipoleLineModel" yX2_add.name 5) (tab : zw_tab Xc []) (fin : zw_fin Xc (Option.some Jvm.ClassFile.FieldType.int) (zq_I Q) X 0 0) (hRm : zw_rm Xc = rm_X2_add)  {l0 : Option Nat} {l1 : Int32} {l2 : Int32} {l3 : Int32} {s0 : Int32} {s1 : Int32} {s2 : Option Nat} {h : zw_H} (hE : f_X2_add_J59 (zw_Zf Xc).2.2.2 Q X  l0 l1 l2 l3 s0 s1 s2 h) : zw_G Xc 0 0 5 h 59 [(0, va_rf l0), (1, .int l1), (2, .int l2), (3, .int l3)] [.int s0, .int s1, va_rf s2] := by
  unfold f_X2_add_J59 at hE
  refine zg_callV (vs := [zI s1, zI s0]) (rest := []) (rm := rm_X2_mayTwo) ok hRm lk_X2_193 dX2_add_59 hE (fun hE => mt_X2_mayTwo hl hE) rfl (Nat.le_of_ble_eq_true rfl) ⟨⟨Nat.le_of_ble_eq_true rfl, Nat.le_of_ble_eq_true rfl⟩, Nat.le_of_ble_eq_true rfl, Nat.le_of_ble_eq_true rfl⟩ (zg_retI (fun v3 h2 hE => ?_)) (zg_xok ok tab fin ⟨Nat.le_of_ble_eq_true rfl, Nat.le_of_ble_eq_true rfl⟩)
  refine zg_cost (kc2 := 0) (ks2 := 0) ⟨rfl, rfl⟩ ?_
  refine zg_if_ne (tgt := 67) ok dX2_add_62 (by decide) hE (fun hE => ?_) (fun hE => ?_)
  · refine zg_aload_n ok dX2_add_67 rfl 0 rfl ?_
    refine zg_callV (vs := []) (rest := []) (rm := rm_X2_remembers) ok hRm lk_X2_410 dX2_add_68 hE (fun hE => mt_X2_remembers hl hE) rfl (Nat.le_of_ble_eq_true rfl) ⟨⟨Nat.le_of_ble_eq_true rfl, Nat.le_of_ble_eq_true rfl⟩, Nat.le_of_ble_eq_true rfl, Nat.le_of_ble_eq_true rfl⟩ (zg_retV (fun h3 hE => ?_)) (zg_xok ok tab fin ⟨Nat.le_of_ble_eq_true rfl, Nat.le_of_ble_eq_true rfl⟩)
    refine zg_cost (kc2 := 0) (ks2 := 0) ⟨rfl, rfl⟩ ?_
    refine zg_aload_n ok dX2_add_71 rfl 0 rfl ?_
    refine zg_iload_n ok dX2_add_72 rfl 1 rfl ?_
    refine zg_iload_n ok dX2_add_73 rfl 2 rfl ?_
    refine zg_iload_n ok dX2_add_74 rfl 3 rfl ?_
    refine zg_callV (vs := [zI l1, zI l2, zI l3]) (rest := []) (rm := rm_X2_addsBody) ok hRm lk_X2_135 dX2_add_75 hE (fun hE => mt_X2_addsBody hl hE) rfl (Nat.le_of_ble_eq_true rfl) ⟨⟨Nat.le_of_ble_eq_true rfl, Nat.le_of_ble_eq_true rfl⟩, Nat.le_of_ble_eq_true rfl, Nat.le_of_ble_eq_true rfl⟩ (zg_retV (fun h4 hE => ?_)) (zg_xok ok tab fin ⟨Nat.le_of_ble_eq_true rfl, Nat.le_of_ble_eq_true rfl⟩)
    refine zg_cost (kc2 := 0) (ks2 := 0) ⟨rfl, rfl⟩ ?_
    refine zg_aload_n ok dX2_add_78 rfl 0 rfl ?_
    refine zg_getA ok lf_X2_9 dX2_add_79 hE (fun v4 hE => ?_)
    refine zg_iconst (v := 0) ok dX2_add_82 (by decide) ?_
    refine zg_iald ok dX2_add_83 hE (fun v5 hE => ?_)
    refine zg_iconst (v := 1) ok dX2_add_84 (by decide) ?_
    refine zg_isub ok dX2_add_85 ?_
    exact zg_iret ok fin dX2_add_86 ⟨Nat.le_of_ble_eq_true rfl, Nat.le_of_ble_eq_true rfl⟩ hE
  · refine zg_iconst (v := 0) ok dX2_add_65 (by decide) ?_
    exact zg_iret ok fin dX2_add_66 ⟨Nat.le_of_ble_eq_true rfl, Nat.le_of_ble_eq_true rfl⟩ hE
set_option maxHeartbeats 8000000 in
theorem gt_f_X2_add_J58 {Xc : zw_X} {Q : Int32 → zw_H → Prop} {X : String → Nat → zw_H → Prop} (hl : (zw_l Xc).stackTraces = false) (ok : zw_ok Xc cX2_add "MultipoleLineModel" yX2_add.name 5) (tab : zw_tab Xc []) (fin : zw_fin Xc (Option.some Jvm.ClassFile.FieldType.int) (zq_I Q) X 0 0) (hRm : zw_rm Xc = rm_X2_add)  {l0 : Option Nat} {l1 : Int32} {l2 : Int32} {l3 : Int32} {s0 : Int32} {s1 : Option Nat} {h : zw_H} (hE : f_X2_add_J58 (zw_Zf Xc).2.2.2 Q X  l0 l1 l2 l3 s0 s1 h) : zw_G Xc 0 0 5 h 58 [(0, va_rf l0), (1, .int l1), (2, .int l2), (3, .int l3)] [.int s0, va_rf s1] := by
  unfold f_X2_add_J58 at hE
  refine zg_iconst (v := 0) ok dX2_add_58 (by decide) ?_
  exact gt_f_X2_add_J59 hl ok tab fin hRm  hE
set_option maxHeartbeats 8000000 in
theorem gt_f_X2_add_J54 {Xc : zw_X} {Q : Int32 → zw_H → Prop} {X : String → Nat → zw_H → Prop} (hl : (zw_l Xc).stackTraces = false) (ok : zw_ok Xc cX2_add "MultipoleLineModel" yX2_add.name 5) (tab : zw_tab Xc []) (fin : zw_fin Xc (Option.some Jvm.ClassFile.FieldType.int) (zq_I Q) X 0 0) (hRm : zw_rm Xc = rm_X2_add)  {l0 : Option Nat} {l1 : Int32} {l2 : Int32} {l3 : Int32} {s0 : Int32} {s1 : Option Nat} {h : zw_H} (hE : f_X2_add_J54 (zw_Zf Xc).2.2.2 Q X  l0 l1 l2 l3 s0 s1 h) : zw_G Xc 0 0 5 h 54 [(0, va_rf l0), (1, .int l1), (2, .int l2), (3, .int l3)] [.int s0, va_rf s1] := by
  unfold f_X2_add_J54 at hE
  refine zg_iconst (v := 1) ok dX2_add_54 (by decide) ?_
  refine zg_goto (tgt := 59) ok dX2_add_55 (by decide) ?_
  exact gt_f_X2_add_J59 hl ok tab fin hRm  hE
set_option maxHeartbeats 8000000 in
theorem gt_f_X2_add_J30 {Xc : zw_X} {Q : Int32 → zw_H → Prop} {X : String → Nat → zw_H → Prop} (hl : (zw_l Xc).stackTraces = false) (ok : zw_ok Xc cX2_add "MultipoleLineModel" yX2_add.name 5) (tab : zw_tab Xc []) (fin : zw_fin Xc (Option.some Jvm.ClassFile.FieldType.int) (zq_I Q) X 0 0) (hRm : zw_rm Xc = rm_X2_add)  {l0 : Option Nat} {l1 : Int32} {l2 : Int32} {l3 : Int32} {s0 : Int32} {h : zw_H} (hE : f_X2_add_J30 (zw_Zf Xc).2.2.2 Q X  l0 l1 l2 l3 s0 h) : zw_G Xc 0 0 5 h 30 [(0, va_rf l0), (1, .int l1), (2, .int l2), (3, .int l3)] [.int s0] := by
  unfold f_X2_add_J30 at hE
  refine zg_istore (L' := [(4, .int s0), (0, va_rf l0), (1, .int l1), (2, .int l2), (3, .int l3)]) ok dX2_add_30 (by decide) rfl ?_
  refine zg_aload_n ok dX2_add_32 rfl 1 rfl ?_
  refine zg_aload_n ok dX2_add_33 rfl 1 rfl ?_
  refine zg_getI ok lf_X2_156 dX2_add_34 hE (fun v2 hE => ?_)
  refine zg_iload ok dX2_add_37 0 rfl ?_
  refine zg_if_eq (tgt := 58) ok dX2_add_39 (by decide) hE (fun hE => ?_) (fun hE => ?_)
  · refine zg_sub (L' := [(0, va_rf l0), (1, .int l1), (2, .int l2), (3, .int l3)]) [1, 2, 3, 4] rfl ?_
    exact gt_f_X2_add_J58 hl ok tab fin hRm  hE
  · refine zg_iload_n ok dX2_add_42 rfl 2 rfl ?_
    refine zg_if_eq (tgt := 54) ok dX2_add_43 (by decide) hE (fun hE => ?_) (fun hE => ?_)
    · refine zg_sub (L' := [(0, va_rf l0), (1, .int l1), (2, .int l2), (3, .int l3)]) [1, 2, 3, 4] rfl ?_
      exact gt_f_X2_add_J54 hl ok tab fin hRm  hE
    · refine zg_aload_n ok dX2_add_46 rfl 1 rfl ?_
      refine zg_iload_n ok dX2_add_47 rfl 3 rfl ?_
      refine zg_callV (vs := [zI l2]) (rest := [.int v2, va_rf l0]) (rm := rm_X2_isFixedAt) ok hRm lk_X2_123 dX2_add_48 hE (fun hE => mt_X2_isFixedAt hl hE) rfl (Nat.le_of_ble_eq_true rfl) ⟨⟨Nat.le_of_ble_eq_true rfl, Nat.le_of_ble_eq_true rfl⟩, Nat.le_of_ble_eq_true rfl, Nat.le_of_ble_eq_true rfl⟩ (zg_retI (fun v6 h5 hE => ?_)) (zg_xok ok tab fin ⟨Nat.le_of_ble_eq_true rfl, Nat.le_of_ble_eq_true rfl⟩)
      refine zg_cost (kc2 := 0) (ks2 := 0) ⟨rfl, rfl⟩ ?_
      refine zg_if_ne (tgt := 58) ok dX2_add_51 (by decide) hE (fun hE => ?_) (fun hE => ?_)
      · refine zg_sub (L' := [(0, va_rf l0), (1, .int l1), (2, .int l2), (3, .int l3)]) [1, 2, 3, 4] rfl ?_
        exact gt_f_X2_add_J58 hl ok tab fin hRm  hE
      · refine zg_sub (L' := [(0, va_rf l0), (1, .int l1), (2, .int l2), (3, .int l3)]) [1, 2, 3, 4] rfl ?_
        exact gt_f_X2_add_J54 hl ok tab fin hRm  hE
set_option maxHeartbeats 8000000 in
theorem gt_f_X2_add_J29 {Xc : zw_X} {Q : Int32 → zw_H → Prop} {X : String → Nat → zw_H → Prop} (hl : (zw_l Xc).stackTraces = false) (ok : zw_ok Xc cX2_add "MultipoleLineModel" yX2_add.name 5) (tab : zw_tab Xc []) (fin : zw_fin Xc (Option.some Jvm.ClassFile.FieldType.int) (zq_I Q) X 0 0) (hRm : zw_rm Xc = rm_X2_add)  {l0 : Option Nat} {l1 : Int32} {l2 : Int32} {l3 : Int32}  {h : zw_H} (hE : f_X2_add_J29 (zw_Zf Xc).2.2.2 Q X  l0 l1 l2 l3 h) : zw_G Xc 0 0 5 h 29 [(0, va_rf l0), (1, .int l1), (2, .int l2), (3, .int l3)] [] := by
  unfold f_X2_add_J29 at hE
  refine zg_iconst (v := 0) ok dX2_add_29 (by decide) ?_
  exact gt_f_X2_add_J30 hl ok tab fin hRm  hE
set_option maxHeartbeats 8000000 in
theorem mt_X2_add {l : Launch} (hl : l.stackTraces = false) {Z : zw_Z} {a0 : Option Nat} {a1 : Int32} {a2 : Int32} {a3 : Int32} {h : zw_H} {Q : Int32 → zw_H → Prop} {X : String → Nat → zw_H → Prop} (hE : f_X2_add Z.2.2.2 a0 a1 a2 a3 h Q X) : zw_Met l Z yX2_add (ws_ yX2_add cX2_add 5 (Option.some Jvm.ClassFile.FieldType.int)) rm_X2_add [zA a0, zI a1, zI a2, zI a3] h (zq_I Q) X := by
  refine zg_start (own := "MultipoleLineModel") (by decide +kernel) rfl (Nat.le_of_ble_eq_true rfl) hl (fun Xc ok tab fin hRm hXl hXZ => ?_)
  subst hXl
  subst hXZ
  unfold f_X2_add at hE
  refine zg_iload_n ok dX2_add_0 rfl 2 rfl ?_
  refine zg_callS (vs := [zI a2]) (rest := []) (rm := rm_X2_isPoint) ok hRm lk_X2_213 dX2_add_1 hE (fun hE => mt_X2_isPoint hl hE) rfl (Nat.le_of_ble_eq_true rfl) ⟨⟨Nat.le_of_ble_eq_true rfl, Nat.le_of_ble_eq_true rfl⟩, Nat.le_of_ble_eq_true rfl, Nat.le_of_ble_eq_true rfl⟩ (zg_retI (fun v1 h1 hE => ?_)) (zg_xok ok tab fin ⟨Nat.le_of_ble_eq_true rfl, Nat.le_of_ble_eq_true rfl⟩)
  refine zg_cost (kc2 := 0) (ks2 := 0) ⟨rfl, rfl⟩ ?_
  refine zg_if_eq (tgt := 29) ok dX2_add_4 (by decide) hE (fun hE => ?_) (fun hE => ?_)
  · exact gt_f_X2_add_J29 hl ok tab fin hRm  hE
  · refine zg_iload_n ok dX2_add_7 rfl 3 rfl ?_
    refine zg_callS (vs := [zI a3]) (rest := []) (rm := rm_X2_isCharge) ok hRm lk_X2_407 dX2_add_8 hE (fun hE => mt_X2_isCharge hl hE) rfl (Nat.le_of_ble_eq_true rfl) ⟨⟨Nat.le_of_ble_eq_true rfl, Nat.le_of_ble_eq_true rfl⟩, Nat.le_of_ble_eq_true rfl, Nat.le_of_ble_eq_true rfl⟩ (zg_retI (fun v7 h6 hE => ?_)) (zg_xok ok tab fin ⟨Nat.le_of_ble_eq_true rfl, Nat.le_of_ble_eq_true rfl⟩)
    refine zg_cost (kc2 := 0) (ks2 := 0) ⟨rfl, rfl⟩ ?_
    refine zg_if_eq (tgt := 29) ok dX2_add_11 (by decide) hE (fun hE => ?_) (fun hE => ?_)
    · exact gt_f_X2_add_J29 hl ok tab fin hRm  hE
    · refine zg_aload_n ok dX2_add_14 rfl 0 rfl ?_
      refine zg_getA ok lf_X2_9 dX2_add_15 hE (fun v8 hE => ?_)
      refine zg_iconst (v := 0) ok dX2_add_18 (by decide) ?_
      refine zg_iald ok dX2_add_19 hE (fun v9 hE => ?_)
      refine zg_bipush (v := 24) ok dX2_add_20 (by decide) ?_
      refine zg_icmp_ge (tgt := 29) ok dX2_add_22 (by decide) hE (fun hE => ?_) (fun hE => ?_)
      · exact gt_f_X2_add_J29 hl ok tab fin hRm  hE
      · refine zg_iconst (v := 1) ok dX2_add_25 (by decide) ?_
        refine zg_goto (tgt := 30) ok dX2_add_26 (by decide) ?_
        exact gt_f_X2_add_J30 hl ok tab fin hRm  hE
set_option maxHeartbeats 8000000 in
theorem gt_f_X2_move_J52 {Xc : zw_X} {Q : Int32 → zw_H → Prop} {X : String → Nat → zw_H → Prop} (hl : (zw_l Xc).stackTraces = false) (ok : zw_ok Xc cX2_move "MultipoleLineModel" yX2_move.name 5) (tab : zw_tab Xc []) (fin : zw_fin Xc (Option.some Jvm.ClassFile.FieldType.int) (zq_I Q) X 0 0) (hRm : zw_rm Xc = rm_X2_move)  {l0 : Option Nat} {l1 : Int32} {l2 : Int32} {s0 : Int32} {s1 : Int32} {s2 : Int32} {s3 : Option Nat} {h : zw_H} (hE : f_X2_move_J52 (zw_Zf Xc).2.2.2 Q X  l0 l1 l2 s0 s1 s2 s3 h) : zw_G Xc 0 0 5 h 52 [(0, va_rf l0), (1, .int l1), (2, .int l2)] [.int s0, .int s1, .int s2, va_rf s3] := by
  unfold f_X2_move_J52 at hE
  refine zg_callV (vs := [zI s2, zI s1, zI s0]) (rest := []) (rm := rm_X2_may) ok hRm lk_X2_60 dX2_move_52 hE (fun hE => mt_X2_may hl hE) rfl (Nat.le_of_ble_eq_true rfl) ⟨⟨Nat.le_of_ble_eq_true rfl, Nat.le_of_ble_eq_true rfl⟩, Nat.le_of_ble_eq_true rfl, Nat.le_of_ble_eq_true rfl⟩ (zg_retI (fun v3 h1 hE => ?_)) (zg_xok ok tab fin ⟨Nat.le_of_ble_eq_true rfl, Nat.le_of_ble_eq_true rfl⟩)
  refine zg_cost (kc2 := 0) (ks2 := 0) ⟨rfl, rfl⟩ ?_
  refine zg_if_ne (tgt := 60) ok dX2_move_55 (by decide) hE (fun hE => ?_) (fun hE => ?_)
  · refine zg_aload_n ok dX2_move_60 rfl 0 rfl ?_
    refine zg_callV (vs := []) (rest := []) (rm := rm_X2_remembers) ok hRm lk_X2_410 dX2_move_61 hE (fun hE => mt_X2_remembers hl hE) rfl (Nat.le_of_ble_eq_true rfl) ⟨⟨Nat.le_of_ble_eq_true rfl, Nat.le_of_ble_eq_true rfl⟩, Nat.le_of_ble_eq_true rfl, Nat.le_of_ble_eq_true rfl⟩ (zg_retV (fun h2 hE => ?_)) (zg_xok ok tab fin ⟨Nat.le_of_ble_eq_true rfl, Nat.le_of_ble_eq_true rfl⟩)
    refine zg_cost (kc2 := 0) (ks2 := 0) ⟨rfl, rfl⟩ ?_
    refine zg_iload_n ok dX2_move_64 rfl 2 rfl ?_
    refine zg_aload_n ok dX2_move_65 rfl 0 rfl ?_
    refine zg_iload_n ok dX2_move_66 rfl 1 rfl ?_
    refine zg_iconst (v := 0) ok dX2_move_67 (by decide) ?_
    refine zg_callV (vs := [zI l1, zI 0]) (rest := [.int l2]) (rm := rm_X2_of) ok hRm lk_X2_163 dX2_move_68 hE (fun hE => mt_X2_of hl hE) rfl (Nat.le_of_ble_eq_true rfl) ⟨⟨Nat.le_of_ble_eq_true rfl, Nat.le_of_ble_eq_true rfl⟩, Nat.le_of_ble_eq_true rfl, Nat.le_of_ble_eq_true rfl⟩ (zg_retI (fun v4 h3 hE => ?_)) (zg_xok ok tab fin ⟨Nat.le_of_ble_eq_true rfl, Nat.le_of_ble_eq_true rfl⟩)
    refine zg_cost (kc2 := 0) (ks2 := 0) ⟨rfl, rfl⟩ ?_
    refine zg_isub ok dX2_move_71 ?_
    refine zg_letI hE (fun v5 hE => ?_)
    refine zg_istore (L' := [(4, .int v5), (0, va_rf l0), (1, .int l1), (2, .int l2)]) ok dX2_move_72 (by decide) rfl ?_
    refine zg_aload_n ok dX2_move_74 rfl 1 rfl ?_
    refine zg_iload_n ok dX2_move_75 rfl 2 rfl ?_
    refine zg_iconst (v := 0) ok dX2_move_76 (by decide) ?_
    refine zg_iload_n ok dX2_move_77 rfl 3 rfl ?_
    refine zg_callV (vs := [zI l1, zI 0, zI l2]) (rest := []) (rm := rm_X2_puts) ok hRm lk_X2_166 dX2_move_78 hE (fun hE => mt_X2_puts hl hE) rfl (Nat.le_of_ble_eq_true rfl) ⟨⟨Nat.le_of_ble_eq_true rfl, Nat.le_of_ble_eq_true rfl⟩, Nat.le_of_ble_eq_true rfl, Nat.le_of_ble_eq_true rfl⟩ (zg_retV (fun h4 hE => ?_)) (zg_xok ok tab fin ⟨Nat.le_of_ble_eq_true rfl, Nat.le_of_ble_eq_true rfl⟩)
    refine zg_cost (kc2 := 0) (ks2 := 0) ⟨rfl, rfl⟩ ?_
    refine zg_iload ok dX2_move_81 0 rfl ?_
    exact zg_iret ok fin dX2_move_83 ⟨Nat.le_of_ble_eq_true rfl, Nat.le_of_ble_eq_true rfl⟩ hE
  · refine zg_iconst (v := 0) ok dX2_move_58 (by decide) ?_
    exact zg_iret ok fin dX2_move_59 ⟨Nat.le_of_ble_eq_true rfl, Nat.le_of_ble_eq_true rfl⟩ hE
set_option maxHeartbeats 8000000 in
theorem gt_f_X2_move_J51 {Xc : zw_X} {Q : Int32 → zw_H → Prop} {X : String → Nat → zw_H → Prop} (hl : (zw_l Xc).stackTraces = false) (ok : zw_ok Xc cX2_move "MultipoleLineModel" yX2_move.name 5) (tab : zw_tab Xc []) (fin : zw_fin Xc (Option.some Jvm.ClassFile.FieldType.int) (zq_I Q) X 0 0) (hRm : zw_rm Xc = rm_X2_move)  {l0 : Option Nat} {l1 : Int32} {l2 : Int32} {s0 : Int32} {s1 : Int32} {s2 : Option Nat} {h : zw_H} (hE : f_X2_move_J51 (zw_Zf Xc).2.2.2 Q X  l0 l1 l2 s0 s1 s2 h) : zw_G Xc 0 0 5 h 51 [(0, va_rf l0), (1, .int l1), (2, .int l2)] [.int s0, .int s1, va_rf s2] := by
  unfold f_X2_move_J51 at hE
  refine zg_iconst (v := 0) ok dX2_move_51 (by decide) ?_
  exact gt_f_X2_move_J52 hl ok tab fin hRm  hE
set_option maxHeartbeats 8000000 in
theorem gt_f_X2_move_J20 {Xc : zw_X} {Q : Int32 → zw_H → Prop} {X : String → Nat → zw_H → Prop} (hl : (zw_l Xc).stackTraces = false) (ok : zw_ok Xc cX2_move "MultipoleLineModel" yX2_move.name 5) (tab : zw_tab Xc []) (fin : zw_fin Xc (Option.some Jvm.ClassFile.FieldType.int) (zq_I Q) X 0 0) (hRm : zw_rm Xc = rm_X2_move)  {l0 : Option Nat} {l1 : Int32} {l2 : Int32} {s0 : Int32} {h : zw_H} (hE : f_X2_move_J20 (zw_Zf Xc).2.2.2 Q X  l0 l1 l2 s0 h) : zw_G Xc 0 0 5 h 20 [(0, va_rf l0), (1, .int l1), (2, .int l2)] [.int s0] := by
  unfold f_X2_move_J20 at hE
  refine zg_istore_n (L' := [(3, .int s0), (0, va_rf l0), (1, .int l1), (2, .int l2)]) ok dX2_move_20 rfl (by decide) rfl ?_
  refine zg_aload_n ok dX2_move_21 rfl 1 rfl ?_
  refine zg_aload_n ok dX2_move_22 rfl 1 rfl ?_
  refine zg_getI ok lf_X2_156 dX2_move_23 hE (fun v2 hE => ?_)
  refine zg_iload_n ok dX2_move_26 rfl 0 rfl ?_
  refine zg_iload_n ok dX2_move_27 rfl 0 rfl ?_
  refine zg_if_eq (tgt := 51) ok dX2_move_28 (by decide) hE (fun hE => ?_) (fun hE => ?_)
  · refine zg_sub (L' := [(0, va_rf l0), (1, .int l1), (2, .int l2)]) [1, 2, 3] rfl ?_
    exact gt_f_X2_move_J51 hl ok tab fin hRm  hE
  · refine zg_iload_n ok dX2_move_31 rfl 3 rfl ?_
    refine zg_callS (vs := [zI l2]) (rest := [.int s0, .int v2, va_rf l0]) (rm := rm_X2_isPoint) ok hRm lk_X2_213 dX2_move_32 hE (fun hE => mt_X2_isPoint hl hE) rfl (Nat.le_of_ble_eq_true rfl) ⟨⟨Nat.le_of_ble_eq_true rfl, Nat.le_of_ble_eq_true rfl⟩, Nat.le_of_ble_eq_true rfl, Nat.le_of_ble_eq_true rfl⟩ (zg_retI (fun v6 h5 hE => ?_)) (zg_xok ok tab fin ⟨Nat.le_of_ble_eq_true rfl, Nat.le_of_ble_eq_true rfl⟩)
    refine zg_cost (kc2 := 0) (ks2 := 0) ⟨rfl, rfl⟩ ?_
    refine zg_if_eq (tgt := 51) ok dX2_move_35 (by decide) hE (fun hE => ?_) (fun hE => ?_)
    · refine zg_sub (L' := [(0, va_rf l0), (1, .int l1), (2, .int l2)]) [1, 2, 3] rfl ?_
      exact gt_f_X2_move_J51 hl ok tab fin hRm  hE
    · refine zg_aload_n ok dX2_move_38 rfl 1 rfl ?_
      refine zg_iload_n ok dX2_move_39 rfl 2 rfl ?_
      refine zg_iconst (v := 2) ok dX2_move_40 (by decide) ?_
      refine zg_callV (vs := [zI l1, zI 2]) (rest := [.int s0, .int v2, va_rf l0]) (rm := rm_X2_of) ok hRm lk_X2_163 dX2_move_41 hE (fun hE => mt_X2_of hl hE) rfl (Nat.le_of_ble_eq_true rfl) ⟨⟨Nat.le_of_ble_eq_true rfl, Nat.le_of_ble_eq_true rfl⟩, Nat.le_of_ble_eq_true rfl, Nat.le_of_ble_eq_true rfl⟩ (zg_retI (fun v7 h6 hE => ?_)) (zg_xok ok tab fin ⟨Nat.le_of_ble_eq_true rfl, Nat.le_of_ble_eq_true rfl⟩)
      refine zg_cost (kc2 := 0) (ks2 := 0) ⟨rfl, rfl⟩ ?_
      refine zg_if_ne (tgt := 51) ok dX2_move_44 (by decide) hE (fun hE => ?_) (fun hE => ?_)
      · refine zg_sub (L' := [(0, va_rf l0), (1, .int l1), (2, .int l2)]) [1, 2, 3] rfl ?_
        exact gt_f_X2_move_J51 hl ok tab fin hRm  hE
      · refine zg_iconst (v := 1) ok dX2_move_47 (by decide) ?_
        refine zg_goto (tgt := 52) ok dX2_move_48 (by decide) ?_
        refine zg_sub (L' := [(0, va_rf l0), (1, .int l1), (2, .int l2)]) [1, 2, 3] rfl ?_
        exact gt_f_X2_move_J52 hl ok tab fin hRm  hE
set_option maxHeartbeats 8000000 in
theorem gt_f_X2_move_J19 {Xc : zw_X} {Q : Int32 → zw_H → Prop} {X : String → Nat → zw_H → Prop} (hl : (zw_l Xc).stackTraces = false) (ok : zw_ok Xc cX2_move "MultipoleLineModel" yX2_move.name 5) (tab : zw_tab Xc []) (fin : zw_fin Xc (Option.some Jvm.ClassFile.FieldType.int) (zq_I Q) X 0 0) (hRm : zw_rm Xc = rm_X2_move)  {l0 : Option Nat} {l1 : Int32} {l2 : Int32}  {h : zw_H} (hE : f_X2_move_J19 (zw_Zf Xc).2.2.2 Q X  l0 l1 l2 h) : zw_G Xc 0 0 5 h 19 [(0, va_rf l0), (1, .int l1), (2, .int l2)] [] := by
  unfold f_X2_move_J19 at hE
  refine zg_iconst (v := 0) ok dX2_move_19 (by decide) ?_
  exact gt_f_X2_move_J20 hl ok tab fin hRm  hE
set_option maxHeartbeats 8000000 in
theorem mt_X2_move {l : Launch} (hl : l.stackTraces = false) {Z : zw_Z} {a0 : Option Nat} {a1 : Int32} {a2 : Int32} {h : zw_H} {Q : Int32 → zw_H → Prop} {X : String → Nat → zw_H → Prop} (hE : f_X2_move Z.2.2.2 a0 a1 a2 h Q X) : zw_Met l Z yX2_move (ws_ yX2_move cX2_move 5 (Option.some Jvm.ClassFile.FieldType.int)) rm_X2_move [zA a0, zI a1, zI a2] h (zq_I Q) X := by
  refine zg_start (own := "MultipoleLineModel") (by decide +kernel) rfl (Nat.le_of_ble_eq_true rfl) hl (fun Xc ok tab fin hRm hXl hXZ => ?_)
  subst hXl
  subst hXZ
  unfold f_X2_move at hE
  refine zg_aload_n ok dX2_move_0 rfl 0 rfl ?_
  refine zg_getI ok lf_X2_156 dX2_move_1 hE (fun v1 hE => ?_)
  refine zg_if_eq (tgt := 19) ok dX2_move_4 (by decide) hE (fun hE => ?_) (fun hE => ?_)
  · exact gt_f_X2_move_J19 hl ok tab fin hRm  hE
  · refine zg_aload_n ok dX2_move_7 rfl 0 rfl ?_
    refine zg_iload_n ok dX2_move_8 rfl 1 rfl ?_
    refine zg_callV (vs := [zI a1]) (rest := []) (rm := rm_X2_isBody) ok hRm lk_X2_210 dX2_move_9 hE (fun hE => mt_X2_isBody hl hE) rfl (Nat.le_of_ble_eq_true rfl) ⟨⟨Nat.le_of_ble_eq_true rfl, Nat.le_of_ble_eq_true rfl⟩, Nat.le_of_ble_eq_true rfl, Nat.le_of_ble_eq_true rfl⟩ (zg_retI (fun v8 h7 hE => ?_)) (zg_xok ok tab fin ⟨Nat.le_of_ble_eq_true rfl, Nat.le_of_ble_eq_true rfl⟩)
    refine zg_cost (kc2 := 0) (ks2 := 0) ⟨rfl, rfl⟩ ?_
    refine zg_if_eq (tgt := 19) ok dX2_move_12 (by decide) hE (fun hE => ?_) (fun hE => ?_)
    · exact gt_f_X2_move_J19 hl ok tab fin hRm  hE
    · refine zg_iconst (v := 1) ok dX2_move_15 (by decide) ?_
      refine zg_goto (tgt := 20) ok dX2_move_16 (by decide) ?_
      exact gt_f_X2_move_J20 hl ok tab fin hRm  hE
set_option maxHeartbeats 8000000 in
theorem mt_X2_setCharge {l : Launch} (hl : l.stackTraces = false) {Z : zw_Z} {a0 : Option Nat} {a1 : Int32} {a2 : Int32} {h : zw_H} {Q : Int32 → zw_H → Prop} {X : String → Nat → zw_H → Prop} (hE : f_X2_setCharge Z.2.2.2 a0 a1 a2 h Q X) : zw_Met l Z yX2_setCharge (ws_ yX2_setCharge cX2_setCharge 4 (Option.some Jvm.ClassFile.FieldType.int)) rm_X2_setCharge [zA a0, zI a1, zI a2] h (zq_I Q) X := by
  refine zg_start (own := "MultipoleLineModel") (by decide +kernel) rfl (Nat.le_of_ble_eq_true rfl) hl (fun Xc ok tab fin hRm hXl hXZ => ?_)
  subst hXl
  subst hXZ
  unfold f_X2_setCharge at hE
  refine zg_aload_n ok dX2_setCharge_0 rfl 0 rfl ?_
  refine zg_aload_n ok dX2_setCharge_1 rfl 0 rfl ?_
  refine zg_getI ok lf_X2_156 dX2_setCharge_2 hE (fun v1 hE => ?_)
  refine zg_aload_n ok dX2_setCharge_5 rfl 0 rfl ?_
  refine zg_iload_n ok dX2_setCharge_6 rfl 1 rfl ?_
  refine zg_callV (vs := [zI a1]) (rest := [.int v1, va_rf a0]) (rm := rm_X2_isBody) ok hRm lk_X2_210 dX2_setCharge_7 hE (fun hE => mt_X2_isBody hl hE) rfl (Nat.le_of_ble_eq_true rfl) ⟨⟨Nat.le_of_ble_eq_true rfl, Nat.le_of_ble_eq_true rfl⟩, Nat.le_of_ble_eq_true rfl, Nat.le_of_ble_eq_true rfl⟩ (zg_retI (fun v2 h1 hE => ?_)) (zg_xok ok tab fin ⟨Nat.le_of_ble_eq_true rfl, Nat.le_of_ble_eq_true rfl⟩)
  refine zg_cost (kc2 := 0) (ks2 := 0) ⟨rfl, rfl⟩ ?_
  refine zg_iload_n ok dX2_setCharge_10 rfl 2 rfl ?_
  refine zg_callS (vs := [zI a2]) (rest := [.int v2, .int v1, va_rf a0]) (rm := rm_X2_isCharge) ok hRm lk_X2_407 dX2_setCharge_11 hE (fun hE => mt_X2_isCharge hl hE) rfl (Nat.le_of_ble_eq_true rfl) ⟨⟨Nat.le_of_ble_eq_true rfl, Nat.le_of_ble_eq_true rfl⟩, Nat.le_of_ble_eq_true rfl, Nat.le_of_ble_eq_true rfl⟩ (zg_retI (fun v3 h2 hE => ?_)) (zg_xok ok tab fin ⟨Nat.le_of_ble_eq_true rfl, Nat.le_of_ble_eq_true rfl⟩)
  refine zg_cost (kc2 := 0) (ks2 := 0) ⟨rfl, rfl⟩ ?_
  refine zg_callV (vs := [zI v1, zI v2, zI v3]) (rest := []) (rm := rm_X2_may) ok hRm lk_X2_60 dX2_setCharge_14 hE (fun hE => mt_X2_may hl hE) rfl (Nat.le_of_ble_eq_true rfl) ⟨⟨Nat.le_of_ble_eq_true rfl, Nat.le_of_ble_eq_true rfl⟩, Nat.le_of_ble_eq_true rfl, Nat.le_of_ble_eq_true rfl⟩ (zg_retI (fun v4 h3 hE => ?_)) (zg_xok ok tab fin ⟨Nat.le_of_ble_eq_true rfl, Nat.le_of_ble_eq_true rfl⟩)
  refine zg_cost (kc2 := 0) (ks2 := 0) ⟨rfl, rfl⟩ ?_
  refine zg_if_ne (tgt := 22) ok dX2_setCharge_17 (by decide) hE (fun hE => ?_) (fun hE => ?_)
  · refine zg_aload_n ok dX2_setCharge_22 rfl 0 rfl ?_
    refine zg_callV (vs := []) (rest := []) (rm := rm_X2_remembers) ok hRm lk_X2_410 dX2_setCharge_23 hE (fun hE => mt_X2_remembers hl hE) rfl (Nat.le_of_ble_eq_true rfl) ⟨⟨Nat.le_of_ble_eq_true rfl, Nat.le_of_ble_eq_true rfl⟩, Nat.le_of_ble_eq_true rfl, Nat.le_of_ble_eq_true rfl⟩ (zg_retV (fun h4 hE => ?_)) (zg_xok ok tab fin ⟨Nat.le_of_ble_eq_true rfl, Nat.le_of_ble_eq_true rfl⟩)
    refine zg_cost (kc2 := 0) (ks2 := 0) ⟨rfl, rfl⟩ ?_
    refine zg_aload_n ok dX2_setCharge_26 rfl 0 rfl ?_
    refine zg_iload_n ok dX2_setCharge_27 rfl 1 rfl ?_
    refine zg_iconst (v := 1) ok dX2_setCharge_28 (by decide) ?_
    refine zg_callV (vs := [zI a1, zI 1]) (rest := []) (rm := rm_X2_of) ok hRm lk_X2_163 dX2_setCharge_29 hE (fun hE => mt_X2_of hl hE) rfl (Nat.le_of_ble_eq_true rfl) ⟨⟨Nat.le_of_ble_eq_true rfl, Nat.le_of_ble_eq_true rfl⟩, Nat.le_of_ble_eq_true rfl, Nat.le_of_ble_eq_true rfl⟩ (zg_retI (fun v5 h5 hE => ?_)) (zg_xok ok tab fin ⟨Nat.le_of_ble_eq_true rfl, Nat.le_of_ble_eq_true rfl⟩)
    refine zg_cost (kc2 := 0) (ks2 := 0) ⟨rfl, rfl⟩ ?_
    refine zg_istore_n (L' := [(3, .int v5), (0, va_rf a0), (1, .int a1), (2, .int a2)]) ok dX2_setCharge_32 rfl (by decide) rfl ?_
    refine zg_aload_n ok dX2_setCharge_33 rfl 1 rfl ?_
    refine zg_iload_n ok dX2_setCharge_34 rfl 2 rfl ?_
    refine zg_iconst (v := 1) ok dX2_setCharge_35 (by decide) ?_
    refine zg_iload_n ok dX2_setCharge_36 rfl 3 rfl ?_
    refine zg_callV (vs := [zI a1, zI 1, zI a2]) (rest := []) (rm := rm_X2_puts) ok hRm lk_X2_166 dX2_setCharge_37 hE (fun hE => mt_X2_puts hl hE) rfl (Nat.le_of_ble_eq_true rfl) ⟨⟨Nat.le_of_ble_eq_true rfl, Nat.le_of_ble_eq_true rfl⟩, Nat.le_of_ble_eq_true rfl, Nat.le_of_ble_eq_true rfl⟩ (zg_retV (fun h6 hE => ?_)) (zg_xok ok tab fin ⟨Nat.le_of_ble_eq_true rfl, Nat.le_of_ble_eq_true rfl⟩)
    refine zg_cost (kc2 := 0) (ks2 := 0) ⟨rfl, rfl⟩ ?_
    refine zg_iload_n ok dX2_setCharge_40 rfl 0 rfl ?_
    exact zg_iret ok fin dX2_setCharge_41 ⟨Nat.le_of_ble_eq_true rfl, Nat.le_of_ble_eq_true rfl⟩ hE
  · refine zg_iconst (v := 0) ok dX2_setCharge_20 (by decide) ?_
    exact zg_iret ok fin dX2_setCharge_21 ⟨Nat.le_of_ble_eq_true rfl, Nat.le_of_ble_eq_true rfl⟩ hE
set_option maxHeartbeats 8000000 in
theorem gt_f_X2_remove_B39 {Xc : zw_X} {Q : Int32 → zw_H → Prop} {X : String → Nat → zw_H → Prop} (hl : (zw_l Xc).stackTraces = false) (ok : zw_ok Xc cX2_remove "MultipoleLineModel" yX2_remove.name 3) (tab : zw_tab Xc []) (fin : zw_fin Xc (Option.some Jvm.ClassFile.FieldType.int) (zq_I Q) X 0 0) (hRm : zw_rm Xc = rm_X2_remove) {kc ks : Nat} (hb : kc ≤ 0 ∧ ks ≤ 0) {R : Int32 → zw_H → Prop} {l0 : Option Nat} (hR : ∀ (l2 : Int32) (h : zw_H), R l2 h → zw_G Xc kc ks 3 h 39 [(0, va_rf l0), (2, .int l2)] []) {k74 : zw_H → Prop} (hk74 : ∀  (h : zw_H), k74  h → zw_G Xc kc ks 3 h 74 [(0, va_rf l0)] [])  {l2 : Int32} {h : zw_H} (hE : f_X2_remove_B39 (zw_Zf Xc).2.2.2 Q X k74 l0 R l2 h) : zw_G Xc kc ks 3 h 39 [(0, va_rf l0), (2, .int l2)] [] := by
  unfold f_X2_remove_B39 at hE
  refine zg_iload_n ok dX2_remove_39 rfl 1 rfl ?_
  refine zg_bipush (v := 7) ok dX2_remove_40 (by decide) ?_
  refine zg_iconst (v := 4) ok dX2_remove_42 (by decide) ?_
  refine zg_aload_n ok dX2_remove_43 rfl 0 rfl ?_
  refine zg_getA ok lf_X2_9 dX2_remove_44 hE (fun v7 hE => ?_)
  refine zg_iconst (v := 0) ok dX2_remove_47 (by decide) ?_
  refine zg_iald ok dX2_remove_48 hE (fun v8 hE => ?_)
  refine zg_imul ok dX2_remove_49 ?_
  refine zg_iadd ok dX2_remove_50 ?_
  refine zg_icmp_ge (tgt := 74) ok dX2_remove_51 (by decide) hE (fun hE => ?_) (fun hE => ?_)
  · refine zg_sub (L' := [(0, va_rf l0)]) [0] rfl ?_
    exact hk74 _ hE
  · refine zg_aload_n ok dX2_remove_54 rfl 0 rfl ?_
    refine zg_getA ok lf_X2_9 dX2_remove_55 hE (fun v9 hE => ?_)
    refine zg_iload_n ok dX2_remove_58 rfl 1 rfl ?_
    refine zg_aload_n ok dX2_remove_59 rfl 0 rfl ?_
    refine zg_getA ok lf_X2_9 dX2_remove_60 hE (fun v10 hE => ?_)
    refine zg_iload_n ok dX2_remove_63 rfl 1 rfl ?_
    refine zg_iconst (v := 4) ok dX2_remove_64 (by decide) ?_
    refine zg_iadd ok dX2_remove_65 ?_
    refine zg_iald ok dX2_remove_66 hE (fun v11 hE => ?_)
    refine zg_iast ok dX2_remove_67 hE (fun h5 hE => ?_)
    refine zg_iincL (k := 1) (L' := fun v12 => [(2, .int v12), (0, va_rf l0)]) ok dX2_remove_68 (by decide +kernel) hE rfl (by decide) (fun _ => rfl) (fun v12 hE => ?_)
    refine zg_goto (tgt := 39) ok dX2_remove_71 (by decide) ?_
    refine zg_sub (L' := [(0, va_rf l0), (2, .int v12)]) [1, 0] rfl ?_
    exact hR _ _ hE
theorem gt_f_X2_remove_L39 {Xc : zw_X} {Q : Int32 → zw_H → Prop} {X : String → Nat → zw_H → Prop} (hl : (zw_l Xc).stackTraces = false) (ok : zw_ok Xc cX2_remove "MultipoleLineModel" yX2_remove.name 3) (tab : zw_tab Xc []) (fin : zw_fin Xc (Option.some Jvm.ClassFile.FieldType.int) (zq_I Q) X 0 0) (hRm : zw_rm Xc = rm_X2_remove) {kc ks : Nat} (hb : kc ≤ 0 ∧ ks ≤ 0) {l0 : Option Nat} {k74 : zw_H → Prop} (hk74 : ∀  (h : zw_H), k74  h → zw_G Xc kc ks 3 h 74 [(0, va_rf l0)] [])  : ∀ (n9 : Nat) (l2 : Int32) (h : zw_H), zl2 (f_X2_remove_B39 (zw_Zf Xc).2.2.2 Q X k74 l0) n9 l2 h → zw_G Xc kc ks 3 h 39 [(0, va_rf l0), (2, .int l2)] [] := by
  intro n9
  induction n9 with
  | zero => intro l2 h hE; exact hE.elim
  | succ n9 ih => intro l2 h hE; exact gt_f_X2_remove_B39 hl ok tab fin hRm hb ih hk74 hE
set_option maxHeartbeats 8000000 in
theorem mt_X2_remove {l : Launch} (hl : l.stackTraces = false) {Z : zw_Z} {a0 : Option Nat} {a1 : Int32} {h : zw_H} {Q : Int32 → zw_H → Prop} {X : String → Nat → zw_H → Prop} (hE : f_X2_remove Z.2.2.2 a0 a1 h Q X) : zw_Met l Z yX2_remove (ws_ yX2_remove cX2_remove 3 (Option.some Jvm.ClassFile.FieldType.int)) rm_X2_remove [zA a0, zI a1] h (zq_I Q) X := by
  refine zg_start (own := "MultipoleLineModel") (by decide +kernel) rfl (Nat.le_of_ble_eq_true rfl) hl (fun Xc ok tab fin hRm hXl hXZ => ?_)
  subst hXl
  subst hXZ
  unfold f_X2_remove at hE
  refine zg_aload_n ok dX2_remove_0 rfl 0 rfl ?_
  refine zg_aload_n ok dX2_remove_1 rfl 0 rfl ?_
  refine zg_getI ok lf_X2_156 dX2_remove_2 hE (fun v1 hE => ?_)
  refine zg_aload_n ok dX2_remove_5 rfl 0 rfl ?_
  refine zg_iload_n ok dX2_remove_6 rfl 1 rfl ?_
  refine zg_callV (vs := [zI a1]) (rest := [.int v1, va_rf a0]) (rm := rm_X2_isBody) ok hRm lk_X2_210 dX2_remove_7 hE (fun hE => mt_X2_isBody hl hE) rfl (Nat.le_of_ble_eq_true rfl) ⟨⟨Nat.le_of_ble_eq_true rfl, Nat.le_of_ble_eq_true rfl⟩, Nat.le_of_ble_eq_true rfl, Nat.le_of_ble_eq_true rfl⟩ (zg_retI (fun v2 h1 hE => ?_)) (zg_xok ok tab fin ⟨Nat.le_of_ble_eq_true rfl, Nat.le_of_ble_eq_true rfl⟩)
  refine zg_cost (kc2 := 0) (ks2 := 0) ⟨rfl, rfl⟩ ?_
  refine zg_callV (vs := [zI v1, zI v2]) (rest := []) (rm := rm_X2_mayTwo) ok hRm lk_X2_193 dX2_remove_10 hE (fun hE => mt_X2_mayTwo hl hE) rfl (Nat.le_of_ble_eq_true rfl) ⟨⟨Nat.le_of_ble_eq_true rfl, Nat.le_of_ble_eq_true rfl⟩, Nat.le_of_ble_eq_true rfl, Nat.le_of_ble_eq_true rfl⟩ (zg_retI (fun v3 h2 hE => ?_)) (zg_xok ok tab fin ⟨Nat.le_of_ble_eq_true rfl, Nat.le_of_ble_eq_true rfl⟩)
  refine zg_cost (kc2 := 0) (ks2 := 0) ⟨rfl, rfl⟩ ?_
  refine zg_if_ne (tgt := 18) ok dX2_remove_13 (by decide) hE (fun hE => ?_) (fun hE => ?_)
  · refine zg_aload_n ok dX2_remove_18 rfl 0 rfl ?_
    refine zg_callV (vs := []) (rest := []) (rm := rm_X2_remembers) ok hRm lk_X2_410 dX2_remove_19 hE (fun hE => mt_X2_remembers hl hE) rfl (Nat.le_of_ble_eq_true rfl) ⟨⟨Nat.le_of_ble_eq_true rfl, Nat.le_of_ble_eq_true rfl⟩, Nat.le_of_ble_eq_true rfl, Nat.le_of_ble_eq_true rfl⟩ (zg_retV (fun h3 hE => ?_)) (zg_xok ok tab fin ⟨Nat.le_of_ble_eq_true rfl, Nat.le_of_ble_eq_true rfl⟩)
    refine zg_cost (kc2 := 0) (ks2 := 0) ⟨rfl, rfl⟩ ?_
    refine zg_aload_n ok dX2_remove_22 rfl 0 rfl ?_
    refine zg_getA ok lf_X2_9 dX2_remove_23 hE (fun v4 hE => ?_)
    refine zg_iconst (v := 0) ok dX2_remove_26 (by decide) ?_
    refine zg_dup2_11 ok dX2_remove_27 rfl (zw_rfc _) ?_
    refine zg_iald ok dX2_remove_28 hE (fun v5 hE => ?_)
    refine zg_iconst (v := 1) ok dX2_remove_29 (by decide) ?_
    refine zg_isub ok dX2_remove_30 ?_
    refine zg_iast ok dX2_remove_31 hE (fun h4 hE => ?_)
    refine zg_bipush (v := 7) ok dX2_remove_32 (by decide) ?_
    refine zg_iconst (v := 4) ok dX2_remove_34 (by decide) ?_
    refine zg_iload_n ok dX2_remove_35 rfl 1 rfl ?_
    refine zg_imul ok dX2_remove_36 ?_
    refine zg_iadd ok dX2_remove_37 ?_
    refine zg_letI hE (fun v6 hE => ?_)
    refine zg_istore_n (L' := [(2, .int v6), (0, va_rf a0), (1, .int a1)]) ok dX2_remove_38 rfl (by decide) rfl ?_
    refine zg_sub (L' := [(0, va_rf a0), (2, .int v6)]) [1, 0] rfl ?_
    refine gt_f_X2_remove_L39 hl ok tab fin hRm ⟨Nat.le_of_ble_eq_true rfl, Nat.le_of_ble_eq_true rfl⟩ ?_ _ _ _ hE
    · intro h6 hE
      refine zg_aload_n ok dX2_remove_74 rfl 0 rfl ?_
      refine zg_getA ok lf_X2_9 dX2_remove_75 hE (fun v13 hE => ?_)
      refine zg_iconst (v := 0) ok dX2_remove_78 (by decide) ?_
      refine zg_iald ok dX2_remove_79 hE (fun v14 hE => ?_)
      exact zg_iret ok fin dX2_remove_80 ⟨Nat.le_of_ble_eq_true rfl, Nat.le_of_ble_eq_true rfl⟩ hE
  · refine zg_iconst (v := 0) ok dX2_remove_16 (by decide) ?_
    exact zg_iret ok fin dX2_remove_17 ⟨Nat.le_of_ble_eq_true rfl, Nat.le_of_ble_eq_true rfl⟩ hE
set_option maxHeartbeats 8000000 in
theorem gt_f_X2_step_J35 {Xc : zw_X} {Q : Int32 → zw_H → Prop} {X : String → Nat → zw_H → Prop} (hl : (zw_l Xc).stackTraces = false) (ok : zw_ok Xc cX2_step "MultipoleLineModel" yX2_step.name 2) (tab : zw_tab Xc []) (fin : zw_fin Xc (Option.some Jvm.ClassFile.FieldType.int) (zq_I Q) X 0 0) (hRm : zw_rm Xc = rm_X2_step)  {l0 : Option Nat} {l1 : Int32} {s0 : Int32} {s1 : Int32} {s2 : Option Nat} {h : zw_H} (hE : f_X2_step_J35 (zw_Zf Xc).2.2.2 Q X  l0 l1 s0 s1 s2 h) : zw_G Xc 0 0 2 h 35 [(0, va_rf l0), (1, .int l1)] [.int s0, .int s1, va_rf s2] := by
  unfold f_X2_step_J35 at hE
  refine zg_callV (vs := [zI s1, zI s0]) (rest := []) (rm := rm_X2_mayTwo) ok hRm lk_X2_193 dX2_step_35 hE (fun hE => mt_X2_mayTwo hl hE) rfl (Nat.le_of_ble_eq_true rfl) ⟨⟨Nat.le_of_ble_eq_true rfl, Nat.le_of_ble_eq_true rfl⟩, Nat.le_of_ble_eq_true rfl, Nat.le_of_ble_eq_true rfl⟩ (zg_retI (fun v3 h2 hE => ?_)) (zg_xok ok tab fin ⟨Nat.le_of_ble_eq_true rfl, Nat.le_of_ble_eq_true rfl⟩)
  refine zg_cost (kc2 := 0) (ks2 := 0) ⟨rfl, rfl⟩ ?_
  refine zg_if_ne (tgt := 43) ok dX2_step_38 (by decide) hE (fun hE => ?_) (fun hE => ?_)
  · refine zg_aload_n ok dX2_step_43 rfl 0 rfl ?_
    refine zg_callV (vs := []) (rest := []) (rm := rm_X2_remembers) ok hRm lk_X2_410 dX2_step_44 hE (fun hE => mt_X2_remembers hl hE) rfl (Nat.le_of_ble_eq_true rfl) ⟨⟨Nat.le_of_ble_eq_true rfl, Nat.le_of_ble_eq_true rfl⟩, Nat.le_of_ble_eq_true rfl, Nat.le_of_ble_eq_true rfl⟩ (zg_retV (fun h3 hE => ?_)) (zg_xok ok tab fin ⟨Nat.le_of_ble_eq_true rfl, Nat.le_of_ble_eq_true rfl⟩)
    refine zg_cost (kc2 := 0) (ks2 := 0) ⟨rfl, rfl⟩ ?_
    refine zg_aload_n ok dX2_step_47 rfl 0 rfl ?_
    refine zg_iload_n ok dX2_step_48 rfl 1 rfl ?_
    refine zg_callV (vs := [zI l1]) (rest := []) (rm := rm_X2_stepsMany) ok hRm lk_X2_359 dX2_step_49 hE (fun hE => mt_X2_stepsMany hl hE) rfl (Nat.le_of_ble_eq_true rfl) ⟨⟨Nat.le_of_ble_eq_true rfl, Nat.le_of_ble_eq_true rfl⟩, Nat.le_of_ble_eq_true rfl, Nat.le_of_ble_eq_true rfl⟩ (zg_retI (fun v4 h4 hE => ?_)) (zg_xok ok tab fin ⟨Nat.le_of_ble_eq_true rfl, Nat.le_of_ble_eq_true rfl⟩)
    refine zg_cost (kc2 := 0) (ks2 := 0) ⟨rfl, rfl⟩ ?_
    exact zg_iret ok fin dX2_step_52 ⟨Nat.le_of_ble_eq_true rfl, Nat.le_of_ble_eq_true rfl⟩ hE
  · refine zg_iconst (v := 0) ok dX2_step_41 (by decide) ?_
    exact zg_iret ok fin dX2_step_42 ⟨Nat.le_of_ble_eq_true rfl, Nat.le_of_ble_eq_true rfl⟩ hE
set_option maxHeartbeats 8000000 in
theorem gt_f_X2_step_J34 {Xc : zw_X} {Q : Int32 → zw_H → Prop} {X : String → Nat → zw_H → Prop} (hl : (zw_l Xc).stackTraces = false) (ok : zw_ok Xc cX2_step "MultipoleLineModel" yX2_step.name 2) (tab : zw_tab Xc []) (fin : zw_fin Xc (Option.some Jvm.ClassFile.FieldType.int) (zq_I Q) X 0 0) (hRm : zw_rm Xc = rm_X2_step)  {l0 : Option Nat} {l1 : Int32} {s0 : Int32} {s1 : Option Nat} {h : zw_H} (hE : f_X2_step_J34 (zw_Zf Xc).2.2.2 Q X  l0 l1 s0 s1 h) : zw_G Xc 0 0 2 h 34 [(0, va_rf l0), (1, .int l1)] [.int s0, va_rf s1] := by
  unfold f_X2_step_J34 at hE
  refine zg_iconst (v := 0) ok dX2_step_34 (by decide) ?_
  exact gt_f_X2_step_J35 hl ok tab fin hRm  hE
set_option maxHeartbeats 8000000 in
theorem mt_X2_step {l : Launch} (hl : l.stackTraces = false) {Z : zw_Z} {a0 : Option Nat} {a1 : Int32} {h : zw_H} {Q : Int32 → zw_H → Prop} {X : String → Nat → zw_H → Prop} (hE : f_X2_step Z.2.2.2 a0 a1 h Q X) : zw_Met l Z yX2_step (ws_ yX2_step cX2_step 2 (Option.some Jvm.ClassFile.FieldType.int)) rm_X2_step [zA a0, zI a1] h (zq_I Q) X := by
  refine zg_start (own := "MultipoleLineModel") (by decide +kernel) rfl (Nat.le_of_ble_eq_true rfl) hl (fun Xc ok tab fin hRm hXl hXZ => ?_)
  subst hXl
  subst hXZ
  unfold f_X2_step at hE
  refine zg_aload_n ok dX2_step_0 rfl 0 rfl ?_
  refine zg_aload_n ok dX2_step_1 rfl 0 rfl ?_
  refine zg_getI ok lf_X2_156 dX2_step_2 hE (fun v1 hE => ?_)
  refine zg_iload_n ok dX2_step_5 rfl 1 rfl ?_
  refine zg_iconst (v := 1) ok dX2_step_6 (by decide) ?_
  refine zg_bipush (v := 50) ok dX2_step_7 (by decide) ?_
  refine zg_callS (vs := [zI a1, zI 1, zI 50]) (rest := [.int v1, va_rf a0]) (rm := rm_X2_in) ok hRm lk_X2_77 dX2_step_9 hE (fun hE => mt_X2_in hl hE) rfl (Nat.le_of_ble_eq_true rfl) ⟨⟨Nat.le_of_ble_eq_true rfl, Nat.le_of_ble_eq_true rfl⟩, Nat.le_of_ble_eq_true rfl, Nat.le_of_ble_eq_true rfl⟩ (zg_retI (fun v2 h1 hE => ?_)) (zg_xok ok tab fin ⟨Nat.le_of_ble_eq_true rfl, Nat.le_of_ble_eq_true rfl⟩)
  refine zg_cost (kc2 := 0) (ks2 := 0) ⟨rfl, rfl⟩ ?_
  refine zg_if_eq (tgt := 34) ok dX2_step_12 (by decide) hE (fun hE => ?_) (fun hE => ?_)
  · exact gt_f_X2_step_J34 hl ok tab fin hRm  hE
  · refine zg_aload_n ok dX2_step_15 rfl 0 rfl ?_
    refine zg_getA ok lf_X2_9 dX2_step_16 hE (fun v5 hE => ?_)
    refine zg_bipush (v := 6) ok dX2_step_19 (by decide) ?_
    refine zg_iald ok dX2_step_21 hE (fun v6 hE => ?_)
    refine zg_iload_n ok dX2_step_22 rfl 1 rfl ?_
    refine zg_iadd ok dX2_step_23 ?_
    refine zg_sipush (v := 9999) ok dX2_step_24 (by decide) ?_
    refine zg_icmp_gt (tgt := 34) ok dX2_step_27 (by decide) hE (fun hE => ?_) (fun hE => ?_)
    · exact gt_f_X2_step_J34 hl ok tab fin hRm  hE
    · refine zg_iconst (v := 1) ok dX2_step_30 (by decide) ?_
      refine zg_goto (tgt := 35) ok dX2_step_31 (by decide) ?_
      exact gt_f_X2_step_J35 hl ok tab fin hRm  hE
set_option maxHeartbeats 8000000 in
theorem mt_X2_isNumber {l : Launch} (hl : l.stackTraces = false) {Z : zw_Z} {a0 : Int32} {a1 : Int32} {h : zw_H} {Q : Int32 → zw_H → Prop} {X : String → Nat → zw_H → Prop} (hE : f_X2_isNumber Z.2.2.2 a0 a1 h Q X) : zw_Met l Z yX2_isNumber (ws_ yX2_isNumber cX2_isNumber 2 (Option.some Jvm.ClassFile.FieldType.boolean)) rm_X2_isNumber [zI a0, zI a1] h (zq_I Q) X := by
  refine zg_start (own := "MultipoleLineModel") (by decide +kernel) rfl (Nat.le_of_ble_eq_true rfl) hl (fun Xc ok tab fin hRm hXl hXZ => ?_)
  subst hXl
  subst hXZ
  unfold f_X2_isNumber at hE
  refine zg_iload_n ok dX2_isNumber_0 rfl 0 rfl ?_
  by_cases c9 : a0 = 3
  · rw [if_pos c9] at hE
    refine zg_tabIn (tgt := 28) ok dX2_isNumber_1 (by rw [c9] <;> decide) (by rw [c9] <;> decide) (by rw [c9]; rfl) (by decide) ?_
    refine zg_iload_n ok dX2_isNumber_28 rfl 1 rfl ?_
    refine zg_iconst (v := 2) ok dX2_isNumber_29 (by decide) ?_
    refine zg_iconst (v := 5) ok dX2_isNumber_30 (by decide) ?_
    refine zg_callS (vs := [zI a1, zI 2, zI 5]) (rest := []) (rm := rm_X2_in) ok hRm lk_X2_77 dX2_isNumber_31 hE (fun hE => mt_X2_in hl hE) rfl (Nat.le_of_ble_eq_true rfl) ⟨⟨Nat.le_of_ble_eq_true rfl, Nat.le_of_ble_eq_true rfl⟩, Nat.le_of_ble_eq_true rfl, Nat.le_of_ble_eq_true rfl⟩ (zg_retI (fun v1 h1 hE => ?_)) (zg_xok ok tab fin ⟨Nat.le_of_ble_eq_true rfl, Nat.le_of_ble_eq_true rfl⟩)
    refine zg_cost (kc2 := 0) (ks2 := 0) ⟨rfl, rfl⟩ ?_
    exact zg_zretE (ret := none) ok fin dX2_isNumber_34 ⟨Nat.le_of_ble_eq_true rfl, Nat.le_of_ble_eq_true rfl⟩ hE
  rw [if_neg c9] at hE
  by_cases c9 : a0 = 4
  · rw [if_pos c9] at hE
    refine zg_tabIn (tgt := 35) ok dX2_isNumber_1 (by rw [c9] <;> decide) (by rw [c9] <;> decide) (by rw [c9]; rfl) (by decide) ?_
    refine zg_iload_n ok dX2_isNumber_35 rfl 1 rfl ?_
    refine zg_iconst (v := 0) ok dX2_isNumber_36 (by decide) ?_
    refine zg_iconst (v := 4) ok dX2_isNumber_37 (by decide) ?_
    refine zg_callS (vs := [zI a1, zI 0, zI 4]) (rest := []) (rm := rm_X2_in) ok hRm lk_X2_77 dX2_isNumber_38 hE (fun hE => mt_X2_in hl hE) rfl (Nat.le_of_ble_eq_true rfl) ⟨⟨Nat.le_of_ble_eq_true rfl, Nat.le_of_ble_eq_true rfl⟩, Nat.le_of_ble_eq_true rfl, Nat.le_of_ble_eq_true rfl⟩ (zg_retI (fun v2 h2 hE => ?_)) (zg_xok ok tab fin ⟨Nat.le_of_ble_eq_true rfl, Nat.le_of_ble_eq_true rfl⟩)
    refine zg_cost (kc2 := 0) (ks2 := 0) ⟨rfl, rfl⟩ ?_
    exact zg_zretE (ret := none) ok fin dX2_isNumber_41 ⟨Nat.le_of_ble_eq_true rfl, Nat.le_of_ble_eq_true rfl⟩ hE
  rw [if_neg c9] at hE
  by_cases c9 : a0 = 5
  · rw [if_pos c9] at hE
    refine zg_tabIn (tgt := 42) ok dX2_isNumber_1 (by rw [c9] <;> decide) (by rw [c9] <;> decide) (by rw [c9]; rfl) (by decide) ?_
    refine zg_iload_n ok dX2_isNumber_42 rfl 1 rfl ?_
    refine zg_iconst (v := 0) ok dX2_isNumber_43 (by decide) ?_
    refine zg_sipush (v := 999) ok dX2_isNumber_44 (by decide) ?_
    refine zg_callS (vs := [zI a1, zI 0, zI 999]) (rest := []) (rm := rm_X2_in) ok hRm lk_X2_77 dX2_isNumber_47 hE (fun hE => mt_X2_in hl hE) rfl (Nat.le_of_ble_eq_true rfl) ⟨⟨Nat.le_of_ble_eq_true rfl, Nat.le_of_ble_eq_true rfl⟩, Nat.le_of_ble_eq_true rfl, Nat.le_of_ble_eq_true rfl⟩ (zg_retI (fun v3 h3 hE => ?_)) (zg_xok ok tab fin ⟨Nat.le_of_ble_eq_true rfl, Nat.le_of_ble_eq_true rfl⟩)
    refine zg_cost (kc2 := 0) (ks2 := 0) ⟨rfl, rfl⟩ ?_
    exact zg_zretE (ret := none) ok fin dX2_isNumber_50 ⟨Nat.le_of_ble_eq_true rfl, Nat.le_of_ble_eq_true rfl⟩ hE
  rw [if_neg c9] at hE
  obtain ⟨hd9, hE⟩ := hE
  refine zg_tabOut (tgt := 51) ok dX2_isNumber_1 hd9 (by decide) ?_
  refine zg_iconst (v := 0) ok dX2_isNumber_51 (by decide) ?_
  exact zg_zret ok fin dX2_isNumber_52 ⟨Nat.le_of_ble_eq_true rfl, Nat.le_of_ble_eq_true rfl⟩ rfl hE
set_option maxHeartbeats 8000000 in
theorem mt_X2_setNumber {l : Launch} (hl : l.stackTraces = false) {Z : zw_Z} {a0 : Option Nat} {a1 : Int32} {a2 : Int32} {h : zw_H} {Q : Int32 → zw_H → Prop} {X : String → Nat → zw_H → Prop} (hE : f_X2_setNumber Z.2.2.2 a0 a1 a2 h Q X) : zw_Met l Z yX2_setNumber (ws_ yX2_setNumber cX2_setNumber 4 (Option.some Jvm.ClassFile.FieldType.int)) rm_X2_setNumber [zA a0, zI a1, zI a2] h (zq_I Q) X := by
  refine zg_start (own := "MultipoleLineModel") (by decide +kernel) rfl (Nat.le_of_ble_eq_true rfl) hl (fun Xc ok tab fin hRm hXl hXZ => ?_)
  subst hXl
  subst hXZ
  unfold f_X2_setNumber at hE
  refine zg_aload_n ok dX2_setNumber_0 rfl 0 rfl ?_
  refine zg_aload_n ok dX2_setNumber_1 rfl 0 rfl ?_
  refine zg_getI ok lf_X2_156 dX2_setNumber_2 hE (fun v1 hE => ?_)
  refine zg_iload_n ok dX2_setNumber_5 rfl 1 rfl ?_
  refine zg_iload_n ok dX2_setNumber_6 rfl 2 rfl ?_
  refine zg_callS (vs := [zI a1, zI a2]) (rest := [.int v1, va_rf a0]) (rm := rm_X2_isNumber) ok hRm lk_X2_413 dX2_setNumber_7 hE (fun hE => mt_X2_isNumber hl hE) rfl (Nat.le_of_ble_eq_true rfl) ⟨⟨Nat.le_of_ble_eq_true rfl, Nat.le_of_ble_eq_true rfl⟩, Nat.le_of_ble_eq_true rfl, Nat.le_of_ble_eq_true rfl⟩ (zg_retI (fun v2 h1 hE => ?_)) (zg_xok ok tab fin ⟨Nat.le_of_ble_eq_true rfl, Nat.le_of_ble_eq_true rfl⟩)
  refine zg_cost (kc2 := 0) (ks2 := 0) ⟨rfl, rfl⟩ ?_
  refine zg_callV (vs := [zI v1, zI v2]) (rest := []) (rm := rm_X2_mayTwo) ok hRm lk_X2_193 dX2_setNumber_10 hE (fun hE => mt_X2_mayTwo hl hE) rfl (Nat.le_of_ble_eq_true rfl) ⟨⟨Nat.le_of_ble_eq_true rfl, Nat.le_of_ble_eq_true rfl⟩, Nat.le_of_ble_eq_true rfl, Nat.le_of_ble_eq_true rfl⟩ (zg_retI (fun v3 h2 hE => ?_)) (zg_xok ok tab fin ⟨Nat.le_of_ble_eq_true rfl, Nat.le_of_ble_eq_true rfl⟩)
  refine zg_cost (kc2 := 0) (ks2 := 0) ⟨rfl, rfl⟩ ?_
  refine zg_if_ne (tgt := 18) ok dX2_setNumber_13 (by decide) hE (fun hE => ?_) (fun hE => ?_)
  · refine zg_aload_n ok dX2_setNumber_18 rfl 0 rfl ?_
    refine zg_callV (vs := []) (rest := []) (rm := rm_X2_remembers) ok hRm lk_X2_410 dX2_setNumber_19 hE (fun hE => mt_X2_remembers hl hE) rfl (Nat.le_of_ble_eq_true rfl) ⟨⟨Nat.le_of_ble_eq_true rfl, Nat.le_of_ble_eq_true rfl⟩, Nat.le_of_ble_eq_true rfl, Nat.le_of_ble_eq_true rfl⟩ (zg_retV (fun h3 hE => ?_)) (zg_xok ok tab fin ⟨Nat.le_of_ble_eq_true rfl, Nat.le_of_ble_eq_true rfl⟩)
    refine zg_cost (kc2 := 0) (ks2 := 0) ⟨rfl, rfl⟩ ?_
    refine zg_aload_n ok dX2_setNumber_22 rfl 0 rfl ?_
    refine zg_getA ok lf_X2_9 dX2_setNumber_23 hE (fun v4 hE => ?_)
    refine zg_iload_n ok dX2_setNumber_26 rfl 1 rfl ?_
    refine zg_iald ok dX2_setNumber_27 hE (fun v5 hE => ?_)
    refine zg_istore_n (L' := [(3, .int v5), (0, va_rf a0), (1, .int a1), (2, .int a2)]) ok dX2_setNumber_28 rfl (by decide) rfl ?_
    refine zg_aload_n ok dX2_setNumber_29 rfl 1 rfl ?_
    refine zg_getA ok lf_X2_9 dX2_setNumber_30 hE (fun v6 hE => ?_)
    refine zg_iload_n ok dX2_setNumber_33 rfl 2 rfl ?_
    refine zg_iload_n ok dX2_setNumber_34 rfl 3 rfl ?_
    refine zg_iast ok dX2_setNumber_35 hE (fun h4 hE => ?_)
    refine zg_iload_n ok dX2_setNumber_36 rfl 0 rfl ?_
    exact zg_iret ok fin dX2_setNumber_37 ⟨Nat.le_of_ble_eq_true rfl, Nat.le_of_ble_eq_true rfl⟩ hE
  · refine zg_iconst (v := 0) ok dX2_setNumber_16 (by decide) ?_
    exact zg_iret ok fin dX2_setNumber_17 ⟨Nat.le_of_ble_eq_true rfl, Nat.le_of_ble_eq_true rfl⟩ hE
set_option maxHeartbeats 8000000 in
theorem gt_f_X2_undo_J13 {Xc : zw_X} {Q : Int32 → zw_H → Prop} {X : String → Nat → zw_H → Prop} (hl : (zw_l Xc).stackTraces = false) (ok : zw_ok Xc cX2_undo "MultipoleLineModel" yX2_undo.name 1) (tab : zw_tab Xc []) (fin : zw_fin Xc (Option.some Jvm.ClassFile.FieldType.int) (zq_I Q) X 0 0) (hRm : zw_rm Xc = rm_X2_undo)  {l0 : Option Nat} {s0 : Int32} {s1 : Option Nat} {h : zw_H} (hE : f_X2_undo_J13 (zw_Zf Xc).2.2.2 Q X  l0 s0 s1 h) : zw_G Xc 0 0 1 h 13 [(0, va_rf l0)] [.int s0, va_rf s1] := by
  unfold f_X2_undo_J13 at hE
  refine zg_iconst (v := 1) ok dX2_undo_13 (by decide) ?_
  refine zg_iconst (v := 1) ok dX2_undo_14 (by decide) ?_
  refine zg_callV (vs := [zI s0, zI 1, zI 1]) (rest := []) (rm := rm_X2_may) ok hRm lk_X2_60 dX2_undo_15 hE (fun hE => mt_X2_may hl hE) rfl (Nat.le_of_ble_eq_true rfl) ⟨⟨Nat.le_of_ble_eq_true rfl, Nat.le_of_ble_eq_true rfl⟩, Nat.le_of_ble_eq_true rfl, Nat.le_of_ble_eq_true rfl⟩ (zg_retI (fun v2 h1 hE => ?_)) (zg_xok ok tab fin ⟨Nat.le_of_ble_eq_true rfl, Nat.le_of_ble_eq_true rfl⟩)
  refine zg_cost (kc2 := 0) (ks2 := 0) ⟨rfl, rfl⟩ ?_
  refine zg_if_ne (tgt := 23) ok dX2_undo_18 (by decide) hE (fun hE => ?_) (fun hE => ?_)
  · refine zg_aload_n ok dX2_undo_23 rfl 0 rfl ?_
    refine zg_dup ok dX2_undo_24 (zw_rfc _) ?_
    refine zg_getI ok lf_X2_160 dX2_undo_25 hE (fun v3 hE => ?_)
    refine zg_iconst (v := 1) ok dX2_undo_28 (by decide) ?_
    refine zg_isub ok dX2_undo_29 ?_
    refine zg_put (ty := .int) ok lf_X2_160 (Or.inl rfl) (by decide) (by decide +kernel) rfl rfl dX2_undo_30 hE (fun h2 hE => ?_)
    refine zg_aload_n ok dX2_undo_33 rfl 0 rfl ?_
    refine zg_getA ok lf_X2_16 dX2_undo_34 hE (fun v4 hE => ?_)
    refine zg_aload_n ok dX2_undo_37 rfl 0 rfl ?_
    refine zg_getI ok lf_X2_160 dX2_undo_38 hE (fun v5 hE => ?_)
    refine zg_bipush (v := 103) ok dX2_undo_41 (by decide) ?_
    refine zg_imul ok dX2_undo_43 ?_
    refine zg_aload_n ok dX2_undo_44 rfl 0 rfl ?_
    refine zg_getA ok lf_X2_9 dX2_undo_45 hE (fun v6 hE => ?_)
    refine zg_iconst (v := 0) ok dX2_undo_48 (by decide) ?_
    refine zg_callS (vs := [zA v4, zI (v5 * 103), zA v6, zI 0]) (rest := []) (rm := rm_X2_lays) ok hRm lk_X2_149 dX2_undo_49 hE (fun hE => mt_X2_lays hl hE) rfl (Nat.le_of_ble_eq_true rfl) ⟨⟨Nat.le_of_ble_eq_true rfl, Nat.le_of_ble_eq_true rfl⟩, Nat.le_of_ble_eq_true rfl, Nat.le_of_ble_eq_true rfl⟩ (zg_retV (fun h3 hE => ?_)) (zg_xok ok tab fin ⟨Nat.le_of_ble_eq_true rfl, Nat.le_of_ble_eq_true rfl⟩)
    refine zg_cost (kc2 := 0) (ks2 := 0) ⟨rfl, rfl⟩ ?_
    refine zg_aload_n ok dX2_undo_52 rfl 0 rfl ?_
    refine zg_getI ok lf_X2_160 dX2_undo_53 hE (fun v7 hE => ?_)
    exact zg_iret ok fin dX2_undo_56 ⟨Nat.le_of_ble_eq_true rfl, Nat.le_of_ble_eq_true rfl⟩ hE
  · refine zg_iconst (v := 0) ok dX2_undo_21 (by decide) ?_
    exact zg_iret ok fin dX2_undo_22 ⟨Nat.le_of_ble_eq_true rfl, Nat.le_of_ble_eq_true rfl⟩ hE
set_option maxHeartbeats 8000000 in
theorem mt_X2_undo {l : Launch} (hl : l.stackTraces = false) {Z : zw_Z} {a0 : Option Nat} {h : zw_H} {Q : Int32 → zw_H → Prop} {X : String → Nat → zw_H → Prop} (hE : f_X2_undo Z.2.2.2 a0 h Q X) : zw_Met l Z yX2_undo (ws_ yX2_undo cX2_undo 1 (Option.some Jvm.ClassFile.FieldType.int)) rm_X2_undo [zA a0] h (zq_I Q) X := by
  refine zg_start (own := "MultipoleLineModel") (by decide +kernel) rfl (Nat.le_of_ble_eq_true rfl) hl (fun Xc ok tab fin hRm hXl hXZ => ?_)
  subst hXl
  subst hXZ
  unfold f_X2_undo at hE
  refine zg_aload_n ok dX2_undo_0 rfl 0 rfl ?_
  refine zg_aload_n ok dX2_undo_1 rfl 0 rfl ?_
  refine zg_getI ok lf_X2_160 dX2_undo_2 hE (fun v1 hE => ?_)
  refine zg_if_le (tgt := 12) ok dX2_undo_5 (by decide) hE (fun hE => ?_) (fun hE => ?_)
  · refine zg_iconst (v := 0) ok dX2_undo_12 (by decide) ?_
    exact gt_f_X2_undo_J13 hl ok tab fin hRm  hE
  · refine zg_iconst (v := 1) ok dX2_undo_8 (by decide) ?_
    refine zg_goto (tgt := 13) ok dX2_undo_9 (by decide) ?_
    exact gt_f_X2_undo_J13 hl ok tab fin hRm  hE
set_option maxHeartbeats 8000000 in
theorem mt_X2_undoable {l : Launch} (hl : l.stackTraces = false) {Z : zw_Z} {a0 : Option Nat} {h : zw_H} {Q : Int32 → zw_H → Prop} {X : String → Nat → zw_H → Prop} (hE : f_X2_undoable Z.2.2.2 a0 h Q X) : zw_Met l Z yX2_undoable (ws_ yX2_undoable cX2_undoable 1 (Option.some Jvm.ClassFile.FieldType.int)) rm_X2_undoable [zA a0] h (zq_I Q) X := by
  refine zg_start (own := "MultipoleLineModel") (by decide +kernel) rfl (Nat.le_of_ble_eq_true rfl) hl (fun Xc ok tab fin hRm hXl hXZ => ?_)
  subst hXl
  subst hXZ
  unfold f_X2_undoable at hE
  refine zg_aload_n ok dX2_undoable_0 rfl 0 rfl ?_
  refine zg_iconst (v := 0) ok dX2_undoable_1 (by decide) ?_
  refine zg_put (ty := .int) ok lf_X2_57 (Or.inl rfl) (by decide) (by decide +kernel) rfl rfl dX2_undoable_2 hE (fun h1 hE => ?_)
  refine zg_aload_n ok dX2_undoable_5 rfl 0 rfl ?_
  refine zg_getI ok lf_X2_160 dX2_undoable_6 hE (fun v1 hE => ?_)
  exact zg_iret ok fin dX2_undoable_9 ⟨Nat.le_of_ble_eq_true rfl, Nat.le_of_ble_eq_true rfl⟩ hE
set_option maxHeartbeats 8000000 in
theorem mt_X2_save {l : Launch} (hl : l.stackTraces = false) {Z : zw_Z} {a0 : Option Nat} {a1 : Int32} {h : zw_H} {Q : Int32 → zw_H → Prop} {X : String → Nat → zw_H → Prop} (hE : f_X2_save Z.2.2.2 a0 a1 h Q X) : zw_Met l Z yX2_save (ws_ yX2_save cX2_save 2 (Option.some Jvm.ClassFile.FieldType.int)) rm_X2_save [zA a0, zI a1] h (zq_I Q) X := by
  refine zg_start (own := "MultipoleLineModel") (by decide +kernel) rfl (Nat.le_of_ble_eq_true rfl) hl (fun Xc ok tab fin hRm hXl hXZ => ?_)
  subst hXl
  subst hXZ
  unfold f_X2_save at hE
  refine zg_aload_n ok dX2_save_0 rfl 0 rfl ?_
  refine zg_aload_n ok dX2_save_1 rfl 0 rfl ?_
  refine zg_getI ok lf_X2_156 dX2_save_2 hE (fun v1 hE => ?_)
  refine zg_iload_n ok dX2_save_5 rfl 1 rfl ?_
  refine zg_iconst (v := 0) ok dX2_save_6 (by decide) ?_
  refine zg_iconst (v := 1) ok dX2_save_7 (by decide) ?_
  refine zg_callS (vs := [zI a1, zI 0, zI 1]) (rest := [.int v1, va_rf a0]) (rm := rm_X2_in) ok hRm lk_X2_77 dX2_save_8 hE (fun hE => mt_X2_in hl hE) rfl (Nat.le_of_ble_eq_true rfl) ⟨⟨Nat.le_of_ble_eq_true rfl, Nat.le_of_ble_eq_true rfl⟩, Nat.le_of_ble_eq_true rfl, Nat.le_of_ble_eq_true rfl⟩ (zg_retI (fun v2 h1 hE => ?_)) (zg_xok ok tab fin ⟨Nat.le_of_ble_eq_true rfl, Nat.le_of_ble_eq_true rfl⟩)
  refine zg_cost (kc2 := 0) (ks2 := 0) ⟨rfl, rfl⟩ ?_
  refine zg_callV (vs := [zI v1, zI v2]) (rest := []) (rm := rm_X2_mayTwo) ok hRm lk_X2_193 dX2_save_11 hE (fun hE => mt_X2_mayTwo hl hE) rfl (Nat.le_of_ble_eq_true rfl) ⟨⟨Nat.le_of_ble_eq_true rfl, Nat.le_of_ble_eq_true rfl⟩, Nat.le_of_ble_eq_true rfl, Nat.le_of_ble_eq_true rfl⟩ (zg_retI (fun v3 h2 hE => ?_)) (zg_xok ok tab fin ⟨Nat.le_of_ble_eq_true rfl, Nat.le_of_ble_eq_true rfl⟩)
  refine zg_cost (kc2 := 0) (ks2 := 0) ⟨rfl, rfl⟩ ?_
  refine zg_if_ne (tgt := 19) ok dX2_save_14 (by decide) hE (fun hE => ?_) (fun hE => ?_)
  · refine zg_aload_n ok dX2_save_19 rfl 0 rfl ?_
    refine zg_getA ok lf_X2_9 dX2_save_20 hE (fun v4 hE => ?_)
    refine zg_iconst (v := 0) ok dX2_save_23 (by decide) ?_
    refine zg_aload_n ok dX2_save_24 rfl 0 rfl ?_
    refine zg_getA ok lf_X2_19 dX2_save_25 hE (fun v5 hE => ?_)
    refine zg_iload_n ok dX2_save_28 rfl 1 rfl ?_
    refine zg_bipush (v := 103) ok dX2_save_29 (by decide) ?_
    refine zg_imul ok dX2_save_31 ?_
    refine zg_callS (vs := [zA v4, zI 0, zA v5, zI (a1 * 103)]) (rest := []) (rm := rm_X2_lays) ok hRm lk_X2_149 dX2_save_32 hE (fun hE => mt_X2_lays hl hE) rfl (Nat.le_of_ble_eq_true rfl) ⟨⟨Nat.le_of_ble_eq_true rfl, Nat.le_of_ble_eq_true rfl⟩, Nat.le_of_ble_eq_true rfl, Nat.le_of_ble_eq_true rfl⟩ (zg_retV (fun h3 hE => ?_)) (zg_xok ok tab fin ⟨Nat.le_of_ble_eq_true rfl, Nat.le_of_ble_eq_true rfl⟩)
    refine zg_cost (kc2 := 0) (ks2 := 0) ⟨rfl, rfl⟩ ?_
    refine zg_aload_n ok dX2_save_35 rfl 0 rfl ?_
    refine zg_getA ok lf_X2_22 dX2_save_36 hE (fun v6 hE => ?_)
    refine zg_iload_n ok dX2_save_39 rfl 1 rfl ?_
    refine zg_iconst (v := 1) ok dX2_save_40 (by decide) ?_
    refine zg_zast ok dX2_save_41 hE (fun h4 hE => ?_)
    refine zg_aload_n ok dX2_save_42 rfl 0 rfl ?_
    refine zg_getA ok lf_X2_9 dX2_save_43 hE (fun v7 hE => ?_)
    refine zg_bipush (v := 6) ok dX2_save_46 (by decide) ?_
    refine zg_iald ok dX2_save_48 hE (fun v8 hE => ?_)
    exact zg_iret ok fin dX2_save_49 ⟨Nat.le_of_ble_eq_true rfl, Nat.le_of_ble_eq_true rfl⟩ hE
  · refine zg_iconst (v := 0) ok dX2_save_17 (by decide) ?_
    exact zg_iret ok fin dX2_save_18 ⟨Nat.le_of_ble_eq_true rfl, Nat.le_of_ble_eq_true rfl⟩ hE
set_option maxHeartbeats 8000000 in
theorem gt_f_X2_restore_J27 {Xc : zw_X} {Q : Int32 → zw_H → Prop} {X : String → Nat → zw_H → Prop} (hl : (zw_l Xc).stackTraces = false) (ok : zw_ok Xc cX2_restore "MultipoleLineModel" yX2_restore.name 3) (tab : zw_tab Xc []) (fin : zw_fin Xc (Option.some Jvm.ClassFile.FieldType.int) (zq_I Q) X 0 0) (hRm : zw_rm Xc = rm_X2_restore)  {l0 : Option Nat} {l1 : Int32} {s0 : Int32} {s1 : Int32} {s2 : Option Nat} {h : zw_H} (hE : f_X2_restore_J27 (zw_Zf Xc).2.2.2 Q X  l0 l1 s0 s1 s2 h) : zw_G Xc 0 0 3 h 27 [(0, va_rf l0), (1, .int l1)] [.int s0, .int s1, va_rf s2] := by
  unfold f_X2_restore_J27 at hE
  refine zg_callV (vs := [zI s1, zI s0]) (rest := []) (rm := rm_X2_mayTwo) ok hRm lk_X2_193 dX2_restore_27 hE (fun hE => mt_X2_mayTwo hl hE) rfl (Nat.le_of_ble_eq_true rfl) ⟨⟨Nat.le_of_ble_eq_true rfl, Nat.le_of_ble_eq_true rfl⟩, Nat.le_of_ble_eq_true rfl, Nat.le_of_ble_eq_true rfl⟩ (zg_retI (fun v2 h2 hE => ?_)) (zg_xok ok tab fin ⟨Nat.le_of_ble_eq_true rfl, Nat.le_of_ble_eq_true rfl⟩)
  refine zg_cost (kc2 := 0) (ks2 := 0) ⟨rfl, rfl⟩ ?_
  refine zg_if_ne (tgt := 35) ok dX2_restore_30 (by decide) hE (fun hE => ?_) (fun hE => ?_)
  · refine zg_aload_n ok dX2_restore_35 rfl 0 rfl ?_
    refine zg_getA ok lf_X2_19 dX2_restore_36 hE (fun v3 hE => ?_)
    refine zg_iload_n ok dX2_restore_39 rfl 1 rfl ?_
    refine zg_bipush (v := 103) ok dX2_restore_40 (by decide) ?_
    refine zg_imul ok dX2_restore_42 ?_
    refine zg_aload_n ok dX2_restore_43 rfl 0 rfl ?_
    refine zg_getA ok lf_X2_9 dX2_restore_44 hE (fun v4 hE => ?_)
    refine zg_iconst (v := 0) ok dX2_restore_47 (by decide) ?_
    refine zg_callS (vs := [zA v3, zI (l1 * 103), zA v4, zI 0]) (rest := []) (rm := rm_X2_lays) ok hRm lk_X2_149 dX2_restore_48 hE (fun hE => mt_X2_lays hl hE) rfl (Nat.le_of_ble_eq_true rfl) ⟨⟨Nat.le_of_ble_eq_true rfl, Nat.le_of_ble_eq_true rfl⟩, Nat.le_of_ble_eq_true rfl, Nat.le_of_ble_eq_true rfl⟩ (zg_retV (fun h3 hE => ?_)) (zg_xok ok tab fin ⟨Nat.le_of_ble_eq_true rfl, Nat.le_of_ble_eq_true rfl⟩)
    refine zg_cost (kc2 := 0) (ks2 := 0) ⟨rfl, rfl⟩ ?_
    refine zg_aload_n ok dX2_restore_51 rfl 0 rfl ?_
    refine zg_iconst (v := 0) ok dX2_restore_52 (by decide) ?_
    refine zg_put (ty := .int) ok lf_X2_160 (Or.inl rfl) (by decide) (by decide +kernel) rfl rfl dX2_restore_53 hE (fun h4 hE => ?_)
    refine zg_aload_n ok dX2_restore_56 rfl 0 rfl ?_
    refine zg_getA ok lf_X2_9 dX2_restore_57 hE (fun v5 hE => ?_)
    refine zg_bipush (v := 6) ok dX2_restore_60 (by decide) ?_
    refine zg_iald ok dX2_restore_62 hE (fun v6 hE => ?_)
    exact zg_iret ok fin dX2_restore_63 ⟨Nat.le_of_ble_eq_true rfl, Nat.le_of_ble_eq_true rfl⟩ hE
  · refine zg_iconst (v := 0) ok dX2_restore_33 (by decide) ?_
    exact zg_iret ok fin dX2_restore_34 ⟨Nat.le_of_ble_eq_true rfl, Nat.le_of_ble_eq_true rfl⟩ hE
set_option maxHeartbeats 8000000 in
theorem gt_f_X2_restore_J26 {Xc : zw_X} {Q : Int32 → zw_H → Prop} {X : String → Nat → zw_H → Prop} (hl : (zw_l Xc).stackTraces = false) (ok : zw_ok Xc cX2_restore "MultipoleLineModel" yX2_restore.name 3) (tab : zw_tab Xc []) (fin : zw_fin Xc (Option.some Jvm.ClassFile.FieldType.int) (zq_I Q) X 0 0) (hRm : zw_rm Xc = rm_X2_restore)  {l0 : Option Nat} {l1 : Int32} {s0 : Int32} {s1 : Option Nat} {h : zw_H} (hE : f_X2_restore_J26 (zw_Zf Xc).2.2.2 Q X  l0 l1 s0 s1 h) : zw_G Xc 0 0 3 h 26 [(0, va_rf l0), (1, .int l1)] [.int s0, va_rf s1] := by
  unfold f_X2_restore_J26 at hE
  refine zg_iconst (v := 0) ok dX2_restore_26 (by decide) ?_
  exact gt_f_X2_restore_J27 hl ok tab fin hRm  hE
set_option maxHeartbeats 8000000 in
theorem mt_X2_restore {l : Launch} (hl : l.stackTraces = false) {Z : zw_Z} {a0 : Option Nat} {a1 : Int32} {h : zw_H} {Q : Int32 → zw_H → Prop} {X : String → Nat → zw_H → Prop} (hE : f_X2_restore Z.2.2.2 a0 a1 h Q X) : zw_Met l Z yX2_restore (ws_ yX2_restore cX2_restore 3 (Option.some Jvm.ClassFile.FieldType.int)) rm_X2_restore [zA a0, zI a1] h (zq_I Q) X := by
  refine zg_start (own := "MultipoleLineModel") (by decide +kernel) rfl (Nat.le_of_ble_eq_true rfl) hl (fun Xc ok tab fin hRm hXl hXZ => ?_)
  subst hXl
  subst hXZ
  unfold f_X2_restore at hE
  refine zg_iload_n ok dX2_restore_0 rfl 1 rfl ?_
  refine zg_iconst (v := 0) ok dX2_restore_1 (by decide) ?_
  refine zg_iconst (v := 1) ok dX2_restore_2 (by decide) ?_
  refine zg_callS (vs := [zI a1, zI 0, zI 1]) (rest := []) (rm := rm_X2_in) ok hRm lk_X2_77 dX2_restore_3 hE (fun hE => mt_X2_in hl hE) rfl (Nat.le_of_ble_eq_true rfl) ⟨⟨Nat.le_of_ble_eq_true rfl, Nat.le_of_ble_eq_true rfl⟩, Nat.le_of_ble_eq_true rfl, Nat.le_of_ble_eq_true rfl⟩ (zg_retI (fun v1 h1 hE => ?_)) (zg_xok ok tab fin ⟨Nat.le_of_ble_eq_true rfl, Nat.le_of_ble_eq_true rfl⟩)
  refine zg_cost (kc2 := 0) (ks2 := 0) ⟨rfl, rfl⟩ ?_
  refine zg_istore_n (L' := [(2, .int v1), (0, va_rf a0), (1, .int a1)]) ok dX2_restore_6 rfl (by decide) rfl ?_
  refine zg_aload_n ok dX2_restore_7 rfl 1 rfl ?_
  refine zg_iload_n ok dX2_restore_8 rfl 0 rfl ?_
  refine zg_iload_n ok dX2_restore_9 rfl 0 rfl ?_
  refine zg_if_eq (tgt := 26) ok dX2_restore_10 (by decide) hE (fun hE => ?_) (fun hE => ?_)
  · refine zg_sub (L' := [(0, va_rf a0), (1, .int a1)]) [1, 2] rfl ?_
    exact gt_f_X2_restore_J26 hl ok tab fin hRm  hE
  · refine zg_aload_n ok dX2_restore_13 rfl 1 rfl ?_
    refine zg_getA ok lf_X2_22 dX2_restore_14 hE (fun v7 hE => ?_)
    refine zg_iload_n ok dX2_restore_17 rfl 2 rfl ?_
    refine zg_zald ok dX2_restore_18 hE (fun v8 hE => ?_)
    refine zg_if_eq (tgt := 26) ok dX2_restore_19 (by decide) hE (fun hE => ?_) (fun hE => ?_)
    · refine zg_sub (L' := [(0, va_rf a0), (1, .int a1)]) [1, 2] rfl ?_
      exact gt_f_X2_restore_J26 hl ok tab fin hRm  hE
    · refine zg_iconst (v := 1) ok dX2_restore_22 (by decide) ?_
      refine zg_goto (tgt := 27) ok dX2_restore_23 (by decide) ?_
      refine zg_sub (L' := [(0, va_rf a0), (1, .int a1)]) [1, 2] rfl ?_
      exact gt_f_X2_restore_J27 hl ok tab fin hRm  hE
set_option maxHeartbeats 8000000 in
theorem mt_J0_init {l : Launch} (hl : l.stackTraces = false) {Z : zw_Z} {a0 : Option Nat} {h : zw_H} {Q : zw_H → Prop} {X : String → Nat → zw_H → Prop} (hE : f_J0_init Z.2.2.2 a0 h Q X) : zw_Met l Z yJ0_init (ws_ yJ0_init cJ0_init 1 (Option.none : Option Jvm.ClassFile.FieldType)) rm_J0_init [zA a0] h (zq_V Q) X := by
  refine zg_start (own := "java/util/AbstractCollection") (by decide +kernel) rfl (Nat.le_of_ble_eq_true rfl) hl (fun Xc ok tab fin hRm hXl hXZ => ?_)
  subst hXl
  subst hXZ
  unfold f_J0_init at hE
  refine zg_aload_n ok dJ0_init_0 rfl 0 rfl ?_
  refine zg_objInitE (rest := []) ok hRm q169 ⟨Nat.le_of_ble_eq_true rfl, Nat.le_of_ble_eq_true rfl⟩ (Nat.le_of_ble_eq_true rfl) dJ0_init_1 hE (fun hE => ?_)
  exact zg_vret ok fin dJ0_init_4 ⟨Nat.le_of_ble_eq_true rfl, Nat.le_of_ble_eq_true rfl⟩ hE
set_option maxHeartbeats 8000000 in
theorem mt_J1_init {l : Launch} (hl : l.stackTraces = false) {Z : zw_Z} {a0 : Option Nat} {h : zw_H} {Q : zw_H → Prop} {X : String → Nat → zw_H → Prop} (hE : f_J1_init Z.2.2.2 a0 h Q X) : zw_Met l Z yJ1_init (ws_ yJ1_init cJ1_init 1 (Option.none : Option Jvm.ClassFile.FieldType)) rm_J1_init [zA a0] h (zq_V Q) X := by
  refine zg_start (own := "java/util/ArrayDeque") (by decide +kernel) rfl (Nat.le_of_ble_eq_true rfl) hl (fun Xc ok tab fin hRm hXl hXZ => ?_)
  subst hXl
  subst hXZ
  unfold f_J1_init at hE
  refine zg_aload_n ok dJ1_init_0 rfl 0 rfl ?_
  refine zg_callI (vs := []) (rest := []) (rm := rm_J0_init) ok hRm lk_J1_42 dJ1_init_1 hE.1 hE.2 (fun hE => mt_J0_init hl hE) rfl (Nat.le_of_ble_eq_true rfl) ⟨⟨Nat.le_of_ble_eq_true rfl, Nat.le_of_ble_eq_true rfl⟩, Nat.le_of_ble_eq_true rfl, Nat.le_of_ble_eq_true rfl⟩ (zg_retV (fun h1 hE => ?_)) (zg_xok ok tab fin ⟨Nat.le_of_ble_eq_true rfl, Nat.le_of_ble_eq_true rfl⟩)
  refine zg_cost (kc2 := 0) (ks2 := 0) ⟨rfl, rfl⟩ ?_
  refine zg_aload_n ok dJ1_init_4 rfl 0 rfl ?_
  refine zg_bipush (v := 17) ok dJ1_init_5 (by decide) ?_
  refine zg_newO (b := 17) ok q170 (by rw [hRm]; exact ⟨Nat.le_of_ble_eq_true rfl, Nat.le_of_ble_eq_true rfl⟩) (Nat.le_of_ble_eq_true rfl) dJ1_init_7 hE (fun v1 h2 hE => ?_)
  refine zg_cost (kc2 := 1) (ks2 := 17) ⟨rfl, rfl⟩ ?_
  refine zg_put (ty := (.array (.object "java/lang/Object"))) ok lf_J1_3 (Or.inl rfl) (by decide) (by decide +kernel) (zw_nrA _ _) (zw_frA _ _) dJ1_init_10 hE (fun h3 hE => ?_)
  exact zg_vret ok fin dJ1_init_13 ⟨Nat.le_of_ble_eq_true rfl, Nat.le_of_ble_eq_true rfl⟩ hE
set_option maxHeartbeats 8000000 in
theorem mt_J2_init {l : Launch} (hl : l.stackTraces = false) {Z : zw_Z} {a0 : Option Nat} {a1 : Int32} {h : zw_H} {Q : zw_H → Prop} {X : String → Nat → zw_H → Prop} (hE : f_J2_init Z.2.2.2 a0 a1 h Q X) : zw_Met l Z yJ2_init (ws_ yJ2_init cJ2_init 2 (Option.none : Option Jvm.ClassFile.FieldType)) rm_J2_init [zA a0, zI a1] h (zq_V Q) X := by
  refine zg_start (own := "java/lang/AbstractStringBuilder") (by decide +kernel) rfl (Nat.le_of_ble_eq_true rfl) hl (fun Xc ok tab fin hRm hXl hXZ => ?_)
  subst hXl
  subst hXZ
  unfold f_J2_init at hE
  refine zg_aload_n ok dJ2_init_0 rfl 0 rfl ?_
  refine zg_objInitE (rest := []) ok hRm q193 ⟨Nat.le_of_ble_eq_true rfl, Nat.le_of_ble_eq_true rfl⟩ (Nat.le_of_ble_eq_true rfl) dJ2_init_1 hE (fun hE => ?_)
  refine zg_getsI (C := "java/lang/String") (n := "COMPACT_STRINGS") (d' := "Z") (v := 1) ok (List.mem_of_getElem? (i := 0) rfl) q194 dJ2_init_4 ?_
  refine zg_if_eq (tgt := 25) ok dJ2_init_7 (by decide) hE (fun hE => ?_) (fun hE => ?_)
  · exact hE.elim
  · refine zg_aload_n ok dJ2_init_10 rfl 0 rfl ?_
    refine zg_iload_n ok dJ2_init_11 rfl 1 rfl ?_
    refine zg_newB (b := 16) ok (by rw [hRm]; exact ⟨Nat.le_of_ble_eq_true rfl, Nat.le_of_ble_eq_true rfl⟩) (Nat.le_of_ble_eq_true rfl) dJ2_init_12 hE (fun v1 h1 hE => ?_)
    refine zg_cost (kc2 := 1) (ks2 := 16) ⟨rfl, rfl⟩ ?_
    refine zg_put (ty := (.array .byte)) ok lf_J2_15 (Or.inl rfl) (by decide) (by decide +kernel) (zw_nrA _ _) (zw_frA _ _) dJ2_init_14 hE (fun h2 hE => ?_)
    refine zg_aload_n ok dJ2_init_17 rfl 0 rfl ?_
    refine zg_iconst (v := 0) ok dJ2_init_18 (by decide) ?_
    refine zg_put (ty := .byte) ok lf_J2_22 (Or.inl rfl) (by decide) (by decide +kernel) rfl rfl dJ2_init_19 hE (fun h3 hE => ?_)
    refine zg_goto (tgt := 38) ok dJ2_init_22 (by decide) ?_
    exact zg_vret ok fin dJ2_init_38 ⟨Nat.le_of_ble_eq_true rfl, Nat.le_of_ble_eq_true rfl⟩ hE
set_option maxHeartbeats 8000000 in
theorem mt_J3_init {l : Launch} (hl : l.stackTraces = false) {Z : zw_Z} {a0 : Option Nat} {h : zw_H} {Q : zw_H → Prop} {X : String → Nat → zw_H → Prop} (hE : f_J3_init Z.2.2.2 a0 h Q X) : zw_Met l Z yJ3_init (ws_ yJ3_init cJ3_init 1 (Option.none : Option Jvm.ClassFile.FieldType)) rm_J3_init [zA a0] h (zq_V Q) X := by
  refine zg_startF (own := "java/lang/StringBuilder") (by decide +kernel) rfl (Nat.le_of_ble_eq_true rfl) hl (fun Xc ok tab fin hRm hXl hXZ => ?_)
  subst hXl
  subst hXZ
  unfold f_J3_init at hE
  refine zg_aload_n ok dJ3_init_0 rfl 0 rfl ?_
  refine zg_bipush (v := 16) ok dJ3_init_1 (by decide) ?_
  refine zg_callI (vs := [zI 16]) (rest := []) (rm := rm_J2_init) ok hRm lk_J3_1 dJ3_init_3 hE.1 hE.2 (fun hE => mt_J2_init hl hE) rfl (Nat.le_of_ble_eq_true rfl) ⟨⟨Nat.le_of_ble_eq_true rfl, Nat.le_of_ble_eq_true rfl⟩, Nat.le_of_ble_eq_true rfl, Nat.le_of_ble_eq_true rfl⟩ (zg_retV (fun h1 hE => ?_)) (zg_xok ok tab fin ⟨Nat.le_of_ble_eq_true rfl, Nat.le_of_ble_eq_true rfl⟩)
  refine zg_cost (kc2 := 1) (ks2 := 16) ⟨rfl, rfl⟩ ?_
  exact zg_vret ok fin dJ3_init_6 ⟨Nat.le_of_ble_eq_true rfl, Nat.le_of_ble_eq_true rfl⟩ hE
set_option maxHeartbeats 8000000 in
theorem mt_X1_init {l : Launch} (hl : l.stackTraces = false) {Z : zw_Z} {a0 : Option Nat} {h : zw_H} {Q : zw_H → Prop} {X : String → Nat → zw_H → Prop} (hE : f_X1_init Z.2.2.2 a0 h Q X) : zw_Met l Z yX1_init (ws_ yX1_init cX1_init 1 (Option.none : Option Jvm.ClassFile.FieldType)) rm_X1_init [zA a0] h (zq_V Q) X := by
  refine zg_start (own := "MultipoleLine") (by decide +kernel) rfl (Nat.le_of_ble_eq_true rfl) hl (fun Xc ok tab fin hRm hXl hXZ => ?_)
  subst hXl
  subst hXZ
  unfold f_X1_init at hE
  refine zg_aload_n ok dX1_init_0 rfl 0 rfl ?_
  refine zg_objInitE (rest := []) ok hRm q158 ⟨Nat.le_of_ble_eq_true rfl, Nat.le_of_ble_eq_true rfl⟩ (Nat.le_of_ble_eq_true rfl) dX1_init_1 hE (fun hE => ?_)
  refine zg_aload_n ok dX1_init_4 rfl 0 rfl ?_
  refine zg_sipush (v := 500) ok dX1_init_5 (by decide) ?_
  refine zg_newB (b := 576) ok (by rw [hRm]; exact ⟨Nat.le_of_ble_eq_true rfl, Nat.le_of_ble_eq_true rfl⟩) (Nat.le_of_ble_eq_true rfl) dX1_init_8 hE (fun v1 h1 hE => ?_)
  refine zg_cost (kc2 := 1) (ks2 := 576) ⟨rfl, rfl⟩ ?_
  refine zg_put (ty := (.array .byte)) ok lf_X1_27 (Or.inr ⟨rfl, rfl, rfl, "MultipoleLine", q218, Or.inl rfl⟩) (by decide) (by decide +kernel) (zw_nrA _ _) (zw_frA _ _) dX1_init_10 hE (fun h2 hE => ?_)
  refine zg_aload_n ok dX1_init_13 rfl 0 rfl ?_
  refine zg_iconst (v := (-1)) ok dX1_init_14 (by decide) ?_
  refine zg_put (ty := .int) ok lf_X1_31 (Or.inl rfl) (by decide) (by decide +kernel) rfl rfl dX1_init_15 hE (fun h3 hE => ?_)
  refine zg_aload_n ok dX1_init_18 rfl 0 rfl ?_
  refine zg_new ok ln_X1_35 (by rw [hRm]; exact ⟨Nat.le_of_ble_eq_true rfl, Nat.le_of_ble_eq_true rfl⟩) dX1_init_19 hE (fun v2 h4 hE => ?_)
  refine zg_cost (kc2 := 2) (ks2 := 579) ⟨rfl, rfl⟩ ?_
  refine zg_dup ok dX1_init_22 (zw_rfc _) ?_
  refine zg_callI (vs := []) (rest := [va_rf (some v2), va_rf a0]) (rm := rm_J1_init) ok hRm lk_X1_37 dX1_init_23 (by simp) hE (fun hE => mt_J1_init hl hE) rfl (Nat.le_of_ble_eq_true rfl) ⟨⟨Nat.le_of_ble_eq_true rfl, Nat.le_of_ble_eq_true rfl⟩, Nat.le_of_ble_eq_true rfl, Nat.le_of_ble_eq_true rfl⟩ (zg_retV (fun h5 hE => ?_)) (zg_xok ok tab fin ⟨Nat.le_of_ble_eq_true rfl, Nat.le_of_ble_eq_true rfl⟩)
  refine zg_cost (kc2 := 3) (ks2 := 596) ⟨rfl, rfl⟩ ?_
  refine zg_put (ty := (.object "java/util/ArrayDeque")) ok lf_X1_38 (Or.inr ⟨rfl, rfl, rfl, "MultipoleLine", q223, Or.inl rfl⟩) (by decide) (by decide +kernel) (zw_nrO _ _) (zw_frO _ _) dX1_init_26 hE (fun h6 hE => ?_)
  refine zg_aload_n ok dX1_init_29 rfl 0 rfl ?_
  refine zg_iconst (v := 2) ok dX1_init_30 (by decide) ?_
  refine zg_newL (b := 576) ok q183 (by rw [hRm]; exact ⟨Nat.le_of_ble_eq_true rfl, Nat.le_of_ble_eq_true rfl⟩) (Nat.le_of_ble_eq_true rfl) dX1_init_31 hE (fun v3 h7 hE => ?_)
  refine zg_cost (kc2 := 4) (ks2 := 1172) ⟨rfl, rfl⟩ ?_
  refine zg_put (ty := (.array (.object "MultipoleLine$Line"))) ok lf_X1_44 (Or.inr ⟨rfl, rfl, rfl, "MultipoleLine", q224, Or.inl rfl⟩) (by decide) (by decide +kernel) (zw_nrA _ _) (zw_frA _ _) dX1_init_34 hE (fun h8 hE => ?_)
  refine zg_aload_n ok dX1_init_37 rfl 0 rfl ?_
  refine zg_new ok ln_X1_48 (by rw [hRm]; exact ⟨Nat.le_of_ble_eq_true rfl, Nat.le_of_ble_eq_true rfl⟩) dX1_init_38 hE (fun v4 h9 hE => ?_)
  refine zg_cost (kc2 := 5) (ks2 := 1176) ⟨rfl, rfl⟩ ?_
  refine zg_dup ok dX1_init_41 (zw_rfc _) ?_
  refine zg_callI (vs := []) (rest := [va_rf (some v4), va_rf a0]) (rm := rm_J3_init) ok hRm lk_X1_50 dX1_init_42 (by simp) hE (fun hE => mt_J3_init hl hE) rfl (Nat.le_of_ble_eq_true rfl) ⟨⟨Nat.le_of_ble_eq_true rfl, Nat.le_of_ble_eq_true rfl⟩, Nat.le_of_ble_eq_true rfl, Nat.le_of_ble_eq_true rfl⟩ (zg_retV (fun h10 hE => ?_)) (zg_xok ok tab fin ⟨Nat.le_of_ble_eq_true rfl, Nat.le_of_ble_eq_true rfl⟩)
  refine zg_cost (kc2 := 6) (ks2 := 1192) ⟨rfl, rfl⟩ ?_
  refine zg_put (ty := (.object "java/lang/StringBuilder")) ok lf_X1_51 (Or.inr ⟨rfl, rfl, rfl, "MultipoleLine", q225, Or.inl rfl⟩) (by decide) (by decide +kernel) (zw_nrO _ _) (zw_frO _ _) dX1_init_45 hE (fun h11 hE => ?_)
  exact zg_vret ok fin dX1_init_48 ⟨Nat.le_of_ble_eq_true rfl, Nat.le_of_ble_eq_true rfl⟩ hE
set_option maxHeartbeats 8000000 in
theorem gt_f_X1_append_B68 {Xc : zw_X} {Q : Int32 → zw_H → Prop} {X : String → Nat → zw_H → Prop} (hl : (zw_l Xc).stackTraces = false) (ok : zw_ok Xc cX1_append "MultipoleLine" yX1_append.name 11) (tab : zw_tab Xc []) (fin : zw_fin Xc (Option.some Jvm.ClassFile.FieldType.int) (zq_I Q) X 1 5) (hRm : zw_rm Xc = rm_X1_append) {kc ks : Nat} (hb : kc ≤ 1 ∧ ks ≤ 5) {R : Int32 → zw_H → Prop} {l0 : Option Nat} {l6 : Option Nat} {l7 : Int32} {l8 : Int32} {l9 : Int32} (hR : ∀ (l10 : Int32) (h : zw_H), R l10 h → zw_G Xc kc ks 11 h 68 [(0, va_rf l0), (6, va_rf l6), (7, .int l7), (8, .int l8), (9, .int l9), (10, .int l10)] []) {k104 : zw_H → Prop} (hk104 : ∀  (h : zw_H), k104  h → zw_G Xc kc ks 11 h 104 [(0, va_rf l0), (6, va_rf l6), (7, .int l7), (8, .int l8)] [])  {l10 : Int32} {h : zw_H} (hE : f_X1_append_B68 (zw_Zf Xc).2.2.2 Q X k104 l0 l6 l7 l8 l9 R l10 h) : zw_G Xc kc ks 11 h 68 [(0, va_rf l0), (6, va_rf l6), (7, .int l7), (8, .int l8), (9, .int l9), (10, .int l10)] [] := by
  unfold f_X1_append_B68 at hE
  refine zg_iload ok dX1_append_68 5 rfl ?_
  refine zg_if_lt (tgt := 104) ok dX1_append_70 (by decide) hE (fun hE => ?_) (fun hE => ?_)
  · refine zg_sub (L' := [(0, va_rf l0), (6, va_rf l6), (7, .int l7), (8, .int l8)]) [0, 1, 2, 3] rfl ?_
    exact hk104 _ hE
  · refine zg_aload_n ok dX1_append_73 rfl 0 rfl ?_
    refine zg_getA ok lf_X1_27 dX1_append_74 hE (fun v5 hE => ?_)
    refine zg_aload_n ok dX1_append_77 rfl 0 rfl ?_
    refine zg_getI ok lf_X1_114 dX1_append_78 hE (fun v6 hE => ?_)
    refine zg_iload ok dX1_append_81 4 rfl ?_
    refine zg_iload ok dX1_append_83 5 rfl ?_
    refine zg_ishr ok dX1_append_85 ?_
    refine zg_i2b ok dX1_append_86 ?_
    refine zg_bast ok dX1_append_87 hE (fun h7 hE => ?_)
    refine zg_aload_n ok dX1_append_88 rfl 0 rfl ?_
    refine zg_dup ok dX1_append_89 (zw_rfc _) ?_
    refine zg_getI ok lf_X1_114 dX1_append_90 hE (fun v7 hE => ?_)
    refine zg_iconst (v := 1) ok dX1_append_93 (by decide) ?_
    refine zg_iadd ok dX1_append_94 ?_
    refine zg_put (ty := .int) ok lf_X1_114 (Or.inl rfl) (by decide) (by decide +kernel) rfl rfl dX1_append_95 hE (fun h8 hE => ?_)
    refine zg_iincL (k := 5) (L' := fun v8 => [(10, .int v8), (0, va_rf l0), (6, va_rf l6), (7, .int l7), (8, .int l8), (9, .int l9)]) ok dX1_append_98 (by decide +kernel) hE rfl (by decide) (fun _ => rfl) (fun v8 hE => ?_)
    refine zg_goto (tgt := 68) ok dX1_append_101 (by decide) ?_
    refine zg_sub (L' := [(0, va_rf l0), (6, va_rf l6), (7, .int l7), (8, .int l8), (9, .int l9), (10, .int v8)]) [1, 2, 3, 4, 5, 0] rfl ?_
    exact hR _ _ hE
theorem gt_f_X1_append_L68 {Xc : zw_X} {Q : Int32 → zw_H → Prop} {X : String → Nat → zw_H → Prop} (hl : (zw_l Xc).stackTraces = false) (ok : zw_ok Xc cX1_append "MultipoleLine" yX1_append.name 11) (tab : zw_tab Xc []) (fin : zw_fin Xc (Option.some Jvm.ClassFile.FieldType.int) (zq_I Q) X 1 5) (hRm : zw_rm Xc = rm_X1_append) {kc ks : Nat} (hb : kc ≤ 1 ∧ ks ≤ 5) {l0 : Option Nat} {l6 : Option Nat} {l7 : Int32} {l8 : Int32} {l9 : Int32} {k104 : zw_H → Prop} (hk104 : ∀  (h : zw_H), k104  h → zw_G Xc kc ks 11 h 104 [(0, va_rf l0), (6, va_rf l6), (7, .int l7), (8, .int l8)] [])  : ∀ (n9 : Nat) (l10 : Int32) (h : zw_H), zl2 (f_X1_append_B68 (zw_Zf Xc).2.2.2 Q X k104 l0 l6 l7 l8 l9) n9 l10 h → zw_G Xc kc ks 11 h 68 [(0, va_rf l0), (6, va_rf l6), (7, .int l7), (8, .int l8), (9, .int l9), (10, .int l10)] [] := by
  intro n9
  induction n9 with
  | zero => intro l10 h hE; exact hE.elim
  | succ n9 ih => intro l10 h hE; exact gt_f_X1_append_B68 hl ok tab fin hRm hb ih hk104 hE
set_option maxHeartbeats 8000000 in
theorem gt_f_X1_append_B50 {Xc : zw_X} {Q : Int32 → zw_H → Prop} {X : String → Nat → zw_H → Prop} (hl : (zw_l Xc).stackTraces = false) (ok : zw_ok Xc cX1_append "MultipoleLine" yX1_append.name 11) (tab : zw_tab Xc []) (fin : zw_fin Xc (Option.some Jvm.ClassFile.FieldType.int) (zq_I Q) X 1 5) (hRm : zw_rm Xc = rm_X1_append) {kc ks : Nat} (hb : kc ≤ 1 ∧ ks ≤ 5) {R : Int32 → zw_H → Prop} {l0 : Option Nat} {l6 : Option Nat} {l7 : Int32} (hR : ∀ (l8 : Int32) (h : zw_H), R l8 h → zw_G Xc kc ks 11 h 50 [(0, va_rf l0), (6, va_rf l6), (7, .int l7), (8, .int l8)] []) {k110 : zw_H → Prop} (hk110 : ∀  (h : zw_H), k110  h → zw_G Xc kc ks 11 h 110 [(0, va_rf l0)] [])  {l8 : Int32} {h : zw_H} (hE : f_X1_append_B50 (zw_Zf Xc).2.2.2 Q X k110 l0 l6 l7 R l8 h) : zw_G Xc kc ks 11 h 50 [(0, va_rf l0), (6, va_rf l6), (7, .int l7), (8, .int l8)] [] := by
  unfold f_X1_append_B50 at hE
  refine zg_iload ok dX1_append_50 3 rfl ?_
  refine zg_iload ok dX1_append_52 2 rfl ?_
  refine zg_icmp_ge (tgt := 110) ok dX1_append_54 (by decide) hE (fun hE => ?_) (fun hE => ?_)
  · refine zg_sub (L' := [(0, va_rf l0)]) [0] rfl ?_
    exact hk110 _ hE
  · refine zg_aload ok dX1_append_57 1 rfl ?_
    refine zg_iload ok dX1_append_59 3 rfl ?_
    refine zg_iald ok dX1_append_61 hE (fun v4 hE => ?_)
    refine zg_istore (L' := [(9, .int v4), (0, va_rf l0), (6, va_rf l6), (7, .int l7), (8, .int l8)]) ok dX1_append_62 (by decide) rfl ?_
    refine zg_bipush (v := 24) ok dX1_append_64 (by decide) ?_
    refine zg_istore (L' := [(10, .int 24), (9, .int v4), (0, va_rf l0), (6, va_rf l6), (7, .int l7), (8, .int l8)]) ok dX1_append_66 (by decide) rfl ?_
    refine zg_sub (L' := [(0, va_rf l0), (6, va_rf l6), (7, .int l7), (8, .int l8), (9, .int v4), (10, .int 24)]) [2, 3, 4, 5, 1, 0] rfl ?_
    refine gt_f_X1_append_L68 hl ok tab fin hRm ⟨(by omega), (by omega)⟩ ?_ _ _ _ hE
    · intro h9 hE
      refine zg_iincL (k := 3) (L' := fun v9 => [(8, .int v9), (0, va_rf l0), (6, va_rf l6), (7, .int l7)]) ok dX1_append_104 (by decide +kernel) hE rfl (by decide) (fun _ => rfl) (fun v9 hE => ?_)
      refine zg_goto (tgt := 50) ok dX1_append_107 (by decide) ?_
      refine zg_sub (L' := [(0, va_rf l0), (6, va_rf l6), (7, .int l7), (8, .int v9)]) [1, 2, 3, 0] rfl ?_
      exact hR _ _ hE
theorem gt_f_X1_append_L50 {Xc : zw_X} {Q : Int32 → zw_H → Prop} {X : String → Nat → zw_H → Prop} (hl : (zw_l Xc).stackTraces = false) (ok : zw_ok Xc cX1_append "MultipoleLine" yX1_append.name 11) (tab : zw_tab Xc []) (fin : zw_fin Xc (Option.some Jvm.ClassFile.FieldType.int) (zq_I Q) X 1 5) (hRm : zw_rm Xc = rm_X1_append) {kc ks : Nat} (hb : kc ≤ 1 ∧ ks ≤ 5) {l0 : Option Nat} {l6 : Option Nat} {l7 : Int32} {k110 : zw_H → Prop} (hk110 : ∀  (h : zw_H), k110  h → zw_G Xc kc ks 11 h 110 [(0, va_rf l0)] [])  : ∀ (n9 : Nat) (l8 : Int32) (h : zw_H), zl2 (f_X1_append_B50 (zw_Zf Xc).2.2.2 Q X k110 l0 l6 l7) n9 l8 h → zw_G Xc kc ks 11 h 50 [(0, va_rf l0), (6, va_rf l6), (7, .int l7), (8, .int l8)] [] := by
  intro n9
  induction n9 with
  | zero => intro l8 h hE; exact hE.elim
  | succ n9 ih => intro l8 h hE; exact gt_f_X1_append_B50 hl ok tab fin hRm hb ih hk110 hE
set_option maxHeartbeats 8000000 in
theorem mt_X1_append {l : Launch} (hl : l.stackTraces = false) {Z : zw_Z} {a0 : Option Nat} {a1 : Int32} {a2 : Int32} {a3 : Int32} {a4 : Int32} {a5 : Int32} {h : zw_H} {Q : Int32 → zw_H → Prop} {X : String → Nat → zw_H → Prop} (hE : f_X1_append Z.2.2.2 a0 a1 a2 a3 a4 a5 h Q X) : zw_Met l Z yX1_append (ws_ yX1_append cX1_append 11 (Option.some Jvm.ClassFile.FieldType.int)) rm_X1_append [zA a0, zI a1, zI a2, zI a3, zI a4, zI a5] h (zq_I Q) X := by
  refine zg_start (own := "MultipoleLine") (by decide +kernel) rfl (Nat.le_of_ble_eq_true rfl) hl (fun Xc ok tab fin hRm hXl hXZ => ?_)
  subst hXl
  subst hXZ
  unfold f_X1_append at hE
  refine zg_aload_n ok dX1_append_0 rfl 0 rfl ?_
  refine zg_getI ok lf_X1_114 dX1_append_1 hE (fun v1 hE => ?_)
  refine zg_bipush (v := 20) ok dX1_append_4 (by decide) ?_
  refine zg_iadd ok dX1_append_6 ?_
  refine zg_sipush (v := 500) ok dX1_append_7 (by decide) ?_
  refine zg_icmp_le (tgt := 15) ok dX1_append_10 (by decide) hE (fun hE => ?_) (fun hE => ?_)
  · refine zg_iconst (v := 5) ok dX1_append_15 (by decide) ?_
    refine zg_newI (b := 5) ok (by rw [hRm]; exact ⟨Nat.le_of_ble_eq_true rfl, Nat.le_of_ble_eq_true rfl⟩) (Nat.le_of_ble_eq_true rfl) dX1_append_16 hE (fun v2 h1 hE => ?_)
    refine zg_cost (kc2 := 1) (ks2 := 5) ⟨rfl, rfl⟩ ?_
    refine zg_dup ok dX1_append_18 (zw_rfc _) ?_
    refine zg_iconst (v := 0) ok dX1_append_19 (by decide) ?_
    refine zg_iload_n ok dX1_append_20 rfl 1 rfl ?_
    refine zg_iast ok dX1_append_21 hE (fun h2 hE => ?_)
    refine zg_dup ok dX1_append_22 (zw_rfc _) ?_
    refine zg_iconst (v := 1) ok dX1_append_23 (by decide) ?_
    refine zg_iload_n ok dX1_append_24 rfl 2 rfl ?_
    refine zg_iast ok dX1_append_25 hE (fun h3 hE => ?_)
    refine zg_dup ok dX1_append_26 (zw_rfc _) ?_
    refine zg_iconst (v := 2) ok dX1_append_27 (by decide) ?_
    refine zg_iload_n ok dX1_append_28 rfl 3 rfl ?_
    refine zg_iast ok dX1_append_29 hE (fun h4 hE => ?_)
    refine zg_dup ok dX1_append_30 (zw_rfc _) ?_
    refine zg_iconst (v := 3) ok dX1_append_31 (by decide) ?_
    refine zg_iload ok dX1_append_32 4 rfl ?_
    refine zg_iast ok dX1_append_34 hE (fun h5 hE => ?_)
    refine zg_dup ok dX1_append_35 (zw_rfc _) ?_
    refine zg_iconst (v := 4) ok dX1_append_36 (by decide) ?_
    refine zg_iload ok dX1_append_37 5 rfl ?_
    refine zg_iast ok dX1_append_39 hE (fun h6 hE => ?_)
    refine zg_astore (L' := [(6, va_rf (some v2)), (0, va_rf a0), (1, .int a1), (2, .int a2), (3, .int a3), (4, .int a4), (5, .int a5)]) ok dX1_append_40 (by decide) rfl ?_
    refine zg_aload ok dX1_append_42 0 rfl ?_
    refine zg_alen ok dX1_append_44 hE (fun v3 hE => ?_)
    refine zg_istoreR (L' := [(7, .int v3), (6, va_rf (some v2)), (0, va_rf a0), (1, .int a1), (2, .int a2), (3, .int a3), (4, .int a4), (5, .int a5)]) ok dX1_append_45 (by decide) 0 rfl rfl rfl ?_
    refine zg_iconst (v := 0) ok dX1_append_47 (by decide) ?_
    refine zg_istore (L' := [(8, .int 0), (7, .int v3), (6, va_rf (some v2)), (0, va_rf a0), (1, .int a1), (2, .int a2), (3, .int a3), (4, .int a4), (5, .int a5)]) ok dX1_append_48 (by decide) rfl ?_
    refine zg_sub (L' := [(0, va_rf a0), (6, va_rf (some v2)), (7, .int v3), (8, .int 0)]) [3, 2, 1, 0] rfl ?_
    refine gt_f_X1_append_L50 hl ok tab fin hRm ⟨Nat.le_of_ble_eq_true rfl, Nat.le_of_ble_eq_true rfl⟩ ?_ _ _ _ hE
    · intro h10 hE
      refine zg_aload_n ok dX1_append_110 rfl 0 rfl ?_
      refine zg_getI ok lf_X1_114 dX1_append_111 hE (fun v10 hE => ?_)
      exact zg_iret ok fin dX1_append_114 ⟨Nat.le_of_ble_eq_true rfl, Nat.le_of_ble_eq_true rfl⟩ hE
  · refine zg_iconst (v := (-1)) ok dX1_append_13 (by decide) ?_
    exact zg_iret ok fin dX1_append_14 ⟨Nat.le_of_ble_eq_true rfl, Nat.le_of_ble_eq_true rfl⟩ hE
set_option maxHeartbeats 8000000 in
theorem mt_X1_parseError {l : Launch} (hl : l.stackTraces = false) {Z : zw_Z} {a0 : Option Nat} {h : zw_H} {Q : Int32 → zw_H → Prop} {X : String → Nat → zw_H → Prop} (hE : f_X1_parseError Z.2.2.2 a0 h Q X) : zw_Met l Z yX1_parseError (ws_ yX1_parseError cX1_parseError 1 (Option.some Jvm.ClassFile.FieldType.int)) rm_X1_parseError [zA a0] h (zq_I Q) X := by
  refine zg_start (own := "MultipoleLine") (by decide +kernel) rfl (Nat.le_of_ble_eq_true rfl) hl (fun Xc ok tab fin hRm hXl hXZ => ?_)
  subst hXl
  subst hXZ
  unfold f_X1_parseError at hE
  refine zg_aload_n ok dX1_parseError_0 rfl 0 rfl ?_
  refine zg_getI ok lf_X1_117 dX1_parseError_1 hE (fun v1 hE => ?_)
  exact zg_iret ok fin dX1_parseError_4 ⟨Nat.le_of_ble_eq_true rfl, Nat.le_of_ble_eq_true rfl⟩ hE
set_option maxHeartbeats 8000000 in
theorem mt_X1_errorPosition {l : Launch} (hl : l.stackTraces = false) {Z : zw_Z} {a0 : Option Nat} {h : zw_H} {Q : Int32 → zw_H → Prop} {X : String → Nat → zw_H → Prop} (hE : f_X1_errorPosition Z.2.2.2 a0 h Q X) : zw_Met l Z yX1_errorPosition (ws_ yX1_errorPosition cX1_errorPosition 1 (Option.some Jvm.ClassFile.FieldType.int)) rm_X1_errorPosition [zA a0] h (zq_I Q) X := by
  refine zg_start (own := "MultipoleLine") (by decide +kernel) rfl (Nat.le_of_ble_eq_true rfl) hl (fun Xc ok tab fin hRm hXl hXZ => ?_)
  subst hXl
  subst hXZ
  unfold f_X1_errorPosition at hE
  refine zg_aload_n ok dX1_errorPosition_0 rfl 0 rfl ?_
  refine zg_getI ok lf_X1_31 dX1_errorPosition_1 hE (fun v1 hE => ?_)
  exact zg_iret ok fin dX1_errorPosition_4 ⟨Nat.le_of_ble_eq_true rfl, Nat.le_of_ble_eq_true rfl⟩ hE
set_option maxHeartbeats 8000000 in
theorem mt_X1_buffered {l : Launch} (hl : l.stackTraces = false) {Z : zw_Z} {a0 : Option Nat} {h : zw_H} {Q : Int32 → zw_H → Prop} {X : String → Nat → zw_H → Prop} (hE : f_X1_buffered Z.2.2.2 a0 h Q X) : zw_Met l Z yX1_buffered (ws_ yX1_buffered cX1_buffered 1 (Option.some Jvm.ClassFile.FieldType.int)) rm_X1_buffered [zA a0] h (zq_I Q) X := by
  refine zg_start (own := "MultipoleLine") (by decide +kernel) rfl (Nat.le_of_ble_eq_true rfl) hl (fun Xc ok tab fin hRm hXl hXZ => ?_)
  subst hXl
  subst hXZ
  unfold f_X1_buffered at hE
  refine zg_aload_n ok dX1_buffered_0 rfl 0 rfl ?_
  refine zg_getI ok lf_X1_114 dX1_buffered_1 hE (fun v1 hE => ?_)
  exact zg_iret ok fin dX1_buffered_4 ⟨Nat.le_of_ble_eq_true rfl, Nat.le_of_ble_eq_true rfl⟩ hE
set_option maxHeartbeats 8000000 in
theorem mt_J1_sub {l : Launch} (hl : l.stackTraces = false) {Z : zw_Z} {a0 : Int32} {a1 : Int32} {a2 : Int32} {h : zw_H} {Q : Int32 → zw_H → Prop} {X : String → Nat → zw_H → Prop} (hE : f_J1_sub Z.2.2.2 a0 a1 a2 h Q X) : zw_Met l Z yJ1_sub (ws_ yJ1_sub cJ1_sub 3 (Option.some Jvm.ClassFile.FieldType.int)) rm_J1_sub [zI a0, zI a1, zI a2] h (zq_I Q) X := by
  refine zg_start (own := "java/util/ArrayDeque") (by decide +kernel) rfl (Nat.le_of_ble_eq_true rfl) hl (fun Xc ok tab fin hRm hXl hXZ => ?_)
  subst hXl
  subst hXZ
  unfold f_J1_sub at hE
  refine zg_iload_n ok dJ1_sub_0 rfl 0 rfl ?_
  refine zg_iload_n ok dJ1_sub_1 rfl 1 rfl ?_
  refine zg_isub ok dJ1_sub_2 ?_
  refine zg_letI hE (fun v1 hE => ?_)
  refine zg_dup ok dJ1_sub_3 rfl ?_
  refine zg_istore_n (L' := [(0, .int v1), (1, .int a1), (2, .int a2)]) ok dJ1_sub_4 rfl (by decide) rfl ?_
  refine zg_if_ge (tgt := 12) ok dJ1_sub_5 (by decide) hE (fun hE => ?_) (fun hE => ?_)
  · refine zg_iload_n ok dJ1_sub_12 rfl 0 rfl ?_
    exact zg_iret ok fin dJ1_sub_13 ⟨Nat.le_of_ble_eq_true rfl, Nat.le_of_ble_eq_true rfl⟩ hE
  · refine zg_iload_n ok dJ1_sub_8 rfl 0 rfl ?_
    refine zg_iload_n ok dJ1_sub_9 rfl 2 rfl ?_
    refine zg_iadd ok dJ1_sub_10 ?_
    refine zg_letI hE (fun v2 hE => ?_)
    refine zg_istore_n (L' := [(0, .int v2), (1, .int a1), (2, .int a2)]) ok dJ1_sub_11 rfl (by decide) rfl ?_
    refine zg_iload_n ok dJ1_sub_12 rfl 0 rfl ?_
    exact zg_iret ok fin dJ1_sub_13 ⟨Nat.le_of_ble_eq_true rfl, Nat.le_of_ble_eq_true rfl⟩ hE
set_option maxHeartbeats 8000000 in
theorem mt_J1_size {l : Launch} (hl : l.stackTraces = false) {Z : zw_Z} {a0 : Option Nat} {h : zw_H} {Q : Int32 → zw_H → Prop} {X : String → Nat → zw_H → Prop} (hE : f_J1_size Z.2.2.2 a0 h Q X) : zw_Met l Z yJ1_size (ws_ yJ1_size cJ1_size 1 (Option.some Jvm.ClassFile.FieldType.int)) rm_J1_size [zA a0] h (zq_I Q) X := by
  refine zg_start (own := "java/util/ArrayDeque") (by decide +kernel) rfl (Nat.le_of_ble_eq_true rfl) hl (fun Xc ok tab fin hRm hXl hXZ => ?_)
  subst hXl
  subst hXZ
  unfold f_J1_size at hE
  refine zg_aload_n ok dJ1_size_0 rfl 0 rfl ?_
  refine zg_getI ok lf_J1_20 dJ1_size_1 hE (fun v1 hE => ?_)
  refine zg_aload_n ok dJ1_size_4 rfl 0 rfl ?_
  refine zg_getI ok lf_J1_24 dJ1_size_5 hE (fun v2 hE => ?_)
  refine zg_aload_n ok dJ1_size_8 rfl 0 rfl ?_
  refine zg_getA ok lf_J1_3 dJ1_size_9 hE (fun v3 hE => ?_)
  refine zg_alen ok dJ1_size_12 hE (fun v4 hE => ?_)
  refine zg_callS (vs := [zI v1, zI v2, zI v4]) (rest := []) (rm := rm_J1_sub) ok hRm lk_J1_127 dJ1_size_13 hE (fun hE => mt_J1_sub hl hE) rfl (Nat.le_of_ble_eq_true rfl) ⟨⟨Nat.le_of_ble_eq_true rfl, Nat.le_of_ble_eq_true rfl⟩, Nat.le_of_ble_eq_true rfl, Nat.le_of_ble_eq_true rfl⟩ (zg_retI (fun v5 h1 hE => ?_)) (zg_xok ok tab fin ⟨Nat.le_of_ble_eq_true rfl, Nat.le_of_ble_eq_true rfl⟩)
  refine zg_cost (kc2 := 0) (ks2 := 0) ⟨rfl, rfl⟩ ?_
  exact zg_iret ok fin dJ1_size_16 ⟨Nat.le_of_ble_eq_true rfl, Nat.le_of_ble_eq_true rfl⟩ hE
set_option maxHeartbeats 8000000 in
theorem mt_X1_undoable {l : Launch} (hl : l.stackTraces = false) {Z : zw_Z} {a0 : Option Nat} {h : zw_H} {Q : Int32 → zw_H → Prop} {X : String → Nat → zw_H → Prop} (hE : f_X1_undoable Z.2.2.2 a0 h Q X) : zw_Met l Z yX1_undoable (ws_ yX1_undoable cX1_undoable 1 (Option.some Jvm.ClassFile.FieldType.int)) rm_X1_undoable [zA a0] h (zq_I Q) X := by
  refine zg_start (own := "MultipoleLine") (by decide +kernel) rfl (Nat.le_of_ble_eq_true rfl) hl (fun Xc ok tab fin hRm hXl hXZ => ?_)
  subst hXl
  subst hXZ
  unfold f_X1_undoable at hE
  refine zg_aload_n ok dX1_undoable_0 rfl 0 rfl ?_
  refine zg_getA ok lf_X1_38 dX1_undoable_1 hE (fun v1 hE => ?_)
  refine zg_callV (vs := []) (rest := []) (rm := rm_J1_size) ok hRm lk_X1_440 dX1_undoable_4 hE (fun hE => mt_J1_size hl hE) rfl (Nat.le_of_ble_eq_true rfl) ⟨⟨Nat.le_of_ble_eq_true rfl, Nat.le_of_ble_eq_true rfl⟩, Nat.le_of_ble_eq_true rfl, Nat.le_of_ble_eq_true rfl⟩ (zg_retI (fun v2 h1 hE => ?_)) (zg_xok ok tab fin ⟨Nat.le_of_ble_eq_true rfl, Nat.le_of_ble_eq_true rfl⟩)
  refine zg_cost (kc2 := 0) (ks2 := 0) ⟨rfl, rfl⟩ ?_
  exact zg_iret ok fin dX1_undoable_7 ⟨Nat.le_of_ble_eq_true rfl, Nat.le_of_ble_eq_true rfl⟩ hE
set_option maxHeartbeats 8000000 in
theorem mt_X1_in {l : Launch} (hl : l.stackTraces = false) {Z : zw_Z} {a0 : Int64} {a1 : Int64} {a2 : Int64} {h : zw_H} {Q : Int32 → zw_H → Prop} {X : String → Nat → zw_H → Prop} (hE : f_X1_in Z.2.2.2 a0 a1 a2 h Q X) : zw_Met l Z yX1_in (ws_ yX1_in cX1_in 6 (Option.some Jvm.ClassFile.FieldType.boolean)) rm_X1_in [zJ a0, zJ a1, zJ a2] h (zq_I Q) X := by
  refine zg_start (own := "MultipoleLine") (by decide +kernel) rfl (Nat.le_of_ble_eq_true rfl) hl (fun Xc ok tab fin hRm hXl hXZ => ?_)
  subst hXl
  subst hXZ
  unfold f_X1_in at hE
  refine zg_lload_n ok dX1_in_0 rfl 0 rfl ?_
  refine zg_lload_n ok dX1_in_1 rfl 1 rfl ?_
  refine zg_lcmp ok dX1_in_2 ?_
  refine zg_if_lt (tgt := 17) ok dX1_in_3 (by decide) hE (fun hE => ?_) (fun hE => ?_)
  · refine zg_iconst (v := 0) ok dX1_in_17 (by decide) ?_
    exact zg_zret ok fin dX1_in_18 ⟨Nat.le_of_ble_eq_true rfl, Nat.le_of_ble_eq_true rfl⟩ rfl hE
  · refine zg_lload_n ok dX1_in_6 rfl 0 rfl ?_
    refine zg_lload ok dX1_in_7 2 rfl ?_
    refine zg_lcmp ok dX1_in_9 ?_
    refine zg_if_gt (tgt := 17) ok dX1_in_10 (by decide) hE (fun hE => ?_) (fun hE => ?_)
    · refine zg_iconst (v := 0) ok dX1_in_17 (by decide) ?_
      exact zg_zret ok fin dX1_in_18 ⟨Nat.le_of_ble_eq_true rfl, Nat.le_of_ble_eq_true rfl⟩ rfl hE
    · refine zg_iconst (v := 1) ok dX1_in_13 (by decide) ?_
      refine zg_goto (tgt := 18) ok dX1_in_14 (by decide) ?_
      exact zg_zret ok fin dX1_in_18 ⟨Nat.le_of_ble_eq_true rfl, Nat.le_of_ble_eq_true rfl⟩ rfl hE
set_option maxHeartbeats 8000000 in
theorem mt_J6_init_2 {l : Launch} (hl : l.stackTraces = false) {Z : zw_Z} {a0 : Option Nat} {h : zw_H} {Q : zw_H → Prop} {X : String → Nat → zw_H → Prop} (hE : f_J6_init_2 Z.2.2.2 a0 h Q X) : zw_Met l Z yJ6_init_2 (ws_ yJ6_init_2 cJ6_init_2 1 (Option.none : Option Jvm.ClassFile.FieldType)) rm_J6_init_2 [zA a0] h (zq_V Q) X := by
  refine zg_startF (own := "java/lang/Throwable") (by decide +kernel) rfl (Nat.le_of_ble_eq_true rfl) hl (fun Xc ok tab fin hRm hXl hXZ => ?_)
  subst hXl
  subst hXZ
  unfold f_J6_init_2 at hE
  exact hE.elim
set_option maxHeartbeats 8000000 in
theorem mt_J7_init_2 {l : Launch} (hl : l.stackTraces = false) {Z : zw_Z} {a0 : Option Nat} {h : zw_H} {Q : zw_H → Prop} {X : String → Nat → zw_H → Prop} (hE : f_J7_init_2 Z.2.2.2 a0 h Q X) : zw_Met l Z yJ7_init_2 (ws_ yJ7_init_2 cJ7_init_2 1 (Option.none : Option Jvm.ClassFile.FieldType)) rm_J7_init_2 [zA a0] h (zq_V Q) X := by
  refine zg_start (own := "java/lang/Exception") (by decide +kernel) rfl (Nat.le_of_ble_eq_true rfl) hl (fun Xc ok tab fin hRm hXl hXZ => ?_)
  subst hXl
  subst hXZ
  unfold f_J7_init_2 at hE
  refine zg_aload_n ok dJ7_init_2_0 rfl 0 rfl ?_
  refine zg_callI (vs := []) (rest := []) (rm := rm_J6_init_2) ok hRm lk_J7_1 dJ7_init_2_1 hE.1 hE.2 (fun hE => mt_J6_init_2 hl hE) rfl (Nat.le_of_ble_eq_true rfl) ⟨⟨Nat.le_of_ble_eq_true rfl, Nat.le_of_ble_eq_true rfl⟩, Nat.le_of_ble_eq_true rfl, Nat.le_of_ble_eq_true rfl⟩ (zg_retV (fun h1 hE => ?_)) (zg_xok ok tab fin ⟨Nat.le_of_ble_eq_true rfl, Nat.le_of_ble_eq_true rfl⟩)
  refine zg_cost (kc2 := 0) (ks2 := 0) ⟨rfl, rfl⟩ ?_
  exact zg_vret ok fin dJ7_init_2_4 ⟨Nat.le_of_ble_eq_true rfl, Nat.le_of_ble_eq_true rfl⟩ hE
set_option maxHeartbeats 8000000 in
theorem mt_J8_init_2 {l : Launch} (hl : l.stackTraces = false) {Z : zw_Z} {a0 : Option Nat} {h : zw_H} {Q : zw_H → Prop} {X : String → Nat → zw_H → Prop} (hE : f_J8_init_2 Z.2.2.2 a0 h Q X) : zw_Met l Z yJ8_init_2 (ws_ yJ8_init_2 cJ8_init_2 1 (Option.none : Option Jvm.ClassFile.FieldType)) rm_J8_init_2 [zA a0] h (zq_V Q) X := by
  refine zg_start (own := "java/lang/RuntimeException") (by decide +kernel) rfl (Nat.le_of_ble_eq_true rfl) hl (fun Xc ok tab fin hRm hXl hXZ => ?_)
  subst hXl
  subst hXZ
  unfold f_J8_init_2 at hE
  refine zg_aload_n ok dJ8_init_2_0 rfl 0 rfl ?_
  refine zg_callI (vs := []) (rest := []) (rm := rm_J7_init_2) ok hRm lk_J8_1 dJ8_init_2_1 hE.1 hE.2 (fun hE => mt_J7_init_2 hl hE) rfl (Nat.le_of_ble_eq_true rfl) ⟨⟨Nat.le_of_ble_eq_true rfl, Nat.le_of_ble_eq_true rfl⟩, Nat.le_of_ble_eq_true rfl, Nat.le_of_ble_eq_true rfl⟩ (zg_retV (fun h1 hE => ?_)) (zg_xok ok tab fin ⟨Nat.le_of_ble_eq_true rfl, Nat.le_of_ble_eq_true rfl⟩)
  refine zg_cost (kc2 := 0) (ks2 := 0) ⟨rfl, rfl⟩ ?_
  exact zg_vret ok fin dJ8_init_2_4 ⟨Nat.le_of_ble_eq_true rfl, Nat.le_of_ble_eq_true rfl⟩ hE
set_option maxHeartbeats 8000000 in
theorem mt_J9_init_2 {l : Launch} (hl : l.stackTraces = false) {Z : zw_Z} {a0 : Option Nat} {h : zw_H} {Q : zw_H → Prop} {X : String → Nat → zw_H → Prop} (hE : f_J9_init_2 Z.2.2.2 a0 h Q X) : zw_Met l Z yJ9_init_2 (ws_ yJ9_init_2 cJ9_init_2 1 (Option.none : Option Jvm.ClassFile.FieldType)) rm_J9_init_2 [zA a0] h (zq_V Q) X := by
  refine zg_start (own := "java/lang/IndexOutOfBoundsException") (by decide +kernel) rfl (Nat.le_of_ble_eq_true rfl) hl (fun Xc ok tab fin hRm hXl hXZ => ?_)
  subst hXl
  subst hXZ
  unfold f_J9_init_2 at hE
  refine zg_aload_n ok dJ9_init_2_0 rfl 0 rfl ?_
  refine zg_callI (vs := []) (rest := []) (rm := rm_J8_init_2) ok hRm lk_J9_1 dJ9_init_2_1 hE.1 hE.2 (fun hE => mt_J8_init_2 hl hE) rfl (Nat.le_of_ble_eq_true rfl) ⟨⟨Nat.le_of_ble_eq_true rfl, Nat.le_of_ble_eq_true rfl⟩, Nat.le_of_ble_eq_true rfl, Nat.le_of_ble_eq_true rfl⟩ (zg_retV (fun h1 hE => ?_)) (zg_xok ok tab fin ⟨Nat.le_of_ble_eq_true rfl, Nat.le_of_ble_eq_true rfl⟩)
  refine zg_cost (kc2 := 0) (ks2 := 0) ⟨rfl, rfl⟩ ?_
  exact zg_vret ok fin dJ9_init_2_4 ⟨Nat.le_of_ble_eq_true rfl, Nat.le_of_ble_eq_true rfl⟩ hE
set_option maxHeartbeats 8000000 in
theorem mt_X1_checkIndex {l : Launch} (hl : l.stackTraces = false) {Z : zw_Z} {a0 : Int32} {a1 : Int32} {h : zw_H} {Q : zw_H → Prop} {X : String → Nat → zw_H → Prop} (hE : f_X1_checkIndex Z.2.2.2 a0 a1 h Q X) : zw_Met l Z yX1_checkIndex (ws_ yX1_checkIndex cX1_checkIndex 2 (Option.none : Option Jvm.ClassFile.FieldType)) rm_X1_checkIndex [zI a0, zI a1] h (zq_V Q) X := by
  refine zg_start (own := "MultipoleLine") (by decide +kernel) rfl (Nat.le_of_ble_eq_true rfl) hl (fun Xc ok tab fin hRm hXl hXZ => ?_)
  subst hXl
  subst hXZ
  unfold f_X1_checkIndex at hE
  refine zg_iload_n ok dX1_checkIndex_0 rfl 0 rfl ?_
  refine zg_i2l ok dX1_checkIndex_1 ?_
  refine zg_lconst (v := 0) ok dX1_checkIndex_2 (by decide) ?_
  refine zg_iload_n ok dX1_checkIndex_3 rfl 1 rfl ?_
  refine zg_iconst (v := 1) ok dX1_checkIndex_4 (by decide) ?_
  refine zg_isub ok dX1_checkIndex_5 ?_
  refine zg_i2l ok dX1_checkIndex_6 ?_
  refine zg_callS (vs := [zJ a0.toInt64, zJ 0, zJ ((a1 - 1).toInt64)]) (rest := []) (rm := rm_X1_in) ok hRm lk_X1_58 dX1_checkIndex_7 hE (fun hE => mt_X1_in hl hE) rfl (Nat.le_of_ble_eq_true rfl) ⟨⟨Nat.le_of_ble_eq_true rfl, Nat.le_of_ble_eq_true rfl⟩, Nat.le_of_ble_eq_true rfl, Nat.le_of_ble_eq_true rfl⟩ (zg_retI (fun v1 h1 hE => ?_)) (zg_xok ok tab fin ⟨Nat.le_of_ble_eq_true rfl, Nat.le_of_ble_eq_true rfl⟩)
  refine zg_cost (kc2 := 0) (ks2 := 0) ⟨rfl, rfl⟩ ?_
  refine zg_if_ne (tgt := 21) ok dX1_checkIndex_10 (by decide) hE (fun hE => ?_) (fun hE => ?_)
  · exact zg_vret ok fin dX1_checkIndex_21 ⟨Nat.le_of_ble_eq_true rfl, Nat.le_of_ble_eq_true rfl⟩ hE
  · exact zg_throw0 ok tab fin hRm lx_X1_62_64 dX1_checkIndex_13 dX1_checkIndex_16 dX1_checkIndex_17 dX1_checkIndex_20 (fun z hz => by cases hz) ⟨Nat.le_of_ble_eq_true rfl, Nat.le_of_ble_eq_true rfl, Nat.le_of_ble_eq_true rfl, Nat.le_of_ble_eq_true rfl⟩ (Nat.le_of_ble_eq_true rfl) ⟨Nat.le_of_ble_eq_true rfl, Nat.le_of_ble_eq_true rfl⟩ hE
set_option maxHeartbeats 8000000 in
theorem mt_J11_init {l : Launch} (hl : l.stackTraces = false) {Z : zw_Z} {a0 : Option Nat} {h : zw_H} {Q : zw_H → Prop} {X : String → Nat → zw_H → Prop} (hE : f_J11_init Z.2.2.2 a0 h Q X) : zw_Met l Z yJ11_init (ws_ yJ11_init cJ11_init 1 (Option.none : Option Jvm.ClassFile.FieldType)) rm_J11_init [zA a0] h (zq_V Q) X := by
  refine zg_start (own := "java/util/AbstractList") (by decide +kernel) rfl (Nat.le_of_ble_eq_true rfl) hl (fun Xc ok tab fin hRm hXl hXZ => ?_)
  subst hXl
  subst hXZ
  unfold f_J11_init at hE
  refine zg_aload_n ok dJ11_init_0 rfl 0 rfl ?_
  refine zg_callI (vs := []) (rest := []) (rm := rm_J0_init) ok hRm lk_J11_1 dJ11_init_1 hE.1 hE.2 (fun hE => mt_J0_init hl hE) rfl (Nat.le_of_ble_eq_true rfl) ⟨⟨Nat.le_of_ble_eq_true rfl, Nat.le_of_ble_eq_true rfl⟩, Nat.le_of_ble_eq_true rfl, Nat.le_of_ble_eq_true rfl⟩ (zg_retV (fun h1 hE => ?_)) (zg_xok ok tab fin ⟨Nat.le_of_ble_eq_true rfl, Nat.le_of_ble_eq_true rfl⟩)
  refine zg_cost (kc2 := 0) (ks2 := 0) ⟨rfl, rfl⟩ ?_
  refine zg_aload_n ok dJ11_init_4 rfl 0 rfl ?_
  refine zg_iconst (v := 0) ok dJ11_init_5 (by decide) ?_
  refine zg_put (ty := .int) ok lf_J11_7 (Or.inl rfl) (by decide) (by decide +kernel) rfl rfl dJ11_init_6 hE (fun h2 hE => ?_)
  exact zg_vret ok fin dJ11_init_9 ⟨Nat.le_of_ble_eq_true rfl, Nat.le_of_ble_eq_true rfl⟩ hE
set_option maxHeartbeats 8000000 in
theorem mt_J12_init {l : Launch} (hl : l.stackTraces = false) {Z : zw_Z} {a0 : Option Nat} {h : zw_H} {Q : zw_H → Prop} {X : String → Nat → zw_H → Prop} (hE : f_J12_init Z.2.2.2 a0 h Q X) : zw_Met l Z yJ12_init (ws_ yJ12_init cJ12_init 1 (Option.none : Option Jvm.ClassFile.FieldType)) rm_J12_init [zA a0] h (zq_V Q) X := by
  refine zg_start (own := "java/util/ArrayList") (by decide +kernel) rfl (Nat.le_of_ble_eq_true rfl) hl (fun Xc ok tab fin hRm hXl hXZ => ?_)
  subst hXl
  subst hXZ
  unfold f_J12_init at hE
  refine zg_aload_n ok dJ12_init_0 rfl 0 rfl ?_
  refine zg_callI (vs := []) (rest := []) (rm := rm_J11_init) ok hRm lk_J12_1 dJ12_init_1 hE.1 hE.2 (fun hE => mt_J11_init hl hE) rfl (Nat.le_of_ble_eq_true rfl) ⟨⟨Nat.le_of_ble_eq_true rfl, Nat.le_of_ble_eq_true rfl⟩, Nat.le_of_ble_eq_true rfl, Nat.le_of_ble_eq_true rfl⟩ (zg_retV (fun h1 hE => ?_)) (zg_xok ok tab fin ⟨Nat.le_of_ble_eq_true rfl, Nat.le_of_ble_eq_true rfl⟩)
  refine zg_cost (kc2 := 0) (ks2 := 0) ⟨rfl, rfl⟩ ?_
  refine zg_aload_n ok dJ12_init_4 rfl 0 rfl ?_
  refine zg_getsA (C := "java/util/ArrayList") (n := "DEFAULTCAPACITY_EMPTY_ELEMENTDATA") (d' := "[Ljava/lang/Object;") (k := 2) ok (List.mem_of_getElem? (i := 2) rfl) q408 dJ12_init_5 ?_
  refine zg_put (ty := (.array (.object "java/lang/Object"))) ok lf_J12_9 (Or.inl rfl) (by decide) (by decide +kernel) (zw_nrA _ _) (zw_frA _ _) dJ12_init_8 hE (fun h2 hE => ?_)
  exact zg_vret ok fin dJ12_init_11 ⟨Nat.le_of_ble_eq_true rfl, Nat.le_of_ble_eq_true rfl⟩ hE
set_option maxHeartbeats 8000000 in
theorem mt_X5_init {l : Launch} (hl : l.stackTraces = false) {Z : zw_Z} {a0 : Option Nat} {a1 : Int32} {a2 : Int32} {h : zw_H} {Q : zw_H → Prop} {X : String → Nat → zw_H → Prop} (hE : f_X5_init Z.2.2.2 a0 a1 a2 h Q X) : zw_Met l Z yX5_init (ws_ yX5_init cX5_init 3 (Option.none : Option Jvm.ClassFile.FieldType)) rm_X5_init [zA a0, zI a1, zI a2] h (zq_V Q) X := by
  refine zg_start (own := "MultipoleLine$Box") (by decide +kernel) rfl (Nat.le_of_ble_eq_true rfl) hl (fun Xc ok tab fin hRm hXl hXZ => ?_)
  subst hXl
  subst hXZ
  unfold f_X5_init at hE
  refine zg_aload_n ok dX5_init_0 rfl 0 rfl ?_
  refine zg_objInitE (rest := []) ok hRm q437 ⟨Nat.le_of_ble_eq_true rfl, Nat.le_of_ble_eq_true rfl⟩ (Nat.le_of_ble_eq_true rfl) dX5_init_1 hE (fun hE => ?_)
  refine zg_aload_n ok dX5_init_4 rfl 0 rfl ?_
  refine zg_iload_n ok dX5_init_5 rfl 1 rfl ?_
  refine zg_put (ty := .int) ok lf_X5_9 (Or.inr ⟨rfl, rfl, rfl, "MultipoleLine$Box", q438, Or.inl rfl⟩) (by decide) (by decide +kernel) rfl rfl dX5_init_6 hE (fun h1 hE => ?_)
  refine zg_aload_n ok dX5_init_9 rfl 0 rfl ?_
  refine zg_iload_n ok dX5_init_10 rfl 2 rfl ?_
  refine zg_put (ty := .int) ok lf_X5_15 (Or.inr ⟨rfl, rfl, rfl, "MultipoleLine$Box", q441, Or.inl rfl⟩) (by decide) (by decide +kernel) rfl rfl dX5_init_11 hE (fun h2 hE => ?_)
  refine zg_aload_n ok dX5_init_14 rfl 0 rfl ?_
  refine zg_sipush (v := 256) ok dX5_init_15 (by decide) ?_
  refine zg_iload_n ok dX5_init_18 rfl 1 rfl ?_
  refine zg_ishr ok dX5_init_19 ?_
  refine zg_put (ty := .int) ok lf_X5_18 (Or.inr ⟨rfl, rfl, rfl, "MultipoleLine$Box", q444, Or.inl rfl⟩) (by decide) (by decide +kernel) rfl rfl dX5_init_20 hE (fun h3 hE => ?_)
  refine zg_aload_n ok dX5_init_23 rfl 0 rfl ?_
  refine zg_iload_n ok dX5_init_24 rfl 2 rfl ?_
  refine zg_aload_n ok dX5_init_25 rfl 0 rfl ?_
  refine zg_getI ok lf_X5_18 dX5_init_26 hE (fun v1 hE => ?_)
  refine zg_imul ok dX5_init_29 ?_
  refine zg_aload_n ok dX5_init_30 rfl 0 rfl ?_
  refine zg_getI ok lf_X5_18 dX5_init_31 hE (fun v2 hE => ?_)
  refine zg_iconst (v := 2) ok dX5_init_34 (by decide) ?_
  refine zg_idivE ok dX5_init_35 hE (fun hE => ?_)
  refine zg_iadd ok dX5_init_36 ?_
  refine zg_put (ty := .int) ok lf_X5_21 (Or.inr ⟨rfl, rfl, rfl, "MultipoleLine$Box", q447, Or.inl rfl⟩) (by decide) (by decide +kernel) rfl rfl dX5_init_37 hE (fun h4 hE => ?_)
  exact zg_vret ok fin dX5_init_40 ⟨Nat.le_of_ble_eq_true rfl, Nat.le_of_ble_eq_true rfl⟩ hE
set_option maxHeartbeats 8000000 in
theorem gt_f_X4_init_B62 {Xc : zw_X} {Q : zw_H → Prop} {X : String → Nat → zw_H → Prop} (hl : (zw_l Xc).stackTraces = false) (ok : zw_ok Xc cX4_init "MultipoleLine$Line" yX4_init.name 3) (tab : zw_tab Xc []) (fin : zw_fin Xc (Option.none : Option Jvm.ClassFile.FieldType) (zq_V Q) X 242 1247) (hRm : zw_rm Xc = rm_X4_init) {kb sb KE SE : Nat} (hk : kb + 1 ≤ KE ∧ sb + 4 ≤ SE) (hKE : KE ≤ 242 ∧ SE ≤ 1247) {R : Int32 → zw_H → Prop} {l0 : Option Nat} {l1 : Int32} (hR : ∀ (l2 : Int32) (h : zw_H), R l2 h → zw_G Xc (kb + 1) (sb + 4) 3 h 62 [(0, va_rf l0), (1, .int l1), (2, .int l2)] []) {k96 : zw_H → Prop} (hk96 : ∀  (h : zw_H), k96  h → zw_G Xc KE SE 3 h 96 [(0, va_rf l0), (1, .int l1)] [])  {l2 : Int32} {h : zw_H} (hE : f_X4_init_B62 (zw_Zf Xc).2.2.2 Q X k96 l0 l1 R l2 h) : zw_G Xc kb sb 3 h 62 [(0, va_rf l0), (1, .int l1), (2, .int l2)] [] := by
  unfold f_X4_init_B62 at hE
  refine zg_iload_n ok dX4_init_62 rfl 2 rfl ?_
  refine zg_aload_n ok dX4_init_63 rfl 0 rfl ?_
  refine zg_getA ok lf_X4_20 dX4_init_64 hE (fun v7 hE => ?_)
  refine zg_iload_n ok dX4_init_67 rfl 1 rfl ?_
  refine zg_aaldBB ok dX4_init_68 hE (fun v8 hE => ?_)
  refine zg_alen ok dX4_init_69 hE (fun v9 hE => ?_)
  refine zg_icmp_ge (tgt := 96) ok dX4_init_70 (by decide) hE (fun hE => ?_) (fun hE => ?_)
  · refine zg_wide (kc2 := KE) (ks2 := SE) (by omega) (by omega) ?_
    refine zg_sub (L' := [(0, va_rf l0), (1, .int l1)]) [0, 1] rfl ?_
    exact hk96 _ hE
  · refine zg_aload_n ok dX4_init_73 rfl 0 rfl ?_
    refine zg_getA ok lf_X4_20 dX4_init_74 hE (fun v10 hE => ?_)
    refine zg_iload_n ok dX4_init_77 rfl 1 rfl ?_
    refine zg_aaldBB ok dX4_init_78 hE (fun v11 hE => ?_)
    refine zg_iload_n ok dX4_init_79 rfl 2 rfl ?_
    refine zg_new ok ln_X4_24 (by rw [hRm]; exact ⟨(by show kb + 1 ≤ 242; omega), (by show sb + 4 ≤ 1247; omega)⟩) dX4_init_80 hE (fun v12 h12 hE => ?_)
    refine zg_cost (kc2 := kb + 1) (ks2 := sb + 4) ⟨(by show kb + 1 = kb + 1; omega), (by show sb + 4 = sb + 4; omega)⟩ ?_
    refine zg_dup ok dX4_init_83 (zw_rfc _) ?_
    refine zg_iload_n ok dX4_init_84 rfl 1 rfl ?_
    refine zg_iload_n ok dX4_init_85 rfl 2 rfl ?_
    refine zg_callI (vs := [zI l1, zI l2]) (rest := [va_rf (some v12), .int l2, va_rf v11]) (rm := rm_X5_init) ok hRm lk_X4_33 dX4_init_86 (by simp) hE (fun hE => mt_X5_init hl hE) rfl (Nat.le_of_ble_eq_true rfl) ⟨⟨Nat.le_of_ble_eq_true rfl, Nat.le_of_ble_eq_true rfl⟩, (by show kb + 1 + 0 ≤ 242; omega), (by show sb + 4 + 0 ≤ 1247; omega)⟩ (zg_retV (fun h13 hE => ?_)) (zg_xok ok tab fin ⟨(by show kb + 1 + 0 ≤ 242; omega), (by show sb + 4 + 0 ≤ 1247; omega)⟩)
    refine zg_cost (kc2 := kb + 1) (ks2 := sb + 4) ⟨(by show kb + 1 + 0 = kb + 1; omega), (by show sb + 4 + 0 = sb + 4; omega)⟩ ?_
    refine zg_aastB ok lt_6 dX4_init_89 hE (fun h14 hE => ?_)
    refine zg_iincL (k := 2) (L' := fun v13 => [(2, .int v13), (0, va_rf l0), (1, .int l1)]) ok dX4_init_90 (by decide +kernel) hE rfl (by decide) (fun _ => rfl) (fun v13 hE => ?_)
    refine zg_goto (tgt := 62) ok dX4_init_93 (by decide) ?_
    refine zg_sub (L' := [(0, va_rf l0), (1, .int l1), (2, .int v13)]) [1, 2, 0] rfl ?_
    exact hR _ _ hE
theorem gt_f_X4_init_L62 {Xc : zw_X} {Q : zw_H → Prop} {X : String → Nat → zw_H → Prop} (hl : (zw_l Xc).stackTraces = false) (ok : zw_ok Xc cX4_init "MultipoleLine$Line" yX4_init.name 3) (tab : zw_tab Xc []) (fin : zw_fin Xc (Option.none : Option Jvm.ClassFile.FieldType) (zq_V Q) X 242 1247) (hRm : zw_rm Xc = rm_X4_init) {KE SE : Nat} (hKE : KE ≤ 242 ∧ SE ≤ 1247) {l0 : Option Nat} {l1 : Int32} {k96 : zw_H → Prop} (hk96 : ∀  (h : zw_H), k96  h → zw_G Xc KE SE 3 h 96 [(0, va_rf l0), (1, .int l1)] [])  : ∀ (n9 kb sb : Nat), kb + n9 * 1 ≤ KE ∧ sb + n9 * 4 ≤ SE → ∀ (l2 : Int32) (h : zw_H), zl2 (f_X4_init_B62 (zw_Zf Xc).2.2.2 Q X k96 l0 l1) n9 l2 h → zw_G Xc kb sb 3 h 62 [(0, va_rf l0), (1, .int l1), (2, .int l2)] [] := by
  intro n9
  induction n9 with
  | zero => intro kb sb hk9 l2 h hE; exact hE.elim
  | succ n9 ih => intro kb sb hk9 l2 h hE; exact gt_f_X4_init_B62 hl ok tab fin hRm ⟨by omega, by omega⟩ hKE (ih (kb + 1) (sb + 4) ⟨by omega, by omega⟩) hk96 hE
set_option maxHeartbeats 8000000 in
theorem gt_f_X4_init_B43 {Xc : zw_X} {Q : zw_H → Prop} {X : String → Nat → zw_H → Prop} (hl : (zw_l Xc).stackTraces = false) (ok : zw_ok Xc cX4_init "MultipoleLine$Line" yX4_init.name 3) (tab : zw_tab Xc []) (fin : zw_fin Xc (Option.none : Option Jvm.ClassFile.FieldType) (zq_V Q) X 242 1247) (hRm : zw_rm Xc = rm_X4_init) {kb sb KE SE : Nat} (hk : kb + 34 ≤ KE ∧ sb + 164 ≤ SE) (hKE : KE ≤ 242 ∧ SE ≤ 1247) {R : Int32 → zw_H → Prop} {l0 : Option Nat} (hR : ∀ (l1 : Int32) (h : zw_H), R l1 h → zw_G Xc (kb + 34) (sb + 164) 3 h 43 [(0, va_rf l0), (1, .int l1)] []) {k102 : zw_H → Prop} (hk102 : ∀  (h : zw_H), k102  h → zw_G Xc KE SE 3 h 102 [] [])  {l1 : Int32} {h : zw_H} (hE : f_X4_init_B43 (zw_Zf Xc).2.2.2 Q X k102 l0 R l1 h) : zw_G Xc kb sb 3 h 43 [(0, va_rf l0), (1, .int l1)] [] := by
  unfold f_X4_init_B43 at hE
  refine zg_iload_n ok dX4_init_43 rfl 1 rfl ?_
  refine zg_iconst (v := 5) ok dX4_init_44 (by decide) ?_
  refine zg_icmp_gt (tgt := 102) ok dX4_init_45 (by decide) hE (fun hE => ?_) (fun hE => ?_)
  · refine zg_wide (kc2 := KE) (ks2 := SE) (by omega) (by omega) ?_
    refine zg_sub (L' := []) [] rfl ?_
    exact hk102 _ hE
  · refine zg_aload_n ok dX4_init_48 rfl 0 rfl ?_
    refine zg_getA ok lf_X4_20 dX4_init_49 hE (fun v5 hE => ?_)
    refine zg_iload_n ok dX4_init_52 rfl 1 rfl ?_
    refine zg_iconst (v := 1) ok dX4_init_53 (by decide) ?_
    refine zg_iload_n ok dX4_init_54 rfl 1 rfl ?_
    refine zg_ishl ok dX4_init_55 ?_
    refine zg_newBx (b := 32) ok q432 (by rw [hRm]; exact ⟨(by show kb + 1 ≤ 242; omega), (by show sb + 32 ≤ 1247; omega)⟩) (Nat.le_of_ble_eq_true rfl) dX4_init_56 hE (fun v6 h10 hE => ?_)
    refine zg_cost (kc2 := kb + 1) (ks2 := sb + 32) ⟨(by show kb + 1 = kb + 1; omega), (by show sb + 32 = sb + 32; omega)⟩ ?_
    refine zg_aastBB ok dX4_init_59 hE (fun h11 hE => ?_)
    refine zg_iconst (v := 0) ok dX4_init_60 (by decide) ?_
    refine zg_istore_n (L' := [(2, .int 0), (0, va_rf l0), (1, .int l1)]) ok dX4_init_61 rfl (by decide) rfl ?_
    refine zg_sub (L' := [(0, va_rf l0), (1, .int l1), (2, .int 0)]) [1, 2, 0] rfl ?_
    refine gt_f_X4_init_L62 (KE := kb + 34) (SE := sb + 164) hl ok tab fin hRm ⟨(by omega), (by omega)⟩ ?_ _ (kb + 1) (sb + 32) ⟨(by omega), (by omega)⟩ _ _ hE
    · intro h15 hE
      refine zg_iincLR (k := 1) (L' := fun v14 => [(1, .int v14), (0, va_rf l0)]) ok dX4_init_96 (by decide +kernel) hE rfl (by decide) rfl (k9 := 0) rfl (fun _ => rfl) (fun v14 hE => ?_)
      refine zg_goto (tgt := 43) ok dX4_init_99 (by decide) ?_
      refine zg_sub (L' := [(0, va_rf l0), (1, .int v14)]) [1, 0] rfl ?_
      exact hR _ _ hE
theorem gt_f_X4_init_L43 {Xc : zw_X} {Q : zw_H → Prop} {X : String → Nat → zw_H → Prop} (hl : (zw_l Xc).stackTraces = false) (ok : zw_ok Xc cX4_init "MultipoleLine$Line" yX4_init.name 3) (tab : zw_tab Xc []) (fin : zw_fin Xc (Option.none : Option Jvm.ClassFile.FieldType) (zq_V Q) X 242 1247) (hRm : zw_rm Xc = rm_X4_init) {KE SE : Nat} (hKE : KE ≤ 242 ∧ SE ≤ 1247) {l0 : Option Nat} {k102 : zw_H → Prop} (hk102 : ∀  (h : zw_H), k102  h → zw_G Xc KE SE 3 h 102 [] [])  : ∀ (n9 kb sb : Nat), kb + n9 * 34 ≤ KE ∧ sb + n9 * 164 ≤ SE → ∀ (l1 : Int32) (h : zw_H), zl2 (f_X4_init_B43 (zw_Zf Xc).2.2.2 Q X k102 l0) n9 l1 h → zw_G Xc kb sb 3 h 43 [(0, va_rf l0), (1, .int l1)] [] := by
  intro n9
  induction n9 with
  | zero => intro kb sb hk9 l1 h hE; exact hE.elim
  | succ n9 ih => intro kb sb hk9 l1 h hE; exact gt_f_X4_init_B43 hl ok tab fin hRm ⟨by omega, by omega⟩ hKE (ih (kb + 34) (sb + 164) ⟨by omega, by omega⟩) hk102 hE
set_option maxHeartbeats 8000000 in
theorem mt_X4_init {l : Launch} (hl : l.stackTraces = false) {Z : zw_Z} {a0 : Option Nat} {h : zw_H} {Q : zw_H → Prop} {X : String → Nat → zw_H → Prop} (hE : f_X4_init Z.2.2.2 a0 h Q X) : zw_Met l Z yX4_init (ws_ yX4_init cX4_init 3 (Option.none : Option Jvm.ClassFile.FieldType)) rm_X4_init [zA a0] h (zq_V Q) X := by
  refine zg_start (own := "MultipoleLine$Line") (by decide +kernel) rfl (Nat.le_of_ble_eq_true rfl) hl (fun Xc ok tab fin hRm hXl hXZ => ?_)
  subst hXl
  subst hXZ
  unfold f_X4_init at hE
  refine zg_aload_n ok dX4_init_0 rfl 0 rfl ?_
  refine zg_objInitE (rest := []) ok hRm q398 ⟨Nat.le_of_ble_eq_true rfl, Nat.le_of_ble_eq_true rfl⟩ (Nat.le_of_ble_eq_true rfl) dX4_init_1 hE (fun hE => ?_)
  refine zg_aload_n ok dX4_init_4 rfl 0 rfl ?_
  refine zg_new ok ln_X4_9 (by rw [hRm]; exact ⟨Nat.le_of_ble_eq_true rfl, Nat.le_of_ble_eq_true rfl⟩) dX4_init_5 hE (fun v1 h1 hE => ?_)
  refine zg_cost (kc2 := 1) (ks2 := 3) ⟨rfl, rfl⟩ ?_
  refine zg_dup ok dX4_init_8 (zw_rfc _) ?_
  refine zg_callI (vs := []) (rest := [va_rf (some v1), va_rf a0]) (rm := rm_J12_init) ok hRm lk_X4_11 dX4_init_9 (by simp) hE (fun hE => mt_J12_init hl hE) rfl (Nat.le_of_ble_eq_true rfl) ⟨⟨Nat.le_of_ble_eq_true rfl, Nat.le_of_ble_eq_true rfl⟩, Nat.le_of_ble_eq_true rfl, Nat.le_of_ble_eq_true rfl⟩ (zg_retV (fun h2 hE => ?_)) (zg_xok ok tab fin ⟨Nat.le_of_ble_eq_true rfl, Nat.le_of_ble_eq_true rfl⟩)
  refine zg_cost (kc2 := 1) (ks2 := 3) ⟨rfl, rfl⟩ ?_
  refine zg_put (ty := (.object "java/util/List")) ok lf_X4_12 (Or.inr ⟨rfl, rfl, rfl, "MultipoleLine$Line", q459, Or.inl rfl⟩) (by decide) (by decide +kernel) (zw_nrO _ _) (zw_frO _ _) dX4_init_12 hE (fun h3 hE => ?_)
  refine zg_aload_n ok dX4_init_15 rfl 0 rfl ?_
  refine zg_bipush (v := 6) ok dX4_init_16 (by decide) ?_
  refine zg_newBB (b := 32) ok q429 (by rw [hRm]; exact ⟨Nat.le_of_ble_eq_true rfl, Nat.le_of_ble_eq_true rfl⟩) (Nat.le_of_ble_eq_true rfl) dX4_init_18 hE (fun v2 h4 hE => ?_)
  refine zg_cost (kc2 := 2) (ks2 := 35) ⟨rfl, rfl⟩ ?_
  refine zg_put (ty := (.array (.array (.object "MultipoleLine$Box")))) ok lf_X4_20 (Or.inr ⟨rfl, rfl, rfl, "MultipoleLine$Line", q462, Or.inl rfl⟩) (by decide) (by decide +kernel) (zw_nrA _ _) (zw_frA _ _) dX4_init_21 hE (fun h5 hE => ?_)
  refine zg_aload_n ok dX4_init_24 rfl 0 rfl ?_
  refine zg_bipush (v := 20) ok dX4_init_25 (by decide) ?_
  refine zg_newBx (b := 32) ok q432 (by rw [hRm]; exact ⟨Nat.le_of_ble_eq_true rfl, Nat.le_of_ble_eq_true rfl⟩) (Nat.le_of_ble_eq_true rfl) dX4_init_27 hE (fun v3 h6 hE => ?_)
  refine zg_cost (kc2 := 3) (ks2 := 67) ⟨rfl, rfl⟩ ?_
  refine zg_put (ty := (.array (.object "MultipoleLine$Box"))) ok lf_X4_26 (Or.inr ⟨rfl, rfl, rfl, "MultipoleLine$Line", q473, Or.inl rfl⟩) (by decide) (by decide +kernel) (zw_nrA _ _) (zw_frA _ _) dX4_init_30 hE (fun h7 hE => ?_)
  refine zg_aload_n ok dX4_init_33 rfl 0 rfl ?_
  refine zg_bipush (v := 24) ok dX4_init_34 (by decide) ?_
  refine zg_newI (b := 32) ok (by rw [hRm]; exact ⟨Nat.le_of_ble_eq_true rfl, Nat.le_of_ble_eq_true rfl⟩) (Nat.le_of_ble_eq_true rfl) dX4_init_36 hE (fun v4 h8 hE => ?_)
  refine zg_cost (kc2 := 4) (ks2 := 99) ⟨rfl, rfl⟩ ?_
  refine zg_put (ty := (.array .int)) ok lf_X4_29 (Or.inr ⟨rfl, rfl, rfl, "MultipoleLine$Line", q475, Or.inl rfl⟩) (by decide) (by decide +kernel) (zw_nrA _ _) (zw_frA _ _) dX4_init_38 hE (fun h9 hE => ?_)
  refine zg_iconst (v := 0) ok dX4_init_41 (by decide) ?_
  refine zg_istore_nR (L' := [(1, .int 0), (0, va_rf a0)]) ok dX4_init_42 rfl (by decide) 0 rfl rfl rfl ?_
  refine zg_sub (L' := [(0, va_rf a0), (1, .int 0)]) [1, 0] rfl ?_
  refine gt_f_X4_init_L43 (KE := 242) (SE := 1247) hl ok tab fin hRm ⟨Nat.le_of_ble_eq_true rfl, Nat.le_of_ble_eq_true rfl⟩ ?_ _ 4 99 ⟨Nat.le_of_ble_eq_true rfl, Nat.le_of_ble_eq_true rfl⟩ _ _ hE
  · intro h16 hE
    exact zg_vret ok fin dX4_init_102 ⟨Nat.le_of_ble_eq_true rfl, Nat.le_of_ble_eq_true rfl⟩ hE
set_option maxHeartbeats 8000000 in
theorem mt_X3_at {l : Launch} (hl : l.stackTraces = false) {Z : zw_Z} {a0 : Option Nat} {a1 : Int32} {h : zw_H} {Q : Int32 → zw_H → Prop} {X : String → Nat → zw_H → Prop} (hE : f_X3_at Z.2.2.2 a0 a1 h Q X) : zw_Met l Z yX3_at (ws_ yX3_at cX3_at 2 (Option.some Jvm.ClassFile.FieldType.int)) rm_X3_at [zA a0, zI a1] h (zq_I Q) X := by
  refine zg_start (own := "MultipoleLine$Parser") (by decide +kernel) rfl (Nat.le_of_ble_eq_true rfl) hl (fun Xc ok tab fin hRm hXl hXZ => ?_)
  subst hXl
  subst hXZ
  unfold f_X3_at at hE
  refine zg_iload_n ok dX3_at_0 rfl 1 rfl ?_
  refine zg_aload_n ok dX3_at_1 rfl 0 rfl ?_
  refine zg_getI ok lf_X3_28 dX3_at_2 hE (fun v1 hE => ?_)
  refine zg_icmp_ge (tgt := 24) ok dX3_at_5 (by decide) hE (fun hE => ?_) (fun hE => ?_)
  · refine zg_iconst (v := (-1)) ok dX3_at_24 (by decide) ?_
    exact zg_iret ok fin dX3_at_25 ⟨Nat.le_of_ble_eq_true rfl, Nat.le_of_ble_eq_true rfl⟩ hE
  · refine zg_aload_n ok dX3_at_8 rfl 0 rfl ?_
    refine zg_getA ok lf_X3_3 dX3_at_9 hE (fun v2 hE => ?_)
    refine zg_getA ok lf_X3_35 dX3_at_12 hE (fun v3 hE => ?_)
    refine zg_iload_n ok dX3_at_15 rfl 1 rfl ?_
    refine zg_bald ok dX3_at_16 hE (fun v4 hE => ?_)
    refine zg_sipush (v := 255) ok dX3_at_17 (by decide) ?_
    refine zg_iand ok dX3_at_20 ?_
    refine zg_goto (tgt := 25) ok dX3_at_21 (by decide) ?_
    exact zg_iret ok fin dX3_at_25 ⟨Nat.le_of_ble_eq_true rfl, Nat.le_of_ble_eq_true rfl⟩ hE
set_option maxHeartbeats 8000000 in
theorem gt_f_X3_run_B3 {Xc : zw_X} {Q : Int32 → zw_H → Prop} {X : String → Nat → zw_H → Prop} (hl : (zw_l Xc).stackTraces = false) (ok : zw_ok Xc cX3_run "MultipoleLine$Parser" yX3_run.name 5) (tab : zw_tab Xc []) (fin : zw_fin Xc (Option.some Jvm.ClassFile.FieldType.int) (zq_I Q) X 0 0) (hRm : zw_rm Xc = rm_X3_run) {kc ks : Nat} (hb : kc ≤ 0 ∧ ks ≤ 0) {R : Int32 → zw_H → Prop} {l0 : Option Nat} {l2 : Int32} {l3 : Int32} (hR : ∀ (l4 : Int32) (h : zw_H), R l4 h → zw_G Xc kc ks 5 h 3 [(0, va_rf l0), (2, .int l2), (3, .int l3), (4, .int l4)] []) {k26 : Int32 → zw_H → Prop} (hk26 : ∀ (l4 : Int32) (h : zw_H), k26 l4 h → zw_G Xc kc ks 5 h 26 [(4, .int l4)] [])  {l4 : Int32} {h : zw_H} (hE : f_X3_run_B3 (zw_Zf Xc).2.2.2 Q X k26 l0 l2 l3 R l4 h) : zw_G Xc kc ks 5 h 3 [(0, va_rf l0), (2, .int l2), (3, .int l3), (4, .int l4)] [] := by
  unfold f_X3_run_B3 at hE
  refine zg_aload_n ok dX3_run_3 rfl 0 rfl ?_
  refine zg_iload ok dX3_run_4 3 rfl ?_
  refine zg_callV (vs := [zI l4]) (rest := []) (rm := rm_X3_at) ok hRm lk_X3_39 dX3_run_6 hE (fun hE => mt_X3_at hl hE) rfl (Nat.le_of_ble_eq_true rfl) ⟨⟨Nat.le_of_ble_eq_true rfl, Nat.le_of_ble_eq_true rfl⟩, (by show kc + 0 ≤ 0; omega), (by show ks + 0 ≤ 0; omega)⟩ (zg_retI (fun v1 h1 hE => ?_)) (zg_xok ok tab fin ⟨(by show kc + 0 ≤ 0; omega), (by show ks + 0 ≤ 0; omega)⟩)
  refine zg_cost (kc2 := kc) (ks2 := ks) ⟨(by show kc + 0 = kc; omega), (by show ks + 0 = ks; omega)⟩ ?_
  refine zg_i2l ok dX3_run_9 ?_
  refine zg_iload_n ok dX3_run_10 rfl 1 rfl ?_
  refine zg_i2l ok dX3_run_11 ?_
  refine zg_iload_n ok dX3_run_12 rfl 2 rfl ?_
  refine zg_i2l ok dX3_run_13 ?_
  refine zg_callSN (vs := [zJ v1.toInt64, zJ l2.toInt64, zJ l3.toInt64]) (rest := []) (rm := rm_X1_in) ok hRm lk_X3_43 dX3_run_14 hE (fun hE => mt_X1_in hl hE) rfl (Nat.le_of_ble_eq_true rfl) ⟨⟨Nat.le_of_ble_eq_true rfl, Nat.le_of_ble_eq_true rfl⟩, (by show kc + 0 ≤ 0; omega), (by show ks + 0 ≤ 0; omega)⟩ (zg_retI (fun v2 h2 hE => ?_)) (zg_xok ok tab fin ⟨(by show kc + 0 ≤ 0; omega), (by show ks + 0 ≤ 0; omega)⟩)
  refine zg_cost (kc2 := kc) (ks2 := ks) ⟨(by show kc + 0 = kc; omega), (by show ks + 0 = ks; omega)⟩ ?_
  refine zg_if_eq (tgt := 26) ok dX3_run_17 (by decide) hE (fun hE => ?_) (fun hE => ?_)
  · refine zg_sub (L' := [(4, .int l4)]) [3] rfl ?_
    exact hk26 _ _ hE
  · refine zg_iincL (k := 3) (L' := fun v3 => [(4, .int v3), (0, va_rf l0), (2, .int l2), (3, .int l3)]) ok dX3_run_20 (by decide +kernel) hE rfl (by decide) (fun _ => rfl) (fun v3 hE => ?_)
    refine zg_goto (tgt := 3) ok dX3_run_23 (by decide) ?_
    refine zg_sub (L' := [(0, va_rf l0), (2, .int l2), (3, .int l3), (4, .int v3)]) [1, 2, 3, 0] rfl ?_
    exact hR _ _ hE
theorem gt_f_X3_run_L3 {Xc : zw_X} {Q : Int32 → zw_H → Prop} {X : String → Nat → zw_H → Prop} (hl : (zw_l Xc).stackTraces = false) (ok : zw_ok Xc cX3_run "MultipoleLine$Parser" yX3_run.name 5) (tab : zw_tab Xc []) (fin : zw_fin Xc (Option.some Jvm.ClassFile.FieldType.int) (zq_I Q) X 0 0) (hRm : zw_rm Xc = rm_X3_run) {kc ks : Nat} (hb : kc ≤ 0 ∧ ks ≤ 0) {l0 : Option Nat} {l2 : Int32} {l3 : Int32} {k26 : Int32 → zw_H → Prop} (hk26 : ∀ (l4 : Int32) (h : zw_H), k26 l4 h → zw_G Xc kc ks 5 h 26 [(4, .int l4)] [])  : ∀ (n9 : Nat) (l4 : Int32) (h : zw_H), zl2 (f_X3_run_B3 (zw_Zf Xc).2.2.2 Q X k26 l0 l2 l3) n9 l4 h → zw_G Xc kc ks 5 h 3 [(0, va_rf l0), (2, .int l2), (3, .int l3), (4, .int l4)] [] := by
  intro n9
  induction n9 with
  | zero => intro l4 h hE; exact hE.elim
  | succ n9 ih => intro l4 h hE; exact gt_f_X3_run_B3 hl ok tab fin hRm hb ih hk26 hE
set_option maxHeartbeats 8000000 in
theorem mt_X3_run {l : Launch} (hl : l.stackTraces = false) {Z : zw_Z} {a0 : Option Nat} {a1 : Int32} {a2 : Int32} {a3 : Int32} {h : zw_H} {Q : Int32 → zw_H → Prop} {X : String → Nat → zw_H → Prop} (hE : f_X3_run Z.2.2.2 a0 a1 a2 a3 h Q X) : zw_Met l Z yX3_run (ws_ yX3_run cX3_run 5 (Option.some Jvm.ClassFile.FieldType.int)) rm_X3_run [zA a0, zI a1, zI a2, zI a3] h (zq_I Q) X := by
  refine zg_start (own := "MultipoleLine$Parser") (by decide +kernel) rfl (Nat.le_of_ble_eq_true rfl) hl (fun Xc ok tab fin hRm hXl hXZ => ?_)
  subst hXl
  subst hXZ
  unfold f_X3_run at hE
  refine zg_iload_n ok dX3_run_0 rfl 1 rfl ?_
  refine zg_istore (L' := [(4, .int a1), (0, va_rf a0), (1, .int a1), (2, .int a2), (3, .int a3)]) ok dX3_run_1 (by decide) rfl ?_
  refine zg_sub (L' := [(0, va_rf a0), (2, .int a2), (3, .int a3), (4, .int a1)]) [1, 3, 4, 0] rfl ?_
  refine gt_f_X3_run_L3 hl ok tab fin hRm ⟨Nat.le_of_ble_eq_true rfl, Nat.le_of_ble_eq_true rfl⟩ ?_ _ _ _ hE
  · intro v4 h3 hE
    refine zg_iload ok dX3_run_26 0 rfl ?_
    exact zg_iret ok fin dX3_run_28 ⟨Nat.le_of_ble_eq_true rfl, Nat.le_of_ble_eq_true rfl⟩ hE
set_option maxHeartbeats 8000000 in
theorem mt_J14_max {l : Launch} (hl : l.stackTraces = false) {Z : zw_Z} {a0 : Int32} {a1 : Int32} {h : zw_H} {Q : Int32 → zw_H → Prop} {X : String → Nat → zw_H → Prop} (hE : f_J14_max Z.2.2.2 a0 a1 h Q X) : zw_Met l Z yJ14_max (ws_ yJ14_max cJ14_max 2 (Option.some Jvm.ClassFile.FieldType.int)) rm_J14_max [zI a0, zI a1] h (zq_I Q) X := by
  refine zg_startF (own := "java/lang/Math") (by decide +kernel) rfl (Nat.le_of_ble_eq_true rfl) hl (fun Xc ok tab fin hRm hXl hXZ => ?_)
  subst hXl
  subst hXZ
  unfold f_J14_max at hE
  refine zg_iload_n ok dJ14_max_0 rfl 0 rfl ?_
  refine zg_iload_n ok dJ14_max_1 rfl 1 rfl ?_
  refine zg_icmp_lt (tgt := 9) ok dJ14_max_2 (by decide) hE (fun hE => ?_) (fun hE => ?_)
  · refine zg_iload_n ok dJ14_max_9 rfl 1 rfl ?_
    exact zg_iret ok fin dJ14_max_10 ⟨Nat.le_of_ble_eq_true rfl, Nat.le_of_ble_eq_true rfl⟩ hE
  · refine zg_iload_n ok dJ14_max_5 rfl 0 rfl ?_
    refine zg_goto (tgt := 10) ok dJ14_max_6 (by decide) ?_
    exact zg_iret ok fin dJ14_max_10 ⟨Nat.le_of_ble_eq_true rfl, Nat.le_of_ble_eq_true rfl⟩ hE
set_option maxHeartbeats 8000000 in
theorem mt_J13_newLength {l : Launch} (hl : l.stackTraces = false) {Z : zw_Z} {a0 : Int32} {a1 : Int32} {a2 : Int32} {h : zw_H} {Q : Int32 → zw_H → Prop} {X : String → Nat → zw_H → Prop} (hE : f_J13_newLength Z.2.2.2 a0 a1 a2 h Q X) : zw_Met l Z yJ13_newLength (ws_ yJ13_newLength cJ13_newLength 4 (Option.some Jvm.ClassFile.FieldType.int)) rm_J13_newLength [zI a0, zI a1, zI a2] h (zq_I Q) X := by
  refine zg_start (own := "jdk/internal/util/ArraysSupport") (by decide +kernel) rfl (Nat.le_of_ble_eq_true rfl) hl (fun Xc ok tab fin hRm hXl hXZ => ?_)
  subst hXl
  subst hXZ
  unfold f_J13_newLength at hE
  refine zg_iload_n ok dJ13_newLength_0 rfl 0 rfl ?_
  refine zg_iload_n ok dJ13_newLength_1 rfl 1 rfl ?_
  refine zg_iload_n ok dJ13_newLength_2 rfl 2 rfl ?_
  refine zg_callS (vs := [zI a1, zI a2]) (rest := [.int a0]) (rm := rm_J14_max) ok hRm lk_J13_194 dJ13_newLength_3 hE (fun hE => mt_J14_max hl hE) rfl (Nat.le_of_ble_eq_true rfl) ⟨⟨Nat.le_of_ble_eq_true rfl, Nat.le_of_ble_eq_true rfl⟩, Nat.le_of_ble_eq_true rfl, Nat.le_of_ble_eq_true rfl⟩ (zg_retI (fun v1 h1 hE => ?_)) (zg_xok ok tab fin ⟨Nat.le_of_ble_eq_true rfl, Nat.le_of_ble_eq_true rfl⟩)
  refine zg_cost (kc2 := 0) (ks2 := 0) ⟨rfl, rfl⟩ ?_
  refine zg_iadd ok dJ13_newLength_6 ?_
  refine zg_letI hE (fun v2 hE => ?_)
  refine zg_istore_n (L' := [(3, .int v2), (0, .int a0), (1, .int a1), (2, .int a2)]) ok dJ13_newLength_7 rfl (by decide) rfl ?_
  refine zg_iconst (v := 0) ok dJ13_newLength_8 (by decide) ?_
  refine zg_iload_n ok dJ13_newLength_9 rfl 0 rfl ?_
  refine zg_icmp_ge (tgt := 21) ok dJ13_newLength_10 (by decide) hE (fun hE => ?_) (fun hE => ?_)
  · exact hE.elim
  · refine zg_iload_n ok dJ13_newLength_13 rfl 0 rfl ?_
    refine zg_ldc (v := (2147483639 : Int32)) ok q541 dJ13_newLength_14 ?_
    refine zg_icmp_gt (tgt := 21) ok dJ13_newLength_16 (by decide) hE (fun hE => ?_) (fun hE => ?_)
    · exact hE.elim
    · refine zg_iload_n ok dJ13_newLength_19 rfl 0 rfl ?_
      exact zg_iret ok fin dJ13_newLength_20 ⟨Nat.le_of_ble_eq_true rfl, Nat.le_of_ble_eq_true rfl⟩ hE
set_option maxHeartbeats 8000000 in
theorem mt_J2_newCapacity {l : Launch} (hl : l.stackTraces = false) {Z : zw_Z} {a0 : Option Nat} {a1 : Int32} {h : zw_H} {Q : Int32 → zw_H → Prop} {X : String → Nat → zw_H → Prop} (hE : f_J2_newCapacity Z.2.2.2 a0 a1 h Q X) : zw_Met l Z yJ2_newCapacity (ws_ yJ2_newCapacity cJ2_newCapacity 6 (Option.some Jvm.ClassFile.FieldType.int)) rm_J2_newCapacity [zA a0, zI a1] h (zq_I Q) X := by
  refine zg_start (own := "java/lang/AbstractStringBuilder") (by decide +kernel) rfl (Nat.le_of_ble_eq_true rfl) hl (fun Xc ok tab fin hRm hXl hXZ => ?_)
  subst hXl
  subst hXZ
  unfold f_J2_newCapacity at hE
  refine zg_aload_n ok dJ2_newCapacity_0 rfl 0 rfl ?_
  refine zg_getA ok lf_J2_15 dJ2_newCapacity_1 hE (fun v1 hE => ?_)
  refine zg_alen ok dJ2_newCapacity_4 hE (fun v2 hE => ?_)
  refine zg_istore_n (L' := [(2, .int v2), (0, va_rf a0), (1, .int a1)]) ok dJ2_newCapacity_5 rfl (by decide) rfl ?_
  refine zg_iload_n ok dJ2_newCapacity_6 rfl 2 rfl ?_
  refine zg_aload_n ok dJ2_newCapacity_7 rfl 1 rfl ?_
  refine zg_getI ok lf_J2_22 dJ2_newCapacity_8 hE (fun v3 hE => ?_)
  refine zg_ishl ok dJ2_newCapacity_11 ?_
  refine zg_letI hE (fun v4 hE => ?_)
  refine zg_istore_n (L' := [(3, .int v4), (2, .int v2), (0, va_rf a0), (1, .int a1)]) ok dJ2_newCapacity_12 rfl (by decide) rfl ?_
  refine zg_iload_n ok dJ2_newCapacity_13 rfl 0 rfl ?_
  refine zg_iload_n ok dJ2_newCapacity_14 rfl 1 rfl ?_
  refine zg_isub ok dJ2_newCapacity_15 ?_
  refine zg_letI hE (fun v5 hE => ?_)
  refine zg_istore (L' := [(4, .int v5), (3, .int v4), (2, .int v2), (0, va_rf a0), (1, .int a1)]) ok dJ2_newCapacity_16 (by decide) rfl ?_
  refine zg_iload_n ok dJ2_newCapacity_18 rfl 2 rfl ?_
  refine zg_iload ok dJ2_newCapacity_19 0 rfl ?_
  refine zg_iload_n ok dJ2_newCapacity_21 rfl 2 rfl ?_
  refine zg_iconst (v := 2) ok dJ2_newCapacity_22 (by decide) ?_
  refine zg_aload_n ok dJ2_newCapacity_23 rfl 3 rfl ?_
  refine zg_getI ok lf_J2_22 dJ2_newCapacity_24 hE (fun v6 hE => ?_)
  refine zg_ishl ok dJ2_newCapacity_27 ?_
  refine zg_iadd ok dJ2_newCapacity_28 ?_
  refine zg_callS (vs := [zI v2, zI v5, zI (v2 + ((2 : Int32) <<< (v6 &&& 31)))]) (rest := []) (rm := rm_J13_newLength) ok hRm lk_J2_114 dJ2_newCapacity_29 hE (fun hE => mt_J13_newLength hl hE) rfl (Nat.le_of_ble_eq_true rfl) ⟨⟨Nat.le_of_ble_eq_true rfl, Nat.le_of_ble_eq_true rfl⟩, Nat.le_of_ble_eq_true rfl, Nat.le_of_ble_eq_true rfl⟩ (zg_retI (fun v7 h1 hE => ?_)) (zg_xok ok tab fin ⟨Nat.le_of_ble_eq_true rfl, Nat.le_of_ble_eq_true rfl⟩)
  refine zg_cost (kc2 := 0) (ks2 := 0) ⟨rfl, rfl⟩ ?_
  refine zg_istore (L' := [(5, .int v7), (4, .int v5), (3, .int v4), (2, .int v2), (0, va_rf a0), (1, .int a1)]) ok dJ2_newCapacity_32 (by decide) rfl ?_
  refine zg_iload ok dJ2_newCapacity_34 0 rfl ?_
  refine zg_ldc (v := (2147483647 : Int32)) ok q545 dJ2_newCapacity_36 ?_
  refine zg_icmp_ne (tgt := 51) ok dJ2_newCapacity_38 (by decide) hE (fun hE => ?_) (fun hE => ?_)
  · refine zg_iload ok dJ2_newCapacity_51 0 rfl ?_
    refine zg_aload_n ok dJ2_newCapacity_53 rfl 4 rfl ?_
    refine zg_getI ok lf_J2_22 dJ2_newCapacity_54 hE (fun v8 hE => ?_)
    refine zg_ishr ok dJ2_newCapacity_57 ?_
    exact zg_iret ok fin dJ2_newCapacity_58 ⟨Nat.le_of_ble_eq_true rfl, Nat.le_of_ble_eq_true rfl⟩ hE
  · exact hE.elim
set_option maxHeartbeats 8000000 in
theorem mt_J14_min {l : Launch} (hl : l.stackTraces = false) {Z : zw_Z} {a0 : Int32} {a1 : Int32} {h : zw_H} {Q : Int32 → zw_H → Prop} {X : String → Nat → zw_H → Prop} (hE : f_J14_min Z.2.2.2 a0 a1 h Q X) : zw_Met l Z yJ14_min (ws_ yJ14_min cJ14_min 2 (Option.some Jvm.ClassFile.FieldType.int)) rm_J14_min [zI a0, zI a1] h (zq_I Q) X := by
  refine zg_startF (own := "java/lang/Math") (by decide +kernel) rfl (Nat.le_of_ble_eq_true rfl) hl (fun Xc ok tab fin hRm hXl hXZ => ?_)
  subst hXl
  subst hXZ
  unfold f_J14_min at hE
  refine zg_iload_n ok dJ14_min_0 rfl 0 rfl ?_
  refine zg_iload_n ok dJ14_min_1 rfl 1 rfl ?_
  refine zg_icmp_gt (tgt := 9) ok dJ14_min_2 (by decide) hE (fun hE => ?_) (fun hE => ?_)
  · refine zg_iload_n ok dJ14_min_9 rfl 1 rfl ?_
    exact zg_iret ok fin dJ14_min_10 ⟨Nat.le_of_ble_eq_true rfl, Nat.le_of_ble_eq_true rfl⟩ hE
  · refine zg_iload_n ok dJ14_min_5 rfl 0 rfl ?_
    refine zg_goto (tgt := 10) ok dJ14_min_6 (by decide) ?_
    exact zg_iret ok fin dJ14_min_10 ⟨Nat.le_of_ble_eq_true rfl, Nat.le_of_ble_eq_true rfl⟩ hE
set_option maxHeartbeats 8000000 in
theorem mt_J15_copyOf {l : Launch} (hl : l.stackTraces = false) {Z : zw_Z} {a0 : Option Nat} {a1 : Int32} {h : zw_H} {Q : Option Nat → zw_H → Prop} {X : String → Nat → zw_H → Prop} (hE : f_J15_copyOf Z.2.2.2 a0 a1 h Q X) : zw_Met l Z yJ15_copyOf (ws_ yJ15_copyOf cJ15_copyOf 3 (Option.some (Jvm.ClassFile.FieldType.array Jvm.ClassFile.FieldType.byte))) rm_J15_copyOf [zA a0, zI a1] h (zq_A Q) X := by
  refine zg_start (own := "java/util/Arrays") (by decide +kernel) rfl (Nat.le_of_ble_eq_true rfl) hl (fun Xc ok tab fin hRm hXl hXZ => ?_)
  subst hXl
  subst hXZ
  unfold f_J15_copyOf at hE
  refine zg_iload_n ok dJ15_copyOf_0 rfl 1 rfl ?_
  refine zg_aload_n ok dJ15_copyOf_1 rfl 0 rfl ?_
  refine zg_alen ok dJ15_copyOf_2 hE (fun v1 hE => ?_)
  refine zg_icmp_ne (tgt := 14) ok dJ15_copyOf_3 (by decide) hE (fun hE => ?_) (fun hE => ?_)
  · refine zg_iload_n ok dJ15_copyOf_14 rfl 1 rfl ?_
    refine zg_newB (b := 576) ok (by rw [hRm]; exact ⟨Nat.le_of_ble_eq_true rfl, Nat.le_of_ble_eq_true rfl⟩) (Nat.le_of_ble_eq_true rfl) dJ15_copyOf_15 hE (fun v2 h1 hE => ?_)
    refine zg_cost (kc2 := 1) (ks2 := 576) ⟨rfl, rfl⟩ ?_
    refine zg_astore_n (L' := [(2, va_rf (some v2)), (0, va_rf a0), (1, .int a1)]) ok dJ15_copyOf_17 rfl (by decide) rfl ?_
    refine zg_aload_n ok dJ15_copyOf_18 rfl 1 rfl ?_
    refine zg_iconst (v := 0) ok dJ15_copyOf_19 (by decide) ?_
    refine zg_aload_n ok dJ15_copyOf_20 rfl 0 rfl ?_
    refine zg_iconst (v := 0) ok dJ15_copyOf_21 (by decide) ?_
    refine zg_aload_n ok dJ15_copyOf_22 rfl 1 rfl ?_
    refine zg_alen ok dJ15_copyOf_23 hE (fun v3 hE => ?_)
    refine zg_iload_n ok dJ15_copyOf_24 rfl 2 rfl ?_
    refine zg_callS (vs := [zI v3, zI a1]) (rest := [.int 0, va_rf (some v2), .int 0, va_rf a0]) (rm := rm_J14_min) ok hRm lk_J15_304 dJ15_copyOf_25 hE (fun hE => mt_J14_min hl hE) rfl (Nat.le_of_ble_eq_true rfl) ⟨⟨Nat.le_of_ble_eq_true rfl, Nat.le_of_ble_eq_true rfl⟩, Nat.le_of_ble_eq_true rfl, Nat.le_of_ble_eq_true rfl⟩ (zg_retI (fun v4 h2 hE => ?_)) (zg_xok ok tab fin ⟨Nat.le_of_ble_eq_true rfl, Nat.le_of_ble_eq_true rfl⟩)
    refine zg_cost (kc2 := 1) (ks2 := 576) ⟨rfl, rfl⟩ ?_
    refine zg_cpB ok hRm q559 ⟨by decide, by decide⟩ (Nat.le_of_ble_eq_true rfl) dJ15_copyOf_28 hE (fun h3 hE => ?_)
    refine zg_aload_n ok dJ15_copyOf_31 rfl 0 rfl ?_
    exact zg_aret ok fin (Or.inr ⟨_, rfl⟩) dJ15_copyOf_32 ⟨Nat.le_of_ble_eq_true rfl, Nat.le_of_ble_eq_true rfl⟩ hE
  · exact hE.elim
set_option maxHeartbeats 8000000 in
theorem mt_J2_ensureCapacityInternaln {l : Launch} (hl : l.stackTraces = false) {Z : zw_Z} {a0 : Option Nat} {a1 : Int32} {h : zw_H} {Q : zw_H → Prop} {X : String → Nat → zw_H → Prop} (hE : f_J2_ensureCapacityInternaln Z.2.2.2 a0 a1 h Q X) : zw_Met l Z yJ2_ensureCapacityInternal (ws_ yJ2_ensureCapacityInternal cJ2_ensureCapacityInternal 3 (Option.none : Option Jvm.ClassFile.FieldType)) rm_J2_ensureCapacityInternaln [zA a0, zI a1] h (zq_V Q) X := by
  refine zg_start (own := "java/lang/AbstractStringBuilder") (by decide +kernel) rfl (Nat.le_of_ble_eq_true rfl) hl (fun Xc ok tab fin hRm hXl hXZ => ?_)
  subst hXl
  subst hXZ
  unfold f_J2_ensureCapacityInternaln at hE
  refine zg_aload_n ok dJ2_ensureCapacityInternal_0 rfl 0 rfl ?_
  refine zg_getA ok lf_J2_15 dJ2_ensureCapacityInternal_1 hE (fun v1 hE => ?_)
  refine zg_alen ok dJ2_ensureCapacityInternal_4 hE (fun v2 hE => ?_)
  refine zg_aload_n ok dJ2_ensureCapacityInternal_5 rfl 0 rfl ?_
  refine zg_getI ok lf_J2_22 dJ2_ensureCapacityInternal_6 hE (fun v3 hE => ?_)
  refine zg_ishr ok dJ2_ensureCapacityInternal_9 ?_
  refine zg_letI hE (fun v4 hE => ?_)
  refine zg_istore_n (L' := [(2, .int v4), (0, va_rf a0), (1, .int a1)]) ok dJ2_ensureCapacityInternal_10 rfl (by decide) rfl ?_
  refine zg_iload_n ok dJ2_ensureCapacityInternal_11 rfl 2 rfl ?_
  refine zg_iload_n ok dJ2_ensureCapacityInternal_12 rfl 0 rfl ?_
  refine zg_isub ok dJ2_ensureCapacityInternal_13 ?_
  refine zg_if_le (tgt := 38) ok dJ2_ensureCapacityInternal_14 (by decide) hE (fun hE => ?_) (fun hE => ?_)
  · exact zg_vret ok fin dJ2_ensureCapacityInternal_38 ⟨Nat.le_of_ble_eq_true rfl, Nat.le_of_ble_eq_true rfl⟩ hE
  · exact hE.elim
set_option maxHeartbeats 8000000 in
theorem mt_J2_isLatin1 {l : Launch} (hl : l.stackTraces = false) {Z : zw_Z} {a0 : Option Nat} {h : zw_H} {Q : Int32 → zw_H → Prop} {X : String → Nat → zw_H → Prop} (hE : f_J2_isLatin1 Z.2.2.2 a0 h Q X) : zw_Met l Z yJ2_isLatin1 (ws_ yJ2_isLatin1 cJ2_isLatin1 1 (Option.some Jvm.ClassFile.FieldType.boolean)) rm_J2_isLatin1 [zA a0] h (zq_I Q) X := by
  refine zg_start (own := "java/lang/AbstractStringBuilder") (by decide +kernel) rfl (Nat.le_of_ble_eq_true rfl) hl (fun Xc ok tab fin hRm hXl hXZ => ?_)
  subst hXl
  subst hXZ
  unfold f_J2_isLatin1 at hE
  refine zg_getsI (C := "java/lang/String") (n := "COMPACT_STRINGS") (d' := "Z") (v := 1) ok (List.mem_of_getElem? (i := 0) rfl) q194 dJ2_isLatin1_0 ?_
  refine zg_if_eq (tgt := 17) ok dJ2_isLatin1_3 (by decide) hE (fun hE => ?_) (fun hE => ?_)
  · refine zg_iconst (v := 0) ok dJ2_isLatin1_17 (by decide) ?_
    exact zg_zret ok fin dJ2_isLatin1_18 ⟨Nat.le_of_ble_eq_true rfl, Nat.le_of_ble_eq_true rfl⟩ rfl hE
  · refine zg_aload_n ok dJ2_isLatin1_6 rfl 0 rfl ?_
    refine zg_getI ok lf_J2_22 dJ2_isLatin1_7 hE (fun v1 hE => ?_)
    refine zg_if_ne (tgt := 17) ok dJ2_isLatin1_10 (by decide) hE (fun hE => ?_) (fun hE => ?_)
    · refine zg_iconst (v := 0) ok dJ2_isLatin1_17 (by decide) ?_
      exact zg_zret ok fin dJ2_isLatin1_18 ⟨Nat.le_of_ble_eq_true rfl, Nat.le_of_ble_eq_true rfl⟩ rfl hE
    · refine zg_iconst (v := 1) ok dJ2_isLatin1_13 (by decide) ?_
      refine zg_goto (tgt := 18) ok dJ2_isLatin1_14 (by decide) ?_
      exact zg_zret ok fin dJ2_isLatin1_18 ⟨Nat.le_of_ble_eq_true rfl, Nat.le_of_ble_eq_true rfl⟩ rfl hE
set_option maxHeartbeats 8000000 in
theorem mt_J16_canEncode {l : Launch} (hl : l.stackTraces = false) {Z : zw_Z} {a0 : Int32} {h : zw_H} {Q : Int32 → zw_H → Prop} {X : String → Nat → zw_H → Prop} (hE : f_J16_canEncode Z.2.2.2 a0 h Q X) : zw_Met l Z yJ16_canEncode (ws_ yJ16_canEncode cJ16_canEncode 1 (Option.some Jvm.ClassFile.FieldType.boolean)) rm_J16_canEncode [zI a0] h (zq_I Q) X := by
  refine zg_start (own := "java/lang/StringLatin1") (by decide +kernel) rfl (Nat.le_of_ble_eq_true rfl) hl (fun Xc ok tab fin hRm hXl hXZ => ?_)
  subst hXl
  subst hXZ
  unfold f_J16_canEncode at hE
  refine zg_iload_n ok dJ16_canEncode_0 rfl 0 rfl ?_
  refine zg_sipush (v := 255) ok dJ16_canEncode_1 (by decide) ?_
  refine zg_icmp_gt (tgt := 11) ok dJ16_canEncode_4 (by decide) hE (fun hE => ?_) (fun hE => ?_)
  · refine zg_iconst (v := 0) ok dJ16_canEncode_11 (by decide) ?_
    exact zg_zret ok fin dJ16_canEncode_12 ⟨Nat.le_of_ble_eq_true rfl, Nat.le_of_ble_eq_true rfl⟩ rfl hE
  · refine zg_iconst (v := 1) ok dJ16_canEncode_7 (by decide) ?_
    refine zg_goto (tgt := 12) ok dJ16_canEncode_8 (by decide) ?_
    exact zg_zret ok fin dJ16_canEncode_12 ⟨Nat.le_of_ble_eq_true rfl, Nat.le_of_ble_eq_true rfl⟩ rfl hE
set_option maxHeartbeats 8000000 in
theorem gt_f_J5_putChar_J28 {Xc : zw_X} {Q : zw_H → Prop} {X : String → Nat → zw_H → Prop} (hl : (zw_l Xc).stackTraces = false) (ok : zw_ok Xc cJ5_putChar "java/lang/StringUTF16" yJ5_putChar.name 3) (tab : zw_tab Xc []) (fin : zw_fin Xc (Option.none : Option Jvm.ClassFile.FieldType) (zq_V Q) X 0 0) (hRm : zw_rm Xc = rm_J5_putChar)  {l0 : Option Nat} {l1 : Int32} {l2 : Int32}  {h : zw_H} (hE : f_J5_putChar_J28 (zw_Zf Xc).2.2.2 Q X  l0 l1 l2 h) : zw_G Xc 0 0 3 h 28 [(0, va_rf l0), (1, .int l1), (2, .int l2)] [] := by
  unfold f_J5_putChar_J28 at hE
  refine zg_iload_n ok dJ5_putChar_28 rfl 1 rfl ?_
  refine zg_iconst (v := 1) ok dJ5_putChar_29 (by decide) ?_
  refine zg_ishl ok dJ5_putChar_30 ?_
  refine zg_letI hE (fun v1 hE => ?_)
  refine zg_istore_nR (L' := [(1, .int v1), (0, va_rf l0), (2, .int l2)]) ok dJ5_putChar_31 rfl (by decide) 0 rfl rfl rfl ?_
  refine zg_aload_n ok dJ5_putChar_32 rfl 1 rfl ?_
  refine zg_iload_n ok dJ5_putChar_33 rfl 0 rfl ?_
  refine zg_iincLR (k := 0) (L' := fun v2 => [(1, .int v2), (0, va_rf l0), (2, .int l2)]) ok dJ5_putChar_34 (by decide +kernel) hE rfl (by decide) rfl (k9 := 1) rfl (fun _ => rfl) (fun v2 hE => ?_)
  refine zg_iload_n ok dJ5_putChar_37 rfl 2 rfl ?_
  refine zg_getsI (C := "java/lang/StringUTF16") (n := "HI_BYTE_SHIFT") (d' := "I") (v := 0) ok (List.mem_of_getElem? (i := 2) rfl) q599 dJ5_putChar_38 ?_
  refine zg_ishr ok dJ5_putChar_41 ?_
  refine zg_i2b ok dJ5_putChar_42 ?_
  refine zg_bast ok dJ5_putChar_43 hE (fun h1 hE => ?_)
  refine zg_aload_n ok dJ5_putChar_44 rfl 1 rfl ?_
  refine zg_iload_n ok dJ5_putChar_45 rfl 0 rfl ?_
  refine zg_iload_n ok dJ5_putChar_46 rfl 2 rfl ?_
  refine zg_getsI (C := "java/lang/StringUTF16") (n := "LO_BYTE_SHIFT") (d' := "I") (v := 8) ok (List.mem_of_getElem? (i := 3) rfl) q601 dJ5_putChar_47 ?_
  refine zg_ishr ok dJ5_putChar_50 ?_
  refine zg_i2b ok dJ5_putChar_51 ?_
  refine zg_bast ok dJ5_putChar_52 hE (fun h2 hE => ?_)
  exact zg_vret ok fin dJ5_putChar_53 ⟨Nat.le_of_ble_eq_true rfl, Nat.le_of_ble_eq_true rfl⟩ hE
set_option maxHeartbeats 8000000 in
theorem mt_J5_putChar {l : Launch} (hl : l.stackTraces = false) {Z : zw_Z} {a0 : Option Nat} {a1 : Int32} {a2 : Int32} {h : zw_H} {Q : zw_H → Prop} {X : String → Nat → zw_H → Prop} (hE : f_J5_putChar Z.2.2.2 a0 a1 a2 h Q X) : zw_Met l Z yJ5_putChar (ws_ yJ5_putChar cJ5_putChar 3 (Option.none : Option Jvm.ClassFile.FieldType)) rm_J5_putChar [zA a0, zI a1, zI a2] h (zq_V Q) X := by
  refine zg_start (own := "java/lang/StringUTF16") (by decide +kernel) rfl (Nat.le_of_ble_eq_true rfl) hl (fun Xc ok tab fin hRm hXl hXZ => ?_)
  subst hXl
  subst hXZ
  unfold f_J5_putChar at hE
  refine zg_getsI (C := "java/lang/StringUTF16") (n := "$assertionsDisabled") (d' := "Z") (v := 1) ok (List.mem_of_getElem? (i := 1) rfl) q597 dJ5_putChar_0 ?_
  refine zg_if_ne (tgt := 28) ok dJ5_putChar_3 (by decide) hE (fun hE => ?_) (fun hE => ?_)
  · exact gt_f_J5_putChar_J28 hl ok tab fin hRm  hE
  · refine zg_iload_n ok dJ5_putChar_6 rfl 1 rfl ?_
    refine zg_if_lt (tgt := 18) ok dJ5_putChar_7 (by decide) hE (fun hE => ?_) (fun hE => ?_)
    · exact hE.elim
    · refine zg_iload_n ok dJ5_putChar_10 rfl 1 rfl ?_
      refine zg_aload_n ok dJ5_putChar_11 rfl 0 rfl ?_
      refine zg_callS (vs := [zA a0]) (rest := [.int a1]) (rm := rm_J5_length) ok hRm lk_J5_48 dJ5_putChar_12 hE (fun hE => mt_J5_length hl hE) rfl (Nat.le_of_ble_eq_true rfl) ⟨⟨Nat.le_of_ble_eq_true rfl, Nat.le_of_ble_eq_true rfl⟩, Nat.le_of_ble_eq_true rfl, Nat.le_of_ble_eq_true rfl⟩ (zg_retI (fun v3 h3 hE => ?_)) (zg_xok ok tab fin ⟨Nat.le_of_ble_eq_true rfl, Nat.le_of_ble_eq_true rfl⟩)
      refine zg_cost (kc2 := 0) (ks2 := 0) ⟨rfl, rfl⟩ ?_
      refine zg_icmp_lt (tgt := 28) ok dJ5_putChar_15 (by decide) hE (fun hE => ?_) (fun hE => ?_)
      · exact gt_f_J5_putChar_J28 hl ok tab fin hRm  hE
      · exact hE.elim
set_option maxHeartbeats 8000000 in
theorem mt_J5_putCharSB {l : Launch} (hl : l.stackTraces = false) {Z : zw_Z} {a0 : Option Nat} {a1 : Int32} {a2 : Int32} {h : zw_H} {Q : zw_H → Prop} {X : String → Nat → zw_H → Prop} (hE : f_J5_putCharSB Z.2.2.2 a0 a1 a2 h Q X) : zw_Met l Z yJ5_putCharSB (ws_ yJ5_putCharSB cJ5_putCharSB 3 (Option.none : Option Jvm.ClassFile.FieldType)) rm_J5_putCharSB [zA a0, zI a1, zI a2] h (zq_V Q) X := by
  refine zg_start (own := "java/lang/StringUTF16") (by decide +kernel) rfl (Nat.le_of_ble_eq_true rfl) hl (fun Xc ok tab fin hRm hXl hXZ => ?_)
  subst hXl
  subst hXZ
  unfold f_J5_putCharSB at hE
  refine zg_iload_n ok dJ5_putCharSB_0 rfl 1 rfl ?_
  refine zg_aload_n ok dJ5_putCharSB_1 rfl 0 rfl ?_
  refine zg_callS (vs := [zI a1, zA a0]) (rest := []) (rm := rm_J5_checkIndex) ok hRm lk_J5_67 dJ5_putCharSB_2 hE (fun hE => mt_J5_checkIndex hl hE) rfl (Nat.le_of_ble_eq_true rfl) ⟨⟨Nat.le_of_ble_eq_true rfl, Nat.le_of_ble_eq_true rfl⟩, Nat.le_of_ble_eq_true rfl, Nat.le_of_ble_eq_true rfl⟩ (zg_retV (fun h1 hE => ?_)) (zg_xok ok tab fin ⟨Nat.le_of_ble_eq_true rfl, Nat.le_of_ble_eq_true rfl⟩)
  refine zg_cost (kc2 := 0) (ks2 := 0) ⟨rfl, rfl⟩ ?_
  refine zg_aload_n ok dJ5_putCharSB_5 rfl 0 rfl ?_
  refine zg_iload_n ok dJ5_putCharSB_6 rfl 1 rfl ?_
  refine zg_iload_n ok dJ5_putCharSB_7 rfl 2 rfl ?_
  refine zg_callS (vs := [zA a0, zI a1, zI a2]) (rest := []) (rm := rm_J5_putChar) ok hRm lk_J5_111 dJ5_putCharSB_8 hE (fun hE => mt_J5_putChar hl hE) rfl (Nat.le_of_ble_eq_true rfl) ⟨⟨Nat.le_of_ble_eq_true rfl, Nat.le_of_ble_eq_true rfl⟩, Nat.le_of_ble_eq_true rfl, Nat.le_of_ble_eq_true rfl⟩ (zg_retV (fun h2 hE => ?_)) (zg_xok ok tab fin ⟨Nat.le_of_ble_eq_true rfl, Nat.le_of_ble_eq_true rfl⟩)
  refine zg_cost (kc2 := 0) (ks2 := 0) ⟨rfl, rfl⟩ ?_
  exact zg_vret ok fin dJ5_putCharSB_11 ⟨Nat.le_of_ble_eq_true rfl, Nat.le_of_ble_eq_true rfl⟩ hE
set_option maxHeartbeats 8000000 in
theorem gt_f_J2_appendn_J56 {Xc : zw_X} {Q : Option Nat → zw_H → Prop} {X : String → Nat → zw_H → Prop} (hl : (zw_l Xc).stackTraces = false) (ok : zw_ok Xc cJ2_append "java/lang/AbstractStringBuilder" yJ2_append.name 2) (tab : zw_tab Xc []) (fin : zw_fin Xc (Option.some (Jvm.ClassFile.FieldType.object "java/lang/AbstractStringBuilder")) (zq_A Q) X 0 0) (hRm : zw_rm Xc = rm_J2_appendn)  {l0 : Option Nat} {l1 : Int32}  {h : zw_H} (hE : f_J2_appendn_J56 (zw_Zf Xc).2.2.2 Q X  l0 l1 h) : zw_G Xc 0 0 2 h 56 [(0, va_rf l0), (1, .int l1)] [] := by
  unfold f_J2_appendn_J56 at hE
  refine zg_aload_n ok dJ2_append_56 rfl 0 rfl ?_
  refine zg_getA ok lf_J2_15 dJ2_append_57 hE (fun v4 hE => ?_)
  refine zg_aload_n ok dJ2_append_60 rfl 0 rfl ?_
  refine zg_dup ok dJ2_append_61 (zw_rfc _) ?_
  refine zg_getI ok lf_J2_79 dJ2_append_62 hE (fun v5 hE => ?_)
  refine zg_dup_x1 ok dJ2_append_65 rfl (zw_rfc _) ?_
  refine zg_iconst (v := 1) ok dJ2_append_66 (by decide) ?_
  refine zg_iadd ok dJ2_append_67 ?_
  refine zg_put (ty := .int) ok lf_J2_79 (Or.inl rfl) (by decide) (by decide +kernel) rfl rfl dJ2_append_68 hE (fun h4 hE => ?_)
  refine zg_iload_n ok dJ2_append_71 rfl 1 rfl ?_
  refine zg_callS (vs := [zA v4, zI v5, zI l1]) (rest := []) (rm := rm_J5_putCharSB) ok hRm lk_J2_197 dJ2_append_72 hE (fun hE => mt_J5_putCharSB hl hE) rfl (Nat.le_of_ble_eq_true rfl) ⟨⟨Nat.le_of_ble_eq_true rfl, Nat.le_of_ble_eq_true rfl⟩, Nat.le_of_ble_eq_true rfl, Nat.le_of_ble_eq_true rfl⟩ (zg_retV (fun h5 hE => ?_)) (zg_xok ok tab fin ⟨Nat.le_of_ble_eq_true rfl, Nat.le_of_ble_eq_true rfl⟩)
  refine zg_cost (kc2 := 0) (ks2 := 0) ⟨rfl, rfl⟩ ?_
  refine zg_aload_n ok dJ2_append_75 rfl 0 rfl ?_
  exact zg_aret ok fin (Or.inl ⟨_, rfl⟩) dJ2_append_76 ⟨Nat.le_of_ble_eq_true rfl, Nat.le_of_ble_eq_true rfl⟩ hE
set_option maxHeartbeats 8000000 in
theorem gt_f_J2_appendn_J45 {Xc : zw_X} {Q : Option Nat → zw_H → Prop} {X : String → Nat → zw_H → Prop} (hl : (zw_l Xc).stackTraces = false) (ok : zw_ok Xc cJ2_append "java/lang/AbstractStringBuilder" yJ2_append.name 2) (tab : zw_tab Xc []) (fin : zw_fin Xc (Option.some (Jvm.ClassFile.FieldType.object "java/lang/AbstractStringBuilder")) (zq_A Q) X 0 0) (hRm : zw_rm Xc = rm_J2_appendn)  {l0 : Option Nat} {l1 : Int32}  {h : zw_H} (hE : f_J2_appendn_J45 (zw_Zf Xc).2.2.2 Q X  l0 l1 h) : zw_G Xc 0 0 2 h 45 [(0, va_rf l0), (1, .int l1)] [] := by
  unfold f_J2_appendn_J45 at hE
  refine zg_aload_n ok dJ2_append_45 rfl 0 rfl ?_
  refine zg_callU (vs := []) (rest := []) (rm := rm_J2_isLatin1) ok hRm lk_J2_83 dJ2_append_46 hE (fun hE => mt_J2_isLatin1 hl hE) rfl (Nat.le_of_ble_eq_true rfl) ⟨⟨Nat.le_of_ble_eq_true rfl, Nat.le_of_ble_eq_true rfl⟩, Nat.le_of_ble_eq_true rfl, Nat.le_of_ble_eq_true rfl⟩ (zg_retI (fun v3 h3 hE => ?_)) (zg_xok ok tab fin ⟨Nat.le_of_ble_eq_true rfl, Nat.le_of_ble_eq_true rfl⟩)
  refine zg_cost (kc2 := 0) (ks2 := 0) ⟨rfl, rfl⟩ ?_
  refine zg_if_eq (tgt := 56) ok dJ2_append_49 (by decide) hE (fun hE => ?_) (fun hE => ?_)
  · exact gt_f_J2_appendn_J56 hl ok tab fin hRm  hE
  · exact hE.elim
set_option maxHeartbeats 8000000 in
theorem mt_J2_appendn {l : Launch} (hl : l.stackTraces = false) {Z : zw_Z} {a0 : Option Nat} {a1 : Int32} {h : zw_H} {Q : Option Nat → zw_H → Prop} {X : String → Nat → zw_H → Prop} (hE : f_J2_appendn Z.2.2.2 a0 a1 h Q X) : zw_Met l Z yJ2_append (ws_ yJ2_append cJ2_append 2 (Option.some (Jvm.ClassFile.FieldType.object "java/lang/AbstractStringBuilder"))) rm_J2_appendn [zA a0, zI a1] h (zq_A Q) X := by
  refine zg_start (own := "java/lang/AbstractStringBuilder") (by decide +kernel) rfl (Nat.le_of_ble_eq_true rfl) hl (fun Xc ok tab fin hRm hXl hXZ => ?_)
  subst hXl
  subst hXZ
  unfold f_J2_appendn at hE
  refine zg_aload_n ok dJ2_append_0 rfl 0 rfl ?_
  refine zg_aload_n ok dJ2_append_1 rfl 0 rfl ?_
  refine zg_getI ok lf_J2_79 dJ2_append_2 hE (fun v1 hE => ?_)
  refine zg_iconst (v := 1) ok dJ2_append_5 (by decide) ?_
  refine zg_iadd ok dJ2_append_6 ?_
  refine zg_callU (vs := [zI (v1 + 1)]) (rest := []) (rm := rm_J2_ensureCapacityInternaln) ok hRm lk_J2_100 dJ2_append_7 hE (fun hE => mt_J2_ensureCapacityInternaln hl hE) rfl (Nat.le_of_ble_eq_true rfl) ⟨⟨Nat.le_of_ble_eq_true rfl, Nat.le_of_ble_eq_true rfl⟩, Nat.le_of_ble_eq_true rfl, Nat.le_of_ble_eq_true rfl⟩ (zg_retV (fun h1 hE => ?_)) (zg_xok ok tab fin ⟨Nat.le_of_ble_eq_true rfl, Nat.le_of_ble_eq_true rfl⟩)
  refine zg_cost (kc2 := 0) (ks2 := 0) ⟨rfl, rfl⟩ ?_
  refine zg_aload_n ok dJ2_append_10 rfl 0 rfl ?_
  refine zg_callU (vs := []) (rest := []) (rm := rm_J2_isLatin1) ok hRm lk_J2_83 dJ2_append_11 hE (fun hE => mt_J2_isLatin1 hl hE) rfl (Nat.le_of_ble_eq_true rfl) ⟨⟨Nat.le_of_ble_eq_true rfl, Nat.le_of_ble_eq_true rfl⟩, Nat.le_of_ble_eq_true rfl, Nat.le_of_ble_eq_true rfl⟩ (zg_retI (fun v2 h2 hE => ?_)) (zg_xok ok tab fin ⟨Nat.le_of_ble_eq_true rfl, Nat.le_of_ble_eq_true rfl⟩)
  refine zg_cost (kc2 := 0) (ks2 := 0) ⟨rfl, rfl⟩ ?_
  refine zg_if_eq (tgt := 45) ok dJ2_append_14 (by decide) hE (fun hE => ?_) (fun hE => ?_)
  · exact gt_f_J2_appendn_J45 hl ok tab fin hRm  hE
  · refine zg_iload_n ok dJ2_append_17 rfl 1 rfl ?_
    refine zg_callS (vs := [zI a1]) (rest := []) (rm := rm_J16_canEncode) ok hRm lk_J2_191 dJ2_append_18 hE (fun hE => mt_J16_canEncode hl hE) rfl (Nat.le_of_ble_eq_true rfl) ⟨⟨Nat.le_of_ble_eq_true rfl, Nat.le_of_ble_eq_true rfl⟩, Nat.le_of_ble_eq_true rfl, Nat.le_of_ble_eq_true rfl⟩ (zg_retI (fun v6 h6 hE => ?_)) (zg_xok ok tab fin ⟨Nat.le_of_ble_eq_true rfl, Nat.le_of_ble_eq_true rfl⟩)
    refine zg_cost (kc2 := 0) (ks2 := 0) ⟨rfl, rfl⟩ ?_
    refine zg_if_eq (tgt := 45) ok dJ2_append_21 (by decide) hE (fun hE => ?_) (fun hE => ?_)
    · exact gt_f_J2_appendn_J45 hl ok tab fin hRm  hE
    · refine zg_aload_n ok dJ2_append_24 rfl 0 rfl ?_
      refine zg_getA ok lf_J2_15 dJ2_append_25 hE (fun v7 hE => ?_)
      refine zg_aload_n ok dJ2_append_28 rfl 0 rfl ?_
      refine zg_dup ok dJ2_append_29 (zw_rfc _) ?_
      refine zg_getI ok lf_J2_79 dJ2_append_30 hE (fun v8 hE => ?_)
      refine zg_dup_x1 ok dJ2_append_33 rfl (zw_rfc _) ?_
      refine zg_iconst (v := 1) ok dJ2_append_34 (by decide) ?_
      refine zg_iadd ok dJ2_append_35 ?_
      refine zg_put (ty := .int) ok lf_J2_79 (Or.inl rfl) (by decide) (by decide +kernel) rfl rfl dJ2_append_36 hE (fun h7 hE => ?_)
      refine zg_iload_n ok dJ2_append_39 rfl 1 rfl ?_
      refine zg_i2b ok dJ2_append_40 ?_
      refine zg_bast ok dJ2_append_41 hE (fun h8 hE => ?_)
      refine zg_goto (tgt := 75) ok dJ2_append_42 (by decide) ?_
      refine zg_aload_n ok dJ2_append_75 rfl 0 rfl ?_
      exact zg_aret ok fin (Or.inl ⟨_, rfl⟩) dJ2_append_76 ⟨Nat.le_of_ble_eq_true rfl, Nat.le_of_ble_eq_true rfl⟩ hE
set_option maxHeartbeats 8000000 in
theorem mt_J3_appendn {l : Launch} (hl : l.stackTraces = false) {Z : zw_Z} {a0 : Option Nat} {a1 : Int32} {h : zw_H} {Q : Option Nat → zw_H → Prop} {X : String → Nat → zw_H → Prop} (hE : f_J3_appendn Z.2.2.2 a0 a1 h Q X) : zw_Met l Z yJ3_append (ws_ yJ3_append cJ3_append 2 (Option.some (Jvm.ClassFile.FieldType.object "java/lang/StringBuilder"))) rm_J3_appendn [zA a0, zI a1] h (zq_A Q) X := by
  refine zg_startF (own := "java/lang/StringBuilder") (by decide +kernel) rfl (Nat.le_of_ble_eq_true rfl) hl (fun Xc ok tab fin hRm hXl hXZ => ?_)
  subst hXl
  subst hXZ
  unfold f_J3_appendn at hE
  refine zg_aload_n ok dJ3_append_0 rfl 0 rfl ?_
  refine zg_iload_n ok dJ3_append_1 rfl 1 rfl ?_
  refine zg_callSU (vs := [zI a1]) (rest := []) (rm := rm_J2_appendn) ok hRm lk_J3_50 dJ3_append_2 hE (fun hE => mt_J2_appendn hl hE) rfl (Nat.le_of_ble_eq_true rfl) ⟨⟨Nat.le_of_ble_eq_true rfl, Nat.le_of_ble_eq_true rfl⟩, Nat.le_of_ble_eq_true rfl, Nat.le_of_ble_eq_true rfl⟩ (zg_retA (fun v1 h1 hE => ?_)) (zg_xok ok tab fin ⟨Nat.le_of_ble_eq_true rfl, Nat.le_of_ble_eq_true rfl⟩)
  refine zg_cost (kc2 := 0) (ks2 := 0) ⟨rfl, rfl⟩ ?_
  refine zg_pop ok dJ3_append_5 (zw_rfc _) ?_
  refine zg_aload_n ok dJ3_append_6 rfl 0 rfl ?_
  exact zg_aret ok fin (Or.inl ⟨_, rfl⟩) dJ3_append_7 ⟨Nat.le_of_ble_eq_true rfl, Nat.le_of_ble_eq_true rfl⟩ hE
set_option maxHeartbeats 8000000 in
theorem mt_J2_getValue {l : Launch} (hl : l.stackTraces = false) {Z : zw_Z} {a0 : Option Nat} {h : zw_H} {Q : Option Nat → zw_H → Prop} {X : String → Nat → zw_H → Prop} (hE : f_J2_getValue Z.2.2.2 a0 h Q X) : zw_Met l Z yJ2_getValue (ws_ yJ2_getValue cJ2_getValue 1 (Option.some (Jvm.ClassFile.FieldType.array Jvm.ClassFile.FieldType.byte))) rm_J2_getValue [zA a0] h (zq_A Q) X := by
  refine zg_start (own := "java/lang/AbstractStringBuilder") (by decide +kernel) rfl (Nat.le_of_ble_eq_true rfl) hl (fun Xc ok tab fin hRm hXl hXZ => ?_)
  subst hXl
  subst hXZ
  unfold f_J2_getValue at hE
  refine zg_aload_n ok dJ2_getValue_0 rfl 0 rfl ?_
  refine zg_getA ok lf_J2_15 dJ2_getValue_1 hE (fun v1 hE => ?_)
  exact zg_aret ok fin (Or.inr ⟨_, rfl⟩) dJ2_getValue_4 ⟨Nat.le_of_ble_eq_true rfl, Nat.le_of_ble_eq_true rfl⟩ hE
set_option maxHeartbeats 8000000 in
theorem mt_J2_length {l : Launch} (hl : l.stackTraces = false) {Z : zw_Z} {a0 : Option Nat} {h : zw_H} {Q : Int32 → zw_H → Prop} {X : String → Nat → zw_H → Prop} (hE : f_J2_length Z.2.2.2 a0 h Q X) : zw_Met l Z yJ2_length (ws_ yJ2_length cJ2_length 1 (Option.some Jvm.ClassFile.FieldType.int)) rm_J2_length [zA a0] h (zq_I Q) X := by
  refine zg_start (own := "java/lang/AbstractStringBuilder") (by decide +kernel) rfl (Nat.le_of_ble_eq_true rfl) hl (fun Xc ok tab fin hRm hXl hXZ => ?_)
  subst hXl
  subst hXZ
  unfold f_J2_length at hE
  refine zg_aload_n ok dJ2_length_0 rfl 0 rfl ?_
  refine zg_getI ok lf_J2_79 dJ2_length_1 hE (fun v1 hE => ?_)
  exact zg_iret ok fin dJ2_length_4 ⟨Nat.le_of_ble_eq_true rfl, Nat.le_of_ble_eq_true rfl⟩ hE
set_option maxHeartbeats 8000000 in
theorem mt_J3_length {l : Launch} (hl : l.stackTraces = false) {Z : zw_Z} {a0 : Option Nat} {h : zw_H} {Q : Int32 → zw_H → Prop} {X : String → Nat → zw_H → Prop} (hE : f_J3_length Z.2.2.2 a0 h Q X) : zw_Met l Z yJ3_length (ws_ yJ3_length cJ3_length 1 (Option.some Jvm.ClassFile.FieldType.int)) rm_J3_length [zA a0] h (zq_I Q) X := by
  refine zg_startF (own := "java/lang/StringBuilder") (by decide +kernel) rfl (Nat.le_of_ble_eq_true rfl) hl (fun Xc ok tab fin hRm hXl hXZ => ?_)
  subst hXl
  subst hXZ
  unfold f_J3_length at hE
  refine zg_aload_n ok dJ3_length_0 rfl 0 rfl ?_
  refine zg_callSU (vs := []) (rest := []) (rm := rm_J2_length) ok hRm lk_J3_343 dJ3_length_1 hE (fun hE => mt_J2_length hl hE) rfl (Nat.le_of_ble_eq_true rfl) ⟨⟨Nat.le_of_ble_eq_true rfl, Nat.le_of_ble_eq_true rfl⟩, Nat.le_of_ble_eq_true rfl, Nat.le_of_ble_eq_true rfl⟩ (zg_retI (fun v1 h1 hE => ?_)) (zg_xok ok tab fin ⟨Nat.le_of_ble_eq_true rfl, Nat.le_of_ble_eq_true rfl⟩)
  refine zg_cost (kc2 := 0) (ks2 := 0) ⟨rfl, rfl⟩ ?_
  exact zg_iret ok fin dJ3_length_4 ⟨Nat.le_of_ble_eq_true rfl, Nat.le_of_ble_eq_true rfl⟩ hE
set_option maxHeartbeats 8000000 in
theorem gt_f_J20_stringSize_B16 {Xc : zw_X} {Q : Int32 → zw_H → Prop} {X : String → Nat → zw_H → Prop} (hl : (zw_l Xc).stackTraces = false) (ok : zw_ok Xc cJ20_stringSize "java/lang/Integer" yJ20_stringSize.name 4) (tab : zw_tab Xc []) (fin : zw_fin Xc (Option.some Jvm.ClassFile.FieldType.int) (zq_I Q) X 0 0) (hRm : zw_rm Xc = rm_J20_stringSize) {kc ks : Nat} (hb : kc ≤ 0 ∧ ks ≤ 0) {R : Int32 → Int32 → zw_H → Prop} {l0 : Int32} {l1 : Int32} (hR : ∀ (l2 : Int32) (l3 : Int32) (h : zw_H), R l2 l3 h → zw_G Xc kc ks 4 h 16 [(0, .int l0), (1, .int l1), (2, .int l2), (3, .int l3)] []) {k27 : Int32 → zw_H → Prop} (hk27 : ∀ (l3 : Int32) (h : zw_H), k27 l3 h → zw_G Xc kc ks 4 h 27 [(1, .int l1), (3, .int l3)] []) {k42 : zw_H → Prop} (hk42 : ∀  (h : zw_H), k42  h → zw_G Xc kc ks 4 h 42 [(1, .int l1)] [])  {l2 : Int32} {l3 : Int32} {h : zw_H} (hE : f_J20_stringSize_B16 (zw_Zf Xc).2.2.2 Q X k27 k42 l0 l1 R l2 l3 h) : zw_G Xc kc ks 4 h 16 [(0, .int l0), (1, .int l1), (2, .int l2), (3, .int l3)] [] := by
  unfold f_J20_stringSize_B16 at hE
  refine zg_iload_n ok dJ20_stringSize_16 rfl 3 rfl ?_
  refine zg_bipush (v := 10) ok dJ20_stringSize_17 (by decide) ?_
  refine zg_icmp_ge (tgt := 42) ok dJ20_stringSize_19 (by decide) hE (fun hE => ?_) (fun hE => ?_)
  · refine zg_sub (L' := [(1, .int l1)]) [1] rfl ?_
    exact hk42 _ hE
  · refine zg_iload_n ok dJ20_stringSize_22 rfl 0 rfl ?_
    refine zg_iload_n ok dJ20_stringSize_23 rfl 2 rfl ?_
    refine zg_icmp_le (tgt := 31) ok dJ20_stringSize_24 (by decide) hE (fun hE => ?_) (fun hE => ?_)
    · refine zg_bipush (v := 10) ok dJ20_stringSize_31 (by decide) ?_
      refine zg_iload_n ok dJ20_stringSize_33 rfl 2 rfl ?_
      refine zg_imul ok dJ20_stringSize_34 ?_
      refine zg_letI hE (fun v1 hE => ?_)
      refine zg_istore_n (L' := [(2, .int v1), (0, .int l0), (1, .int l1), (3, .int l3)]) ok dJ20_stringSize_35 rfl (by decide) rfl ?_
      refine zg_iincL (k := 3) (L' := fun v2 => [(3, .int v2), (2, .int v1), (0, .int l0), (1, .int l1)]) ok dJ20_stringSize_36 (by decide +kernel) hE rfl (by decide) (fun _ => rfl) (fun v2 hE => ?_)
      refine zg_goto (tgt := 16) ok dJ20_stringSize_39 (by decide) ?_
      refine zg_sub (L' := [(0, .int l0), (1, .int l1), (2, .int v1), (3, .int v2)]) [2, 3, 1, 0] rfl ?_
      exact hR _ _ _ hE
    · refine zg_sub (L' := [(1, .int l1), (3, .int l3)]) [1, 3] rfl ?_
      exact hk27 _ _ hE
theorem gt_f_J20_stringSize_L16 {Xc : zw_X} {Q : Int32 → zw_H → Prop} {X : String → Nat → zw_H → Prop} (hl : (zw_l Xc).stackTraces = false) (ok : zw_ok Xc cJ20_stringSize "java/lang/Integer" yJ20_stringSize.name 4) (tab : zw_tab Xc []) (fin : zw_fin Xc (Option.some Jvm.ClassFile.FieldType.int) (zq_I Q) X 0 0) (hRm : zw_rm Xc = rm_J20_stringSize) {kc ks : Nat} (hb : kc ≤ 0 ∧ ks ≤ 0) {l0 : Int32} {l1 : Int32} {k27 : Int32 → zw_H → Prop} (hk27 : ∀ (l3 : Int32) (h : zw_H), k27 l3 h → zw_G Xc kc ks 4 h 27 [(1, .int l1), (3, .int l3)] []) {k42 : zw_H → Prop} (hk42 : ∀  (h : zw_H), k42  h → zw_G Xc kc ks 4 h 42 [(1, .int l1)] [])  : ∀ (n9 : Nat) (l2 : Int32) (l3 : Int32) (h : zw_H), zl3 (f_J20_stringSize_B16 (zw_Zf Xc).2.2.2 Q X k27 k42 l0 l1) n9 l2 l3 h → zw_G Xc kc ks 4 h 16 [(0, .int l0), (1, .int l1), (2, .int l2), (3, .int l3)] [] := by
  intro n9
  induction n9 with
  | zero => intro l2 l3 h hE; exact hE.elim
  | succ n9 ih => intro l2 l3 h hE; exact gt_f_J20_stringSize_B16 hl ok tab fin hRm hb ih hk27 hk42 hE
set_option maxHeartbeats 8000000 in
theorem gt_f_J20_stringSize_J11 {Xc : zw_X} {Q : Int32 → zw_H → Prop} {X : String → Nat → zw_H → Prop} (hl : (zw_l Xc).stackTraces = false) (ok : zw_ok Xc cJ20_stringSize "java/lang/Integer" yJ20_stringSize.name 4) (tab : zw_tab Xc []) (fin : zw_fin Xc (Option.some Jvm.ClassFile.FieldType.int) (zq_I Q) X 0 0) (hRm : zw_rm Xc = rm_J20_stringSize)  {l0 : Int32} {l1 : Int32}  {h : zw_H} (hE : f_J20_stringSize_J11 (zw_Zf Xc).2.2.2 Q X  l0 l1 h) : zw_G Xc 0 0 4 h 11 [(0, .int l0), (1, .int l1)] [] := by
  unfold f_J20_stringSize_J11 at hE
  refine zg_bipush (v := (-10)) ok dJ20_stringSize_11 (by decide) ?_
  refine zg_istore_n (L' := [(2, .int (-10)), (0, .int l0), (1, .int l1)]) ok dJ20_stringSize_13 rfl (by decide) rfl ?_
  refine zg_iconst (v := 1) ok dJ20_stringSize_14 (by decide) ?_
  refine zg_istore_n (L' := [(3, .int 1), (2, .int (-10)), (0, .int l0), (1, .int l1)]) ok dJ20_stringSize_15 rfl (by decide) rfl ?_
  refine zg_sub (L' := [(0, .int l0), (1, .int l1), (2, .int (-10)), (3, .int 1)]) [2, 3, 1, 0] rfl ?_
  refine gt_f_J20_stringSize_L16 hl ok tab fin hRm ⟨Nat.le_of_ble_eq_true rfl, Nat.le_of_ble_eq_true rfl⟩ ?_ ?_ _ _ _ _ hE
  · intro v3 h1 hE
    refine zg_iload_n ok dJ20_stringSize_27 rfl 1 rfl ?_
    refine zg_iload_n ok dJ20_stringSize_28 rfl 0 rfl ?_
    refine zg_iadd ok dJ20_stringSize_29 ?_
    exact zg_iret ok fin dJ20_stringSize_30 ⟨Nat.le_of_ble_eq_true rfl, Nat.le_of_ble_eq_true rfl⟩ hE
  · intro h2 hE
    refine zg_bipush (v := 10) ok dJ20_stringSize_42 (by decide) ?_
    refine zg_iload_n ok dJ20_stringSize_44 rfl 0 rfl ?_
    refine zg_iadd ok dJ20_stringSize_45 ?_
    exact zg_iret ok fin dJ20_stringSize_46 ⟨Nat.le_of_ble_eq_true rfl, Nat.le_of_ble_eq_true rfl⟩ hE
set_option maxHeartbeats 8000000 in
theorem mt_J20_stringSize {l : Launch} (hl : l.stackTraces = false) {Z : zw_Z} {a0 : Int32} {h : zw_H} {Q : Int32 → zw_H → Prop} {X : String → Nat → zw_H → Prop} (hE : f_J20_stringSize Z.2.2.2 a0 h Q X) : zw_Met l Z yJ20_stringSize (ws_ yJ20_stringSize cJ20_stringSize 4 (Option.some Jvm.ClassFile.FieldType.int)) rm_J20_stringSize [zI a0] h (zq_I Q) X := by
  refine zg_startF (own := "java/lang/Integer") (by decide +kernel) rfl (Nat.le_of_ble_eq_true rfl) hl (fun Xc ok tab fin hRm hXl hXZ => ?_)
  subst hXl
  subst hXZ
  unfold f_J20_stringSize at hE
  refine zg_iconst (v := 1) ok dJ20_stringSize_0 (by decide) ?_
  refine zg_istore_n (L' := [(1, .int 1), (0, .int a0)]) ok dJ20_stringSize_1 rfl (by decide) rfl ?_
  refine zg_iload_n ok dJ20_stringSize_2 rfl 1 rfl ?_
  refine zg_if_lt (tgt := 11) ok dJ20_stringSize_3 (by decide) hE (fun hE => ?_) (fun hE => ?_)
  · refine zg_sub (L' := [(0, .int a0), (1, .int 1)]) [1, 0] rfl ?_
    exact gt_f_J20_stringSize_J11 hl ok tab fin hRm  hE
  · refine zg_iconst (v := 0) ok dJ20_stringSize_6 (by decide) ?_
    refine zg_istore_n (L' := [(1, .int 0), (0, .int a0)]) ok dJ20_stringSize_7 rfl (by decide) rfl ?_
    refine zg_iload_n ok dJ20_stringSize_8 rfl 1 rfl ?_
    refine zg_ineg ok dJ20_stringSize_9 ?_
    refine zg_letI hE (fun v4 hE => ?_)
    refine zg_istore_n (L' := [(0, .int v4), (1, .int 0)]) ok dJ20_stringSize_10 rfl (by decide) rfl ?_
    exact gt_f_J20_stringSize_J11 hl ok tab fin hRm  hE
set_option maxHeartbeats 8000000 in
theorem mt_J2_ensureCapacityInternal {l : Launch} (hl : l.stackTraces = false) {Z : zw_Z} {a0 : Option Nat} {a1 : Int32} {h : zw_H} {Q : zw_H → Prop} {X : String → Nat → zw_H → Prop} (hE : f_J2_ensureCapacityInternal Z.2.2.2 a0 a1 h Q X) : zw_Met l Z yJ2_ensureCapacityInternal (ws_ yJ2_ensureCapacityInternal cJ2_ensureCapacityInternal 3 (Option.none : Option Jvm.ClassFile.FieldType)) rm_J2_ensureCapacityInternal [zA a0, zI a1] h (zq_V Q) X := by
  refine zg_start (own := "java/lang/AbstractStringBuilder") (by decide +kernel) rfl (Nat.le_of_ble_eq_true rfl) hl (fun Xc ok tab fin hRm hXl hXZ => ?_)
  subst hXl
  subst hXZ
  unfold f_J2_ensureCapacityInternal at hE
  refine zg_aload_n ok dJ2_ensureCapacityInternal_0 rfl 0 rfl ?_
  refine zg_getA ok lf_J2_15 dJ2_ensureCapacityInternal_1 hE (fun v1 hE => ?_)
  refine zg_alen ok dJ2_ensureCapacityInternal_4 hE (fun v2 hE => ?_)
  refine zg_aload_n ok dJ2_ensureCapacityInternal_5 rfl 0 rfl ?_
  refine zg_getI ok lf_J2_22 dJ2_ensureCapacityInternal_6 hE (fun v3 hE => ?_)
  refine zg_ishr ok dJ2_ensureCapacityInternal_9 ?_
  refine zg_letI hE (fun v4 hE => ?_)
  refine zg_istore_n (L' := [(2, .int v4), (0, va_rf a0), (1, .int a1)]) ok dJ2_ensureCapacityInternal_10 rfl (by decide) rfl ?_
  refine zg_iload_n ok dJ2_ensureCapacityInternal_11 rfl 2 rfl ?_
  refine zg_iload_n ok dJ2_ensureCapacityInternal_12 rfl 0 rfl ?_
  refine zg_isub ok dJ2_ensureCapacityInternal_13 ?_
  refine zg_if_le (tgt := 38) ok dJ2_ensureCapacityInternal_14 (by decide) hE (fun hE => ?_) (fun hE => ?_)
  · exact zg_vret ok fin dJ2_ensureCapacityInternal_38 ⟨Nat.le_of_ble_eq_true rfl, Nat.le_of_ble_eq_true rfl⟩ hE
  · refine zg_aload_n ok dJ2_ensureCapacityInternal_17 rfl 1 rfl ?_
    refine zg_aload_n ok dJ2_ensureCapacityInternal_18 rfl 1 rfl ?_
    refine zg_getA ok lf_J2_15 dJ2_ensureCapacityInternal_19 hE (fun v5 hE => ?_)
    refine zg_aload_n ok dJ2_ensureCapacityInternal_22 rfl 1 rfl ?_
    refine zg_iload_n ok dJ2_ensureCapacityInternal_23 rfl 2 rfl ?_
    refine zg_callU (vs := [zI a1]) (rest := [va_rf v5, va_rf a0]) (rm := rm_J2_newCapacity) ok hRm lk_J2_104 dJ2_ensureCapacityInternal_24 hE (fun hE => mt_J2_newCapacity hl hE) rfl (Nat.le_of_ble_eq_true rfl) ⟨⟨Nat.le_of_ble_eq_true rfl, Nat.le_of_ble_eq_true rfl⟩, Nat.le_of_ble_eq_true rfl, Nat.le_of_ble_eq_true rfl⟩ (zg_retI (fun v6 h1 hE => ?_)) (zg_xok ok tab fin ⟨Nat.le_of_ble_eq_true rfl, Nat.le_of_ble_eq_true rfl⟩)
    refine zg_cost (kc2 := 0) (ks2 := 0) ⟨rfl, rfl⟩ ?_
    refine zg_aload_n ok dJ2_ensureCapacityInternal_27 rfl 1 rfl ?_
    refine zg_getI ok lf_J2_22 dJ2_ensureCapacityInternal_28 hE (fun v7 hE => ?_)
    refine zg_ishl ok dJ2_ensureCapacityInternal_31 ?_
    refine zg_callS (vs := [zA v5, zI (v6 <<< (v7 &&& 31))]) (rest := [va_rf a0]) (rm := rm_J15_copyOf) ok hRm lk_J2_108 dJ2_ensureCapacityInternal_32 hE (fun hE => mt_J15_copyOf hl hE) rfl (Nat.le_of_ble_eq_true rfl) ⟨⟨Nat.le_of_ble_eq_true rfl, Nat.le_of_ble_eq_true rfl⟩, Nat.le_of_ble_eq_true rfl, Nat.le_of_ble_eq_true rfl⟩ (zg_retA (fun v8 h2 hE => ?_)) (zg_xok ok tab fin ⟨Nat.le_of_ble_eq_true rfl, Nat.le_of_ble_eq_true rfl⟩)
    refine zg_cost (kc2 := 1) (ks2 := 576) ⟨rfl, rfl⟩ ?_
    refine zg_put (ty := (.array .byte)) ok lf_J2_15 (Or.inl rfl) (by decide) (by decide +kernel) (zw_nrA _ _) (zw_frA _ _) dJ2_ensureCapacityInternal_35 hE (fun h3 hE => ?_)
    exact zg_vret ok fin dJ2_ensureCapacityInternal_38 ⟨Nat.le_of_ble_eq_true rfl, Nat.le_of_ble_eq_true rfl⟩ hE
set_option maxHeartbeats 8000000 in
theorem gt_f_J20_getChars_B22 {Xc : zw_X} {Q : Int32 → zw_H → Prop} {X : String → Nat → zw_H → Prop} (hl : (zw_l Xc).stackTraces = false) (ok : zw_ok Xc cJ20_getChars "java/lang/Integer" yJ20_getChars.name 7) (tab : zw_tab Xc []) (fin : zw_fin Xc (Option.some Jvm.ClassFile.FieldType.int) (zq_I Q) X 0 0) (hRm : zw_rm Xc = rm_J20_getChars) {kc ks : Nat} (hb : kc ≤ 0 ∧ ks ≤ 0) {R : Int32 → Int32 → zw_H → Prop} {l2 : Option Nat} {l6 : Int32} (hR : ∀ (l0 : Int32) (l5 : Int32) (h : zw_H), R l0 l5 h → zw_G Xc kc ks 7 h 22 [(2, va_rf l2), (6, .int l6), (0, .int l0), (5, .int l5)] []) {k72 : Int32 → Int32 → zw_H → Prop} (hk72 : ∀ (l0 : Int32) (l5 : Int32) (h : zw_H), k72 l0 l5 h → zw_G Xc kc ks 7 h 72 [(0, .int l0), (2, va_rf l2), (5, .int l5), (6, .int l6)] [])  {l0 : Int32} {l5 : Int32} {h : zw_H} (hE : f_J20_getChars_B22 (zw_Zf Xc).2.2.2 Q X k72 l2 l6 R l0 l5 h) : zw_G Xc kc ks 7 h 22 [(2, va_rf l2), (6, .int l6), (0, .int l0), (5, .int l5)] [] := by
  unfold f_J20_getChars_B22 at hE
  refine zg_iload_n ok dJ20_getChars_22 rfl 2 rfl ?_
  refine zg_bipush (v := (-100)) ok dJ20_getChars_23 (by decide) ?_
  refine zg_icmp_gt (tgt := 72) ok dJ20_getChars_25 (by decide) hE (fun hE => ?_) (fun hE => ?_)
  · refine zg_sub (L' := [(0, .int l0), (2, va_rf l2), (5, .int l5), (6, .int l6)]) [2, 0, 3, 1] rfl ?_
    exact hk72 _ _ _ hE
  · refine zg_iload_n ok dJ20_getChars_28 rfl 2 rfl ?_
    refine zg_bipush (v := 100) ok dJ20_getChars_29 (by decide) ?_
    refine zg_idivE ok dJ20_getChars_31 hE (fun hE => ?_)
    refine zg_letI hE (fun v1 hE => ?_)
    refine zg_istore_nR (L' := [(3, .int v1), (2, va_rf l2), (6, .int l6), (0, .int l0), (5, .int l5)]) ok dJ20_getChars_32 rfl (by decide) 0 rfl rfl rfl ?_
    refine zg_iload_n ok dJ20_getChars_33 rfl 0 rfl ?_
    refine zg_bipush (v := 100) ok dJ20_getChars_34 (by decide) ?_
    refine zg_imul ok dJ20_getChars_36 ?_
    refine zg_iload_n ok dJ20_getChars_37 rfl 3 rfl ?_
    refine zg_isub ok dJ20_getChars_38 ?_
    refine zg_letI hE (fun v2 hE => ?_)
    refine zg_istore (L' := [(4, .int v2), (3, .int v1), (2, va_rf l2), (6, .int l6), (0, .int l0), (5, .int l5)]) ok dJ20_getChars_39 (by decide) rfl ?_
    refine zg_iload_n ok dJ20_getChars_41 rfl 1 rfl ?_
    refine zg_istore_n (L' := [(0, .int v1), (4, .int v2), (3, .int v1), (2, va_rf l2), (6, .int l6), (5, .int l5)]) ok dJ20_getChars_42 rfl (by decide) rfl ?_
    refine zg_aload_n ok dJ20_getChars_43 rfl 3 rfl ?_
    refine zg_iincL (k := 5) (L' := fun v3 => [(5, .int v3), (0, .int v1), (4, .int v2), (3, .int v1), (2, va_rf l2), (6, .int l6)]) ok dJ20_getChars_44 (by decide +kernel) hE rfl (by decide) (fun _ => rfl) (fun v3 hE => ?_)
    refine zg_iload ok dJ20_getChars_47 0 rfl ?_
    refine zg_getsA (C := "java/lang/Integer") (n := "DigitOnes") (d' := "[B") (k := 4) ok (List.mem_of_getElem? (i := 4) rfl) q674 dJ20_getChars_49 ?_
    refine zg_iload ok dJ20_getChars_52 2 rfl ?_
    refine zg_bald ok dJ20_getChars_54 hE (fun v4 hE => ?_)
    refine zg_bast ok dJ20_getChars_55 hE (fun h1 hE => ?_)
    refine zg_aload_n ok dJ20_getChars_56 rfl 4 rfl ?_
    refine zg_iincL (k := 0) (L' := fun v5 => [(5, .int v5), (0, .int v1), (4, .int v2), (3, .int v1), (2, va_rf l2), (6, .int l6)]) ok dJ20_getChars_57 (by decide +kernel) hE rfl (by decide) (fun _ => rfl) (fun v5 hE => ?_)
    refine zg_iload ok dJ20_getChars_60 0 rfl ?_
    refine zg_getsA (C := "java/lang/Integer") (n := "DigitTens") (d' := "[B") (k := 5) ok (List.mem_of_getElem? (i := 5) rfl) q676 dJ20_getChars_62 ?_
    refine zg_iload ok dJ20_getChars_65 2 rfl ?_
    refine zg_bald ok dJ20_getChars_67 hE (fun v6 hE => ?_)
    refine zg_bast ok dJ20_getChars_68 hE (fun h2 hE => ?_)
    refine zg_goto (tgt := 22) ok dJ20_getChars_69 (by decide) ?_
    refine zg_sub (L' := [(2, va_rf l2), (6, .int l6), (0, .int v1), (5, .int v5)]) [4, 5, 1, 0] rfl ?_
    exact hR _ _ _ hE
theorem gt_f_J20_getChars_L22 {Xc : zw_X} {Q : Int32 → zw_H → Prop} {X : String → Nat → zw_H → Prop} (hl : (zw_l Xc).stackTraces = false) (ok : zw_ok Xc cJ20_getChars "java/lang/Integer" yJ20_getChars.name 7) (tab : zw_tab Xc []) (fin : zw_fin Xc (Option.some Jvm.ClassFile.FieldType.int) (zq_I Q) X 0 0) (hRm : zw_rm Xc = rm_J20_getChars) {kc ks : Nat} (hb : kc ≤ 0 ∧ ks ≤ 0) {l2 : Option Nat} {l6 : Int32} {k72 : Int32 → Int32 → zw_H → Prop} (hk72 : ∀ (l0 : Int32) (l5 : Int32) (h : zw_H), k72 l0 l5 h → zw_G Xc kc ks 7 h 72 [(0, .int l0), (2, va_rf l2), (5, .int l5), (6, .int l6)] [])  : ∀ (n9 : Nat) (l0 : Int32) (l5 : Int32) (h : zw_H), zl3 (f_J20_getChars_B22 (zw_Zf Xc).2.2.2 Q X k72 l2 l6) n9 l0 l5 h → zw_G Xc kc ks 7 h 22 [(2, va_rf l2), (6, .int l6), (0, .int l0), (5, .int l5)] [] := by
  intro n9
  induction n9 with
  | zero => intro l0 l5 h hE; exact hE.elim
  | succ n9 ih => intro l0 l5 h hE; exact gt_f_J20_getChars_B22 hl ok tab fin hRm hb ih hk72 hE
set_option maxHeartbeats 8000000 in
theorem gt_f_J20_getChars_J104 {Xc : zw_X} {Q : Int32 → zw_H → Prop} {X : String → Nat → zw_H → Prop} (hl : (zw_l Xc).stackTraces = false) (ok : zw_ok Xc cJ20_getChars "java/lang/Integer" yJ20_getChars.name 7) (tab : zw_tab Xc []) (fin : zw_fin Xc (Option.some Jvm.ClassFile.FieldType.int) (zq_I Q) X 0 0) (hRm : zw_rm Xc = rm_J20_getChars)  {l2 : Option Nat} {l5 : Int32} {l6 : Int32}  {h : zw_H} (hE : f_J20_getChars_J104 (zw_Zf Xc).2.2.2 Q X  l2 l5 l6 h) : zw_G Xc 0 0 7 h 104 [(2, va_rf l2), (5, .int l5), (6, .int l6)] [] := by
  unfold f_J20_getChars_J104 at hE
  refine zg_iload ok dJ20_getChars_104 2 rfl ?_
  refine zg_if_eq (tgt := 118) ok dJ20_getChars_106 (by decide) hE (fun hE => ?_) (fun hE => ?_)
  · refine zg_iload ok dJ20_getChars_118 1 rfl ?_
    exact zg_iret ok fin dJ20_getChars_120 ⟨Nat.le_of_ble_eq_true rfl, Nat.le_of_ble_eq_true rfl⟩ hE
  · refine zg_aload_n ok dJ20_getChars_109 rfl 0 rfl ?_
    refine zg_iincL (k := 1) (L' := fun v11 => [(5, .int v11), (2, va_rf l2), (6, .int l6)]) ok dJ20_getChars_110 (by decide +kernel) hE rfl (by decide) (fun _ => rfl) (fun v11 hE => ?_)
    refine zg_iload ok dJ20_getChars_113 0 rfl ?_
    refine zg_bipush (v := 45) ok dJ20_getChars_115 (by decide) ?_
    refine zg_bast ok dJ20_getChars_117 hE (fun h5 hE => ?_)
    refine zg_iload ok dJ20_getChars_118 0 rfl ?_
    exact zg_iret ok fin dJ20_getChars_120 ⟨Nat.le_of_ble_eq_true rfl, Nat.le_of_ble_eq_true rfl⟩ hE
set_option maxHeartbeats 8000000 in
theorem gt_f_J20_getChars_J22 {Xc : zw_X} {Q : Int32 → zw_H → Prop} {X : String → Nat → zw_H → Prop} (hl : (zw_l Xc).stackTraces = false) (ok : zw_ok Xc cJ20_getChars "java/lang/Integer" yJ20_getChars.name 7) (tab : zw_tab Xc []) (fin : zw_fin Xc (Option.some Jvm.ClassFile.FieldType.int) (zq_I Q) X 0 0) (hRm : zw_rm Xc = rm_J20_getChars)  {l0 : Int32} {l2 : Option Nat} {l5 : Int32} {l6 : Int32}  {h : zw_H} (hE : f_J20_getChars_J22 (zw_Zf Xc).2.2.2 Q X  l0 l2 l5 l6 h) : zw_G Xc 0 0 7 h 22 [(0, .int l0), (2, va_rf l2), (5, .int l5), (6, .int l6)] [] := by
  unfold f_J20_getChars_J22 at hE
  refine zg_sub (L' := [(2, va_rf l2), (6, .int l6), (0, .int l0), (5, .int l5)]) [1, 3, 0, 2] rfl ?_
  refine gt_f_J20_getChars_L22 hl ok tab fin hRm ⟨Nat.le_of_ble_eq_true rfl, Nat.le_of_ble_eq_true rfl⟩ ?_ _ _ _ _ hE
  · intro v7 v8 h3 hE
    refine zg_aload_n ok dJ20_getChars_72 rfl 1 rfl ?_
    refine zg_iincL (k := 2) (L' := fun v9 => [(5, .int v9), (0, .int v7), (2, va_rf l2), (6, .int l6)]) ok dJ20_getChars_73 (by decide +kernel) hE rfl (by decide) (fun _ => rfl) (fun v9 hE => ?_)
    refine zg_iload ok dJ20_getChars_76 0 rfl ?_
    refine zg_getsA (C := "java/lang/Integer") (n := "DigitOnes") (d' := "[B") (k := 4) ok (List.mem_of_getElem? (i := 4) rfl) q674 dJ20_getChars_78 ?_
    refine zg_iload_n ok dJ20_getChars_81 rfl 1 rfl ?_
    refine zg_ineg ok dJ20_getChars_82 ?_
    refine zg_bald ok dJ20_getChars_83 hE (fun v10 hE => ?_)
    refine zg_bast ok dJ20_getChars_84 hE (fun h4 hE => ?_)
    refine zg_iload_n ok dJ20_getChars_85 rfl 1 rfl ?_
    refine zg_bipush (v := (-9)) ok dJ20_getChars_86 (by decide) ?_
    refine zg_icmp_ge (tgt := 104) ok dJ20_getChars_88 (by decide) hE (fun hE => ?_) (fun hE => ?_)
    · refine zg_sub (L' := [(2, va_rf l2), (5, .int v9), (6, .int l6)]) [2, 0, 3] rfl ?_
      exact gt_f_J20_getChars_J104 hl ok tab fin hRm  hE
    · refine zg_aload_n ok dJ20_getChars_91 rfl 2 rfl ?_
      refine zg_iincL (k := 0) (L' := fun v12 => [(5, .int v12), (0, .int v7), (2, va_rf l2), (6, .int l6)]) ok dJ20_getChars_92 (by decide +kernel) hE rfl (by decide) (fun _ => rfl) (fun v12 hE => ?_)
      refine zg_iload ok dJ20_getChars_95 0 rfl ?_
      refine zg_getsA (C := "java/lang/Integer") (n := "DigitTens") (d' := "[B") (k := 5) ok (List.mem_of_getElem? (i := 5) rfl) q676 dJ20_getChars_97 ?_
      refine zg_iload_n ok dJ20_getChars_100 rfl 1 rfl ?_
      refine zg_ineg ok dJ20_getChars_101 ?_
      refine zg_bald ok dJ20_getChars_102 hE (fun v13 hE => ?_)
      refine zg_bast ok dJ20_getChars_103 hE (fun h6 hE => ?_)
      refine zg_sub (L' := [(2, va_rf l2), (5, .int v12), (6, .int l6)]) [2, 0, 3] rfl ?_
      exact gt_f_J20_getChars_J104 hl ok tab fin hRm  hE
set_option maxHeartbeats 8000000 in
theorem gt_f_J20_getChars_J12 {Xc : zw_X} {Q : Int32 → zw_H → Prop} {X : String → Nat → zw_H → Prop} (hl : (zw_l Xc).stackTraces = false) (ok : zw_ok Xc cJ20_getChars "java/lang/Integer" yJ20_getChars.name 7) (tab : zw_tab Xc []) (fin : zw_fin Xc (Option.some Jvm.ClassFile.FieldType.int) (zq_I Q) X 0 0) (hRm : zw_rm Xc = rm_J20_getChars)  {l0 : Int32} {l2 : Option Nat} {l5 : Int32} {s0 : Int32} {h : zw_H} (hE : f_J20_getChars_J12 (zw_Zf Xc).2.2.2 Q X  l0 l2 l5 s0 h) : zw_G Xc 0 0 7 h 12 [(0, .int l0), (2, va_rf l2), (5, .int l5)] [.int s0] := by
  unfold f_J20_getChars_J12 at hE
  refine zg_istore (L' := [(6, .int s0), (0, .int l0), (2, va_rf l2), (5, .int l5)]) ok dJ20_getChars_12 (by decide) rfl ?_
  refine zg_iload ok dJ20_getChars_14 0 rfl ?_
  refine zg_if_ne (tgt := 22) ok dJ20_getChars_16 (by decide) hE (fun hE => ?_) (fun hE => ?_)
  · refine zg_sub (L' := [(0, .int l0), (2, va_rf l2), (5, .int l5), (6, .int s0)]) [1, 2, 3, 0] rfl ?_
    exact gt_f_J20_getChars_J22 hl ok tab fin hRm  hE
  · refine zg_iload_n ok dJ20_getChars_19 rfl 1 rfl ?_
    refine zg_ineg ok dJ20_getChars_20 ?_
    refine zg_letI hE (fun v14 hE => ?_)
    refine zg_istore_n (L' := [(0, .int v14), (6, .int s0), (2, va_rf l2), (5, .int l5)]) ok dJ20_getChars_21 rfl (by decide) rfl ?_
    refine zg_sub (L' := [(0, .int v14), (2, va_rf l2), (5, .int l5), (6, .int s0)]) [0, 2, 3, 1] rfl ?_
    exact gt_f_J20_getChars_J22 hl ok tab fin hRm  hE
set_option maxHeartbeats 8000000 in
theorem mt_J20_getChars {l : Launch} (hl : l.stackTraces = false) {Z : zw_Z} {a0 : Int32} {a1 : Int32} {a2 : Option Nat} {h : zw_H} {Q : Int32 → zw_H → Prop} {X : String → Nat → zw_H → Prop} (hE : f_J20_getChars Z.2.2.2 a0 a1 a2 h Q X) : zw_Met l Z yJ20_getChars (ws_ yJ20_getChars cJ20_getChars 7 (Option.some Jvm.ClassFile.FieldType.int)) rm_J20_getChars [zI a0, zI a1, zA a2] h (zq_I Q) X := by
  refine zg_startF (own := "java/lang/Integer") (by decide +kernel) rfl (Nat.le_of_ble_eq_true rfl) hl (fun Xc ok tab fin hRm hXl hXZ => ?_)
  subst hXl
  subst hXZ
  unfold f_J20_getChars at hE
  refine zg_iload_n ok dJ20_getChars_0 rfl 1 rfl ?_
  refine zg_istore (L' := [(5, .int a1), (0, .int a0), (1, .int a1), (2, va_rf a2)]) ok dJ20_getChars_1 (by decide) rfl ?_
  refine zg_iload_n ok dJ20_getChars_3 rfl 1 rfl ?_
  refine zg_if_ge (tgt := 11) ok dJ20_getChars_4 (by decide) hE (fun hE => ?_) (fun hE => ?_)
  · refine zg_iconst (v := 0) ok dJ20_getChars_11 (by decide) ?_
    refine zg_sub (L' := [(0, .int a0), (2, va_rf a2), (5, .int a1)]) [1, 3, 0] rfl ?_
    exact gt_f_J20_getChars_J12 hl ok tab fin hRm  hE
  · refine zg_iconst (v := 1) ok dJ20_getChars_7 (by decide) ?_
    refine zg_goto (tgt := 12) ok dJ20_getChars_8 (by decide) ?_
    refine zg_sub (L' := [(0, .int a0), (2, va_rf a2), (5, .int a1)]) [1, 3, 0] rfl ?_
    exact gt_f_J20_getChars_J12 hl ok tab fin hRm  hE
set_option maxHeartbeats 8000000 in
theorem mt_J17_checkFromToIndex {l : Launch} (hl : l.stackTraces = false) {Z : zw_Z} {a0 : Int32} {a1 : Int32} {a2 : Int32} {a3 : Option Nat} {h : zw_H} {Q : Int32 → zw_H → Prop} {X : String → Nat → zw_H → Prop} (hE : f_J17_checkFromToIndex Z.2.2.2 a0 a1 a2 a3 h Q X) : zw_Met l Z yJ17_checkFromToIndex (ws_ yJ17_checkFromToIndex cJ17_checkFromToIndex 4 (Option.some Jvm.ClassFile.FieldType.int)) rm_J17_checkFromToIndex [zI a0, zI a1, zI a2, zA a3] h (zq_I Q) X := by
  refine zg_start (own := "jdk/internal/util/Preconditions") (by decide +kernel) rfl (Nat.le_of_ble_eq_true rfl) hl (fun Xc ok tab fin hRm hXl hXZ => ?_)
  subst hXl
  subst hXZ
  unfold f_J17_checkFromToIndex at hE
  refine zg_iload_n ok dJ17_checkFromToIndex_0 rfl 0 rfl ?_
  refine zg_if_lt (tgt := 14) ok dJ17_checkFromToIndex_1 (by decide) hE (fun hE => ?_) (fun hE => ?_)
  · exact hE.elim
  · refine zg_iload_n ok dJ17_checkFromToIndex_4 rfl 0 rfl ?_
    refine zg_iload_n ok dJ17_checkFromToIndex_5 rfl 1 rfl ?_
    refine zg_icmp_gt (tgt := 14) ok dJ17_checkFromToIndex_6 (by decide) hE (fun hE => ?_) (fun hE => ?_)
    · exact hE.elim
    · refine zg_iload_n ok dJ17_checkFromToIndex_9 rfl 1 rfl ?_
      refine zg_iload_n ok dJ17_checkFromToIndex_10 rfl 2 rfl ?_
      refine zg_icmp_le (tgt := 22) ok dJ17_checkFromToIndex_11 (by decide) hE (fun hE => ?_) (fun hE => ?_)
      · refine zg_iload_n ok dJ17_checkFromToIndex_22 rfl 0 rfl ?_
        exact zg_iret ok fin dJ17_checkFromToIndex_23 ⟨Nat.le_of_ble_eq_true rfl, Nat.le_of_ble_eq_true rfl⟩ hE
      · exact hE.elim
set_option maxHeartbeats 8000000 in
theorem mt_J4_checkBoundsBeginEnd {l : Launch} (hl : l.stackTraces = false) {Z : zw_Z} {a0 : Int32} {a1 : Int32} {a2 : Int32} {h : zw_H} {Q : zw_H → Prop} {X : String → Nat → zw_H → Prop} (hE : f_J4_checkBoundsBeginEnd Z.2.2.2 a0 a1 a2 h Q X) : zw_Met l Z yJ4_checkBoundsBeginEnd (ws_ yJ4_checkBoundsBeginEnd cJ4_checkBoundsBeginEnd 3 (Option.none : Option Jvm.ClassFile.FieldType)) rm_J4_checkBoundsBeginEnd [zI a0, zI a1, zI a2] h (zq_V Q) X := by
  refine zg_startF (own := "java/lang/String") (by decide +kernel) rfl (Nat.le_of_ble_eq_true rfl) hl (fun Xc ok tab fin hRm hXl hXZ => ?_)
  subst hXl
  subst hXZ
  unfold f_J4_checkBoundsBeginEnd at hE
  refine zg_iload_n ok dJ4_checkBoundsBeginEnd_0 rfl 0 rfl ?_
  refine zg_iload_n ok dJ4_checkBoundsBeginEnd_1 rfl 1 rfl ?_
  refine zg_iload_n ok dJ4_checkBoundsBeginEnd_2 rfl 2 rfl ?_
  refine zg_getsA (C := "jdk/internal/util/Preconditions") (n := "SIOOBE_FORMATTER") (d' := "Ljava/util/function/BiFunction;") (k := 3) ok (List.mem_of_getElem? (i := 3) rfl) q589 dJ4_checkBoundsBeginEnd_3 ?_
  refine zg_callS (vs := [zI a0, zI a1, zI a2, zA ((zw_Zf Xc).2.2.2 3)]) (rest := []) (rm := rm_J17_checkFromToIndex) ok hRm lk_J4_1062 dJ4_checkBoundsBeginEnd_6 hE (fun hE => mt_J17_checkFromToIndex hl hE) rfl (Nat.le_of_ble_eq_true rfl) ⟨⟨Nat.le_of_ble_eq_true rfl, Nat.le_of_ble_eq_true rfl⟩, Nat.le_of_ble_eq_true rfl, Nat.le_of_ble_eq_true rfl⟩ (zg_retI (fun v1 h1 hE => ?_)) (zg_xok ok tab fin ⟨Nat.le_of_ble_eq_true rfl, Nat.le_of_ble_eq_true rfl⟩)
  refine zg_cost (kc2 := 0) (ks2 := 0) ⟨rfl, rfl⟩ ?_
  refine zg_pop ok dJ4_checkBoundsBeginEnd_9 rfl ?_
  exact zg_vret ok fin dJ4_checkBoundsBeginEnd_10 ⟨Nat.le_of_ble_eq_true rfl, Nat.le_of_ble_eq_true rfl⟩ hE
set_option maxHeartbeats 8000000 in
theorem mt_J5_checkBoundsBeginEnd {l : Launch} (hl : l.stackTraces = false) {Z : zw_Z} {a0 : Int32} {a1 : Int32} {a2 : Option Nat} {h : zw_H} {Q : zw_H → Prop} {X : String → Nat → zw_H → Prop} (hE : f_J5_checkBoundsBeginEnd Z.2.2.2 a0 a1 a2 h Q X) : zw_Met l Z yJ5_checkBoundsBeginEnd (ws_ yJ5_checkBoundsBeginEnd cJ5_checkBoundsBeginEnd 3 (Option.none : Option Jvm.ClassFile.FieldType)) rm_J5_checkBoundsBeginEnd [zI a0, zI a1, zA a2] h (zq_V Q) X := by
  refine zg_start (own := "java/lang/StringUTF16") (by decide +kernel) rfl (Nat.le_of_ble_eq_true rfl) hl (fun Xc ok tab fin hRm hXl hXZ => ?_)
  subst hXl
  subst hXZ
  unfold f_J5_checkBoundsBeginEnd at hE
  refine zg_iload_n ok dJ5_checkBoundsBeginEnd_0 rfl 0 rfl ?_
  refine zg_iload_n ok dJ5_checkBoundsBeginEnd_1 rfl 1 rfl ?_
  refine zg_aload_n ok dJ5_checkBoundsBeginEnd_2 rfl 2 rfl ?_
  refine zg_callS (vs := [zA a2]) (rest := [.int a1, .int a0]) (rm := rm_J5_length) ok hRm lk_J5_48 dJ5_checkBoundsBeginEnd_3 hE (fun hE => mt_J5_length hl hE) rfl (Nat.le_of_ble_eq_true rfl) ⟨⟨Nat.le_of_ble_eq_true rfl, Nat.le_of_ble_eq_true rfl⟩, Nat.le_of_ble_eq_true rfl, Nat.le_of_ble_eq_true rfl⟩ (zg_retI (fun v1 h1 hE => ?_)) (zg_xok ok tab fin ⟨Nat.le_of_ble_eq_true rfl, Nat.le_of_ble_eq_true rfl⟩)
  refine zg_cost (kc2 := 0) (ks2 := 0) ⟨rfl, rfl⟩ ?_
  refine zg_callS (vs := [zI a0, zI a1, zI v1]) (rest := []) (rm := rm_J4_checkBoundsBeginEnd) ok hRm lk_J5_241 dJ5_checkBoundsBeginEnd_6 hE (fun hE => mt_J4_checkBoundsBeginEnd hl hE) rfl (Nat.le_of_ble_eq_true rfl) ⟨⟨Nat.le_of_ble_eq_true rfl, Nat.le_of_ble_eq_true rfl⟩, Nat.le_of_ble_eq_true rfl, Nat.le_of_ble_eq_true rfl⟩ (zg_retV (fun h2 hE => ?_)) (zg_xok ok tab fin ⟨Nat.le_of_ble_eq_true rfl, Nat.le_of_ble_eq_true rfl⟩)
  refine zg_cost (kc2 := 0) (ks2 := 0) ⟨rfl, rfl⟩ ?_
  exact zg_vret ok fin dJ5_checkBoundsBeginEnd_9 ⟨Nat.le_of_ble_eq_true rfl, Nat.le_of_ble_eq_true rfl⟩ hE
set_option maxHeartbeats 8000000 in
theorem gt_f_J5_getChars_2_B22 {Xc : zw_X} {Q : Int32 → zw_H → Prop} {X : String → Nat → zw_H → Prop} (hl : (zw_l Xc).stackTraces = false) (ok : zw_ok Xc cJ5_getChars_2 "java/lang/StringUTF16" yJ5_getChars_2.name 7) (tab : zw_tab Xc []) (fin : zw_fin Xc (Option.some Jvm.ClassFile.FieldType.int) (zq_I Q) X 0 0) (hRm : zw_rm Xc = rm_J5_getChars_2) {kc ks : Nat} (hb : kc ≤ 0 ∧ ks ≤ 0) {R : Int32 → Int32 → zw_H → Prop} {l2 : Option Nat} {l6 : Int32} (hR : ∀ (l0 : Int32) (l5 : Int32) (h : zw_H), R l0 l5 h → zw_G Xc kc ks 7 h 22 [(2, va_rf l2), (6, .int l6), (0, .int l0), (5, .int l5)] []) {k76 : Int32 → Int32 → zw_H → Prop} (hk76 : ∀ (l0 : Int32) (l5 : Int32) (h : zw_H), k76 l0 l5 h → zw_G Xc kc ks 7 h 76 [(0, .int l0), (2, va_rf l2), (5, .int l5), (6, .int l6)] [])  {l0 : Int32} {l5 : Int32} {h : zw_H} (hE : f_J5_getChars_2_B22 (zw_Zf Xc).2.2.2 Q X k76 l2 l6 R l0 l5 h) : zw_G Xc kc ks 7 h 22 [(2, va_rf l2), (6, .int l6), (0, .int l0), (5, .int l5)] [] := by
  unfold f_J5_getChars_2_B22 at hE
  refine zg_iload_n ok dJ5_getChars_2_22 rfl 2 rfl ?_
  refine zg_bipush (v := (-100)) ok dJ5_getChars_2_23 (by decide) ?_
  refine zg_icmp_gt (tgt := 76) ok dJ5_getChars_2_25 (by decide) hE (fun hE => ?_) (fun hE => ?_)
  · refine zg_sub (L' := [(0, .int l0), (2, va_rf l2), (5, .int l5), (6, .int l6)]) [2, 0, 3, 1] rfl ?_
    exact hk76 _ _ _ hE
  · refine zg_iload_n ok dJ5_getChars_2_28 rfl 2 rfl ?_
    refine zg_bipush (v := 100) ok dJ5_getChars_2_29 (by decide) ?_
    refine zg_idivE ok dJ5_getChars_2_31 hE (fun hE => ?_)
    refine zg_letI hE (fun v1 hE => ?_)
    refine zg_istore_nR (L' := [(3, .int v1), (2, va_rf l2), (6, .int l6), (0, .int l0), (5, .int l5)]) ok dJ5_getChars_2_32 rfl (by decide) 0 rfl rfl rfl ?_
    refine zg_iload_n ok dJ5_getChars_2_33 rfl 0 rfl ?_
    refine zg_bipush (v := 100) ok dJ5_getChars_2_34 (by decide) ?_
    refine zg_imul ok dJ5_getChars_2_36 ?_
    refine zg_iload_n ok dJ5_getChars_2_37 rfl 3 rfl ?_
    refine zg_isub ok dJ5_getChars_2_38 ?_
    refine zg_letI hE (fun v2 hE => ?_)
    refine zg_istore (L' := [(4, .int v2), (3, .int v1), (2, va_rf l2), (6, .int l6), (0, .int l0), (5, .int l5)]) ok dJ5_getChars_2_39 (by decide) rfl ?_
    refine zg_iload_n ok dJ5_getChars_2_41 rfl 1 rfl ?_
    refine zg_istore_n (L' := [(0, .int v1), (4, .int v2), (3, .int v1), (2, va_rf l2), (6, .int l6), (5, .int l5)]) ok dJ5_getChars_2_42 rfl (by decide) rfl ?_
    refine zg_aload_n ok dJ5_getChars_2_43 rfl 3 rfl ?_
    refine zg_iincL (k := 5) (L' := fun v3 => [(5, .int v3), (0, .int v1), (4, .int v2), (3, .int v1), (2, va_rf l2), (6, .int l6)]) ok dJ5_getChars_2_44 (by decide +kernel) hE rfl (by decide) (fun _ => rfl) (fun v3 hE => ?_)
    refine zg_iload ok dJ5_getChars_2_47 0 rfl ?_
    refine zg_getsA (C := "java/lang/Integer") (n := "DigitOnes") (d' := "[B") (k := 4) ok (List.mem_of_getElem? (i := 4) rfl) q693 dJ5_getChars_2_49 ?_
    refine zg_iload ok dJ5_getChars_2_52 2 rfl ?_
    refine zg_bald ok dJ5_getChars_2_54 hE (fun v4 hE => ?_)
    refine zg_callS (vs := [zA l2, zI v3, zI v4]) (rest := []) (rm := rm_J5_putChar) ok hRm lk_J5_111 dJ5_getChars_2_55 hE (fun hE => mt_J5_putChar hl hE) rfl (Nat.le_of_ble_eq_true rfl) ⟨⟨Nat.le_of_ble_eq_true rfl, Nat.le_of_ble_eq_true rfl⟩, (by show kc + 0 ≤ 0; omega), (by show ks + 0 ≤ 0; omega)⟩ (zg_retV (fun h1 hE => ?_)) (zg_xok ok tab fin ⟨(by show kc + 0 ≤ 0; omega), (by show ks + 0 ≤ 0; omega)⟩)
    refine zg_cost (kc2 := kc) (ks2 := ks) ⟨(by show kc + 0 = kc; omega), (by show ks + 0 = ks; omega)⟩ ?_
    refine zg_aload_n ok dJ5_getChars_2_58 rfl 4 rfl ?_
    refine zg_iincL (k := 0) (L' := fun v5 => [(5, .int v5), (0, .int v1), (4, .int v2), (3, .int v1), (2, va_rf l2), (6, .int l6)]) ok dJ5_getChars_2_59 (by decide +kernel) hE rfl (by decide) (fun _ => rfl) (fun v5 hE => ?_)
    refine zg_iload ok dJ5_getChars_2_62 0 rfl ?_
    refine zg_getsA (C := "java/lang/Integer") (n := "DigitTens") (d' := "[B") (k := 5) ok (List.mem_of_getElem? (i := 5) rfl) q694 dJ5_getChars_2_64 ?_
    refine zg_iload ok dJ5_getChars_2_67 2 rfl ?_
    refine zg_bald ok dJ5_getChars_2_69 hE (fun v6 hE => ?_)
    refine zg_callS (vs := [zA l2, zI v5, zI v6]) (rest := []) (rm := rm_J5_putChar) ok hRm lk_J5_111 dJ5_getChars_2_70 hE (fun hE => mt_J5_putChar hl hE) rfl (Nat.le_of_ble_eq_true rfl) ⟨⟨Nat.le_of_ble_eq_true rfl, Nat.le_of_ble_eq_true rfl⟩, (by show kc + 0 ≤ 0; omega), (by show ks + 0 ≤ 0; omega)⟩ (zg_retV (fun h2 hE => ?_)) (zg_xok ok tab fin ⟨(by show kc + 0 ≤ 0; omega), (by show ks + 0 ≤ 0; omega)⟩)
    refine zg_cost (kc2 := kc) (ks2 := ks) ⟨(by show kc + 0 = kc; omega), (by show ks + 0 = ks; omega)⟩ ?_
    refine zg_goto (tgt := 22) ok dJ5_getChars_2_73 (by decide) ?_
    refine zg_sub (L' := [(2, va_rf l2), (6, .int l6), (0, .int v1), (5, .int v5)]) [4, 5, 1, 0] rfl ?_
    exact hR _ _ _ hE
theorem gt_f_J5_getChars_2_L22 {Xc : zw_X} {Q : Int32 → zw_H → Prop} {X : String → Nat → zw_H → Prop} (hl : (zw_l Xc).stackTraces = false) (ok : zw_ok Xc cJ5_getChars_2 "java/lang/StringUTF16" yJ5_getChars_2.name 7) (tab : zw_tab Xc []) (fin : zw_fin Xc (Option.some Jvm.ClassFile.FieldType.int) (zq_I Q) X 0 0) (hRm : zw_rm Xc = rm_J5_getChars_2) {kc ks : Nat} (hb : kc ≤ 0 ∧ ks ≤ 0) {l2 : Option Nat} {l6 : Int32} {k76 : Int32 → Int32 → zw_H → Prop} (hk76 : ∀ (l0 : Int32) (l5 : Int32) (h : zw_H), k76 l0 l5 h → zw_G Xc kc ks 7 h 76 [(0, .int l0), (2, va_rf l2), (5, .int l5), (6, .int l6)] [])  : ∀ (n9 : Nat) (l0 : Int32) (l5 : Int32) (h : zw_H), zl3 (f_J5_getChars_2_B22 (zw_Zf Xc).2.2.2 Q X k76 l2 l6) n9 l0 l5 h → zw_G Xc kc ks 7 h 22 [(2, va_rf l2), (6, .int l6), (0, .int l0), (5, .int l5)] [] := by
  intro n9
  induction n9 with
  | zero => intro l0 l5 h hE; exact hE.elim
  | succ n9 ih => intro l0 l5 h hE; exact gt_f_J5_getChars_2_B22 hl ok tab fin hRm hb ih hk76 hE
set_option maxHeartbeats 8000000 in
theorem gt_f_J5_getChars_2_J112 {Xc : zw_X} {Q : Int32 → zw_H → Prop} {X : String → Nat → zw_H → Prop} (hl : (zw_l Xc).stackTraces = false) (ok : zw_ok Xc cJ5_getChars_2 "java/lang/StringUTF16" yJ5_getChars_2.name 7) (tab : zw_tab Xc []) (fin : zw_fin Xc (Option.some Jvm.ClassFile.FieldType.int) (zq_I Q) X 0 0) (hRm : zw_rm Xc = rm_J5_getChars_2)  {l2 : Option Nat} {l5 : Int32} {l6 : Int32}  {h : zw_H} (hE : f_J5_getChars_2_J112 (zw_Zf Xc).2.2.2 Q X  l2 l5 l6 h) : zw_G Xc 0 0 7 h 112 [(2, va_rf l2), (5, .int l5), (6, .int l6)] [] := by
  unfold f_J5_getChars_2_J112 at hE
  refine zg_iload ok dJ5_getChars_2_112 2 rfl ?_
  refine zg_if_eq (tgt := 128) ok dJ5_getChars_2_114 (by decide) hE (fun hE => ?_) (fun hE => ?_)
  · refine zg_iload ok dJ5_getChars_2_128 1 rfl ?_
    exact zg_iret ok fin dJ5_getChars_2_130 ⟨Nat.le_of_ble_eq_true rfl, Nat.le_of_ble_eq_true rfl⟩ hE
  · refine zg_aload_n ok dJ5_getChars_2_117 rfl 0 rfl ?_
    refine zg_iincL (k := 1) (L' := fun v11 => [(5, .int v11), (2, va_rf l2), (6, .int l6)]) ok dJ5_getChars_2_118 (by decide +kernel) hE rfl (by decide) (fun _ => rfl) (fun v11 hE => ?_)
    refine zg_iload ok dJ5_getChars_2_121 0 rfl ?_
    refine zg_bipush (v := 45) ok dJ5_getChars_2_123 (by decide) ?_
    refine zg_callS (vs := [zA l2, zI v11, zI 45]) (rest := []) (rm := rm_J5_putChar) ok hRm lk_J5_111 dJ5_getChars_2_125 hE (fun hE => mt_J5_putChar hl hE) rfl (Nat.le_of_ble_eq_true rfl) ⟨⟨Nat.le_of_ble_eq_true rfl, Nat.le_of_ble_eq_true rfl⟩, Nat.le_of_ble_eq_true rfl, Nat.le_of_ble_eq_true rfl⟩ (zg_retV (fun h5 hE => ?_)) (zg_xok ok tab fin ⟨Nat.le_of_ble_eq_true rfl, Nat.le_of_ble_eq_true rfl⟩)
    refine zg_cost (kc2 := 0) (ks2 := 0) ⟨rfl, rfl⟩ ?_
    refine zg_iload ok dJ5_getChars_2_128 0 rfl ?_
    exact zg_iret ok fin dJ5_getChars_2_130 ⟨Nat.le_of_ble_eq_true rfl, Nat.le_of_ble_eq_true rfl⟩ hE
set_option maxHeartbeats 8000000 in
theorem gt_f_J5_getChars_2_J22 {Xc : zw_X} {Q : Int32 → zw_H → Prop} {X : String → Nat → zw_H → Prop} (hl : (zw_l Xc).stackTraces = false) (ok : zw_ok Xc cJ5_getChars_2 "java/lang/StringUTF16" yJ5_getChars_2.name 7) (tab : zw_tab Xc []) (fin : zw_fin Xc (Option.some Jvm.ClassFile.FieldType.int) (zq_I Q) X 0 0) (hRm : zw_rm Xc = rm_J5_getChars_2)  {l0 : Int32} {l2 : Option Nat} {l5 : Int32} {l6 : Int32}  {h : zw_H} (hE : f_J5_getChars_2_J22 (zw_Zf Xc).2.2.2 Q X  l0 l2 l5 l6 h) : zw_G Xc 0 0 7 h 22 [(0, .int l0), (2, va_rf l2), (5, .int l5), (6, .int l6)] [] := by
  unfold f_J5_getChars_2_J22 at hE
  refine zg_sub (L' := [(2, va_rf l2), (6, .int l6), (0, .int l0), (5, .int l5)]) [1, 3, 0, 2] rfl ?_
  refine gt_f_J5_getChars_2_L22 hl ok tab fin hRm ⟨Nat.le_of_ble_eq_true rfl, Nat.le_of_ble_eq_true rfl⟩ ?_ _ _ _ _ hE
  · intro v7 v8 h3 hE
    refine zg_aload_n ok dJ5_getChars_2_76 rfl 1 rfl ?_
    refine zg_iincL (k := 2) (L' := fun v9 => [(5, .int v9), (0, .int v7), (2, va_rf l2), (6, .int l6)]) ok dJ5_getChars_2_77 (by decide +kernel) hE rfl (by decide) (fun _ => rfl) (fun v9 hE => ?_)
    refine zg_iload ok dJ5_getChars_2_80 0 rfl ?_
    refine zg_getsA (C := "java/lang/Integer") (n := "DigitOnes") (d' := "[B") (k := 4) ok (List.mem_of_getElem? (i := 4) rfl) q693 dJ5_getChars_2_82 ?_
    refine zg_iload_n ok dJ5_getChars_2_85 rfl 1 rfl ?_
    refine zg_ineg ok dJ5_getChars_2_86 ?_
    refine zg_bald ok dJ5_getChars_2_87 hE (fun v10 hE => ?_)
    refine zg_callS (vs := [zA l2, zI v9, zI v10]) (rest := []) (rm := rm_J5_putChar) ok hRm lk_J5_111 dJ5_getChars_2_88 hE (fun hE => mt_J5_putChar hl hE) rfl (Nat.le_of_ble_eq_true rfl) ⟨⟨Nat.le_of_ble_eq_true rfl, Nat.le_of_ble_eq_true rfl⟩, Nat.le_of_ble_eq_true rfl, Nat.le_of_ble_eq_true rfl⟩ (zg_retV (fun h4 hE => ?_)) (zg_xok ok tab fin ⟨Nat.le_of_ble_eq_true rfl, Nat.le_of_ble_eq_true rfl⟩)
    refine zg_cost (kc2 := 0) (ks2 := 0) ⟨rfl, rfl⟩ ?_
    refine zg_iload_n ok dJ5_getChars_2_91 rfl 1 rfl ?_
    refine zg_bipush (v := (-9)) ok dJ5_getChars_2_92 (by decide) ?_
    refine zg_icmp_ge (tgt := 112) ok dJ5_getChars_2_94 (by decide) hE (fun hE => ?_) (fun hE => ?_)
    · refine zg_sub (L' := [(2, va_rf l2), (5, .int v9), (6, .int l6)]) [2, 0, 3] rfl ?_
      exact gt_f_J5_getChars_2_J112 hl ok tab fin hRm  hE
    · refine zg_aload_n ok dJ5_getChars_2_97 rfl 2 rfl ?_
      refine zg_iincL (k := 0) (L' := fun v12 => [(5, .int v12), (0, .int v7), (2, va_rf l2), (6, .int l6)]) ok dJ5_getChars_2_98 (by decide +kernel) hE rfl (by decide) (fun _ => rfl) (fun v12 hE => ?_)
      refine zg_iload ok dJ5_getChars_2_101 0 rfl ?_
      refine zg_getsA (C := "java/lang/Integer") (n := "DigitTens") (d' := "[B") (k := 5) ok (List.mem_of_getElem? (i := 5) rfl) q694 dJ5_getChars_2_103 ?_
      refine zg_iload_n ok dJ5_getChars_2_106 rfl 1 rfl ?_
      refine zg_ineg ok dJ5_getChars_2_107 ?_
      refine zg_bald ok dJ5_getChars_2_108 hE (fun v13 hE => ?_)
      refine zg_callS (vs := [zA l2, zI v12, zI v13]) (rest := []) (rm := rm_J5_putChar) ok hRm lk_J5_111 dJ5_getChars_2_109 hE (fun hE => mt_J5_putChar hl hE) rfl (Nat.le_of_ble_eq_true rfl) ⟨⟨Nat.le_of_ble_eq_true rfl, Nat.le_of_ble_eq_true rfl⟩, Nat.le_of_ble_eq_true rfl, Nat.le_of_ble_eq_true rfl⟩ (zg_retV (fun h6 hE => ?_)) (zg_xok ok tab fin ⟨Nat.le_of_ble_eq_true rfl, Nat.le_of_ble_eq_true rfl⟩)
      refine zg_cost (kc2 := 0) (ks2 := 0) ⟨rfl, rfl⟩ ?_
      refine zg_sub (L' := [(2, va_rf l2), (5, .int v12), (6, .int l6)]) [2, 0, 3] rfl ?_
      exact gt_f_J5_getChars_2_J112 hl ok tab fin hRm  hE
set_option maxHeartbeats 8000000 in
theorem gt_f_J5_getChars_2_J12 {Xc : zw_X} {Q : Int32 → zw_H → Prop} {X : String → Nat → zw_H → Prop} (hl : (zw_l Xc).stackTraces = false) (ok : zw_ok Xc cJ5_getChars_2 "java/lang/StringUTF16" yJ5_getChars_2.name 7) (tab : zw_tab Xc []) (fin : zw_fin Xc (Option.some Jvm.ClassFile.FieldType.int) (zq_I Q) X 0 0) (hRm : zw_rm Xc = rm_J5_getChars_2)  {l0 : Int32} {l2 : Option Nat} {l5 : Int32} {s0 : Int32} {h : zw_H} (hE : f_J5_getChars_2_J12 (zw_Zf Xc).2.2.2 Q X  l0 l2 l5 s0 h) : zw_G Xc 0 0 7 h 12 [(0, .int l0), (2, va_rf l2), (5, .int l5)] [.int s0] := by
  unfold f_J5_getChars_2_J12 at hE
  refine zg_istore (L' := [(6, .int s0), (0, .int l0), (2, va_rf l2), (5, .int l5)]) ok dJ5_getChars_2_12 (by decide) rfl ?_
  refine zg_iload ok dJ5_getChars_2_14 0 rfl ?_
  refine zg_if_ne (tgt := 22) ok dJ5_getChars_2_16 (by decide) hE (fun hE => ?_) (fun hE => ?_)
  · refine zg_sub (L' := [(0, .int l0), (2, va_rf l2), (5, .int l5), (6, .int s0)]) [1, 2, 3, 0] rfl ?_
    exact gt_f_J5_getChars_2_J22 hl ok tab fin hRm  hE
  · refine zg_iload_n ok dJ5_getChars_2_19 rfl 1 rfl ?_
    refine zg_ineg ok dJ5_getChars_2_20 ?_
    refine zg_letI hE (fun v14 hE => ?_)
    refine zg_istore_n (L' := [(0, .int v14), (6, .int s0), (2, va_rf l2), (5, .int l5)]) ok dJ5_getChars_2_21 rfl (by decide) rfl ?_
    refine zg_sub (L' := [(0, .int v14), (2, va_rf l2), (5, .int l5), (6, .int s0)]) [0, 2, 3, 1] rfl ?_
    exact gt_f_J5_getChars_2_J22 hl ok tab fin hRm  hE
set_option maxHeartbeats 8000000 in
theorem mt_J5_getChars_2 {l : Launch} (hl : l.stackTraces = false) {Z : zw_Z} {a0 : Int32} {a1 : Int32} {a2 : Option Nat} {h : zw_H} {Q : Int32 → zw_H → Prop} {X : String → Nat → zw_H → Prop} (hE : f_J5_getChars_2 Z.2.2.2 a0 a1 a2 h Q X) : zw_Met l Z yJ5_getChars_2 (ws_ yJ5_getChars_2 cJ5_getChars_2 7 (Option.some Jvm.ClassFile.FieldType.int)) rm_J5_getChars_2 [zI a0, zI a1, zA a2] h (zq_I Q) X := by
  refine zg_start (own := "java/lang/StringUTF16") (by decide +kernel) rfl (Nat.le_of_ble_eq_true rfl) hl (fun Xc ok tab fin hRm hXl hXZ => ?_)
  subst hXl
  subst hXZ
  unfold f_J5_getChars_2 at hE
  refine zg_iload_n ok dJ5_getChars_2_0 rfl 1 rfl ?_
  refine zg_istore (L' := [(5, .int a1), (0, .int a0), (1, .int a1), (2, va_rf a2)]) ok dJ5_getChars_2_1 (by decide) rfl ?_
  refine zg_iload_n ok dJ5_getChars_2_3 rfl 1 rfl ?_
  refine zg_if_ge (tgt := 11) ok dJ5_getChars_2_4 (by decide) hE (fun hE => ?_) (fun hE => ?_)
  · refine zg_iconst (v := 0) ok dJ5_getChars_2_11 (by decide) ?_
    refine zg_sub (L' := [(0, .int a0), (2, va_rf a2), (5, .int a1)]) [1, 3, 0] rfl ?_
    exact gt_f_J5_getChars_2_J12 hl ok tab fin hRm  hE
  · refine zg_iconst (v := 1) ok dJ5_getChars_2_7 (by decide) ?_
    refine zg_goto (tgt := 12) ok dJ5_getChars_2_8 (by decide) ?_
    refine zg_sub (L' := [(0, .int a0), (2, va_rf a2), (5, .int a1)]) [1, 3, 0] rfl ?_
    exact gt_f_J5_getChars_2_J12 hl ok tab fin hRm  hE
set_option maxHeartbeats 8000000 in
theorem mt_J5_getChars {l : Launch} (hl : l.stackTraces = false) {Z : zw_Z} {a0 : Int32} {a1 : Int32} {a2 : Int32} {a3 : Option Nat} {h : zw_H} {Q : Int32 → zw_H → Prop} {X : String → Nat → zw_H → Prop} (hE : f_J5_getChars Z.2.2.2 a0 a1 a2 a3 h Q X) : zw_Met l Z yJ5_getChars (ws_ yJ5_getChars cJ5_getChars 5 (Option.some Jvm.ClassFile.FieldType.int)) rm_J5_getChars [zI a0, zI a1, zI a2, zA a3] h (zq_I Q) X := by
  refine zg_start (own := "java/lang/StringUTF16") (by decide +kernel) rfl (Nat.le_of_ble_eq_true rfl) hl (fun Xc ok tab fin hRm hXl hXZ => ?_)
  subst hXl
  subst hXZ
  unfold f_J5_getChars at hE
  refine zg_iload_n ok dJ5_getChars_0 rfl 1 rfl ?_
  refine zg_iload_n ok dJ5_getChars_1 rfl 2 rfl ?_
  refine zg_aload_n ok dJ5_getChars_2 rfl 3 rfl ?_
  refine zg_callS (vs := [zI a1, zI a2, zA a3]) (rest := []) (rm := rm_J5_checkBoundsBeginEnd) ok hRm lk_J5_96 dJ5_getChars_3 hE (fun hE => mt_J5_checkBoundsBeginEnd hl hE) rfl (Nat.le_of_ble_eq_true rfl) ⟨⟨Nat.le_of_ble_eq_true rfl, Nat.le_of_ble_eq_true rfl⟩, Nat.le_of_ble_eq_true rfl, Nat.le_of_ble_eq_true rfl⟩ (zg_retV (fun h1 hE => ?_)) (zg_xok ok tab fin ⟨Nat.le_of_ble_eq_true rfl, Nat.le_of_ble_eq_true rfl⟩)
  refine zg_cost (kc2 := 0) (ks2 := 0) ⟨rfl, rfl⟩ ?_
  refine zg_iload_n ok dJ5_getChars_6 rfl 0 rfl ?_
  refine zg_iload_n ok dJ5_getChars_7 rfl 2 rfl ?_
  refine zg_aload_n ok dJ5_getChars_8 rfl 3 rfl ?_
  refine zg_callS (vs := [zI a0, zI a2, zA a3]) (rest := []) (rm := rm_J5_getChars_2) ok hRm lk_J5_393 dJ5_getChars_9 hE (fun hE => mt_J5_getChars_2 hl hE) rfl (Nat.le_of_ble_eq_true rfl) ⟨⟨Nat.le_of_ble_eq_true rfl, Nat.le_of_ble_eq_true rfl⟩, Nat.le_of_ble_eq_true rfl, Nat.le_of_ble_eq_true rfl⟩ (zg_retI (fun v1 h2 hE => ?_)) (zg_xok ok tab fin ⟨Nat.le_of_ble_eq_true rfl, Nat.le_of_ble_eq_true rfl⟩)
  refine zg_cost (kc2 := 0) (ks2 := 0) ⟨rfl, rfl⟩ ?_
  refine zg_istoreR (L' := [(4, .int v1), (0, .int a0), (1, .int a1), (2, .int a2), (3, va_rf a3)]) ok dJ5_getChars_12 (by decide) 3 rfl rfl rfl ?_
  refine zg_getsI (C := "java/lang/StringUTF16") (n := "$assertionsDisabled") (d' := "Z") (v := 1) ok (List.mem_of_getElem? (i := 1) rfl) q597 dJ5_getChars_14 ?_
  refine zg_if_ne (tgt := 34) ok dJ5_getChars_17 (by decide) hE (fun hE => ?_) (fun hE => ?_)
  · refine zg_iload ok dJ5_getChars_34 0 rfl ?_
    exact zg_iret ok fin dJ5_getChars_36 ⟨Nat.le_of_ble_eq_true rfl, Nat.le_of_ble_eq_true rfl⟩ hE
  · refine zg_iload_n ok dJ5_getChars_20 rfl 2 rfl ?_
    refine zg_iload ok dJ5_getChars_21 0 rfl ?_
    refine zg_icmp_eq (tgt := 34) ok dJ5_getChars_23 (by decide) hE (fun hE => ?_) (fun hE => ?_)
    · refine zg_iload ok dJ5_getChars_34 0 rfl ?_
      exact zg_iret ok fin dJ5_getChars_36 ⟨Nat.le_of_ble_eq_true rfl, Nat.le_of_ble_eq_true rfl⟩ hE
    · exact hE.elim
set_option maxHeartbeats 8000000 in
theorem gt_f_J2_append_2_J48 {Xc : zw_X} {Q : Option Nat → zw_H → Prop} {X : String → Nat → zw_H → Prop} (hl : (zw_l Xc).stackTraces = false) (ok : zw_ok Xc cJ2_append_2 "java/lang/AbstractStringBuilder" yJ2_append_2.name 4) (tab : zw_tab Xc []) (fin : zw_fin Xc (Option.some (Jvm.ClassFile.FieldType.object "java/lang/AbstractStringBuilder")) (zq_A Q) X 1 576) (hRm : zw_rm Xc = rm_J2_append_2)  {l0 : Option Nat} {l3 : Int32}  {h : zw_H} (hE : f_J2_append_2_J48 (zw_Zf Xc).2.2.2 Q X  l0 l3 h) : zw_G Xc 1 576 4 h 48 [(0, va_rf l0), (3, .int l3)] [] := by
  unfold f_J2_append_2_J48 at hE
  refine zg_aload_n ok dJ2_append_2_48 rfl 0 rfl ?_
  refine zg_iload_n ok dJ2_append_2_49 rfl 1 rfl ?_
  refine zg_put (ty := .int) ok lf_J2_79 (Or.inl rfl) (by decide) (by decide +kernel) rfl rfl dJ2_append_2_50 hE (fun h5 hE => ?_)
  refine zg_aload_n ok dJ2_append_2_53 rfl 0 rfl ?_
  exact zg_aret ok fin (Or.inl ⟨_, rfl⟩) dJ2_append_2_54 ⟨Nat.le_of_ble_eq_true rfl, Nat.le_of_ble_eq_true rfl⟩ hE
set_option maxHeartbeats 8000000 in
theorem mt_J2_append_2 {l : Launch} (hl : l.stackTraces = false) {Z : zw_Z} {a0 : Option Nat} {a1 : Int32} {h : zw_H} {Q : Option Nat → zw_H → Prop} {X : String → Nat → zw_H → Prop} (hE : f_J2_append_2 Z.2.2.2 a0 a1 h Q X) : zw_Met l Z yJ2_append_2 (ws_ yJ2_append_2 cJ2_append_2 4 (Option.some (Jvm.ClassFile.FieldType.object "java/lang/AbstractStringBuilder"))) rm_J2_append_2 [zA a0, zI a1] h (zq_A Q) X := by
  refine zg_start (own := "java/lang/AbstractStringBuilder") (by decide +kernel) rfl (Nat.le_of_ble_eq_true rfl) hl (fun Xc ok tab fin hRm hXl hXZ => ?_)
  subst hXl
  subst hXZ
  unfold f_J2_append_2 at hE
  refine zg_aload_n ok dJ2_append_2_0 rfl 0 rfl ?_
  refine zg_getI ok lf_J2_79 dJ2_append_2_1 hE (fun v1 hE => ?_)
  refine zg_istore_n (L' := [(2, .int v1), (0, va_rf a0), (1, .int a1)]) ok dJ2_append_2_4 rfl (by decide) rfl ?_
  refine zg_iload_n ok dJ2_append_2_5 rfl 0 rfl ?_
  refine zg_iload_n ok dJ2_append_2_6 rfl 2 rfl ?_
  refine zg_callS (vs := [zI a1]) (rest := [.int v1]) (rm := rm_J20_stringSize) ok hRm lk_J2_245 dJ2_append_2_7 hE (fun hE => mt_J20_stringSize hl hE) rfl (Nat.le_of_ble_eq_true rfl) ⟨⟨Nat.le_of_ble_eq_true rfl, Nat.le_of_ble_eq_true rfl⟩, Nat.le_of_ble_eq_true rfl, Nat.le_of_ble_eq_true rfl⟩ (zg_retI (fun v2 h1 hE => ?_)) (zg_xok ok tab fin ⟨Nat.le_of_ble_eq_true rfl, Nat.le_of_ble_eq_true rfl⟩)
  refine zg_cost (kc2 := 0) (ks2 := 0) ⟨rfl, rfl⟩ ?_
  refine zg_iadd ok dJ2_append_2_10 ?_
  refine zg_letI hE (fun v3 hE => ?_)
  refine zg_istore_n (L' := [(3, .int v3), (2, .int v1), (0, va_rf a0), (1, .int a1)]) ok dJ2_append_2_11 rfl (by decide) rfl ?_
  refine zg_aload_n ok dJ2_append_2_12 rfl 2 rfl ?_
  refine zg_iload_n ok dJ2_append_2_13 rfl 0 rfl ?_
  refine zg_callU (vs := [zI v3]) (rest := []) (rm := rm_J2_ensureCapacityInternal) ok hRm lk_J2_100 dJ2_append_2_14 hE (fun hE => mt_J2_ensureCapacityInternal hl hE) rfl (Nat.le_of_ble_eq_true rfl) ⟨⟨Nat.le_of_ble_eq_true rfl, Nat.le_of_ble_eq_true rfl⟩, Nat.le_of_ble_eq_true rfl, Nat.le_of_ble_eq_true rfl⟩ (zg_retV (fun h2 hE => ?_)) (zg_xok ok tab fin ⟨Nat.le_of_ble_eq_true rfl, Nat.le_of_ble_eq_true rfl⟩)
  refine zg_cost (kc2 := 1) (ks2 := 576) ⟨rfl, rfl⟩ ?_
  refine zg_aload_n ok dJ2_append_2_17 rfl 2 rfl ?_
  refine zg_callU (vs := []) (rest := []) (rm := rm_J2_isLatin1) ok hRm lk_J2_83 dJ2_append_2_18 hE (fun hE => mt_J2_isLatin1 hl hE) rfl (Nat.le_of_ble_eq_true rfl) ⟨⟨Nat.le_of_ble_eq_true rfl, Nat.le_of_ble_eq_true rfl⟩, Nat.le_of_ble_eq_true rfl, Nat.le_of_ble_eq_true rfl⟩ (zg_retI (fun v4 h3 hE => ?_)) (zg_xok ok tab fin ⟨Nat.le_of_ble_eq_true rfl, Nat.le_of_ble_eq_true rfl⟩)
  refine zg_cost (kc2 := 1) (ks2 := 576) ⟨rfl, rfl⟩ ?_
  refine zg_if_eq (tgt := 37) ok dJ2_append_2_21 (by decide) hE (fun hE => ?_) (fun hE => ?_)
  · refine zg_iload_n ok dJ2_append_2_37 rfl 3 rfl ?_
    refine zg_iload_n ok dJ2_append_2_38 rfl 1 rfl ?_
    refine zg_iload_n ok dJ2_append_2_39 rfl 0 rfl ?_
    refine zg_aload_n ok dJ2_append_2_40 rfl 2 rfl ?_
    refine zg_getA ok lf_J2_15 dJ2_append_2_41 hE (fun v5 hE => ?_)
    refine zg_callS (vs := [zI a1, zI v1, zI v3, zA v5]) (rest := []) (rm := rm_J5_getChars) ok hRm lk_J2_251 dJ2_append_2_44 hE (fun hE => mt_J5_getChars hl hE) rfl (Nat.le_of_ble_eq_true rfl) ⟨⟨Nat.le_of_ble_eq_true rfl, Nat.le_of_ble_eq_true rfl⟩, Nat.le_of_ble_eq_true rfl, Nat.le_of_ble_eq_true rfl⟩ (zg_retI (fun v6 h4 hE => ?_)) (zg_xok ok tab fin ⟨Nat.le_of_ble_eq_true rfl, Nat.le_of_ble_eq_true rfl⟩)
    refine zg_cost (kc2 := 1) (ks2 := 576) ⟨rfl, rfl⟩ ?_
    refine zg_pop ok dJ2_append_2_47 rfl ?_
    refine zg_sub (L' := [(0, va_rf a0), (3, .int v3)]) [2, 0] rfl ?_
    exact gt_f_J2_append_2_J48 hl ok tab fin hRm  hE
  · refine zg_iload_n ok dJ2_append_2_24 rfl 3 rfl ?_
    refine zg_iload_n ok dJ2_append_2_25 rfl 0 rfl ?_
    refine zg_aload_n ok dJ2_append_2_26 rfl 2 rfl ?_
    refine zg_getA ok lf_J2_15 dJ2_append_2_27 hE (fun v7 hE => ?_)
    refine zg_callS (vs := [zI a1, zI v3, zA v7]) (rest := []) (rm := rm_J20_getChars) ok hRm lk_J2_248 dJ2_append_2_30 hE (fun hE => mt_J20_getChars hl hE) rfl (Nat.le_of_ble_eq_true rfl) ⟨⟨Nat.le_of_ble_eq_true rfl, Nat.le_of_ble_eq_true rfl⟩, Nat.le_of_ble_eq_true rfl, Nat.le_of_ble_eq_true rfl⟩ (zg_retI (fun v8 h6 hE => ?_)) (zg_xok ok tab fin ⟨Nat.le_of_ble_eq_true rfl, Nat.le_of_ble_eq_true rfl⟩)
    refine zg_cost (kc2 := 1) (ks2 := 576) ⟨rfl, rfl⟩ ?_
    refine zg_pop ok dJ2_append_2_33 rfl ?_
    refine zg_goto (tgt := 48) ok dJ2_append_2_34 (by decide) ?_
    refine zg_sub (L' := [(0, va_rf a0), (3, .int v3)]) [2, 0] rfl ?_
    exact gt_f_J2_append_2_J48 hl ok tab fin hRm  hE
set_option maxHeartbeats 8000000 in
theorem mt_J3_append_2 {l : Launch} (hl : l.stackTraces = false) {Z : zw_Z} {a0 : Option Nat} {a1 : Int32} {h : zw_H} {Q : Option Nat → zw_H → Prop} {X : String → Nat → zw_H → Prop} (hE : f_J3_append_2 Z.2.2.2 a0 a1 h Q X) : zw_Met l Z yJ3_append_2 (ws_ yJ3_append_2 cJ3_append_2 2 (Option.some (Jvm.ClassFile.FieldType.object "java/lang/StringBuilder"))) rm_J3_append_2 [zA a0, zI a1] h (zq_A Q) X := by
  refine zg_startF (own := "java/lang/StringBuilder") (by decide +kernel) rfl (Nat.le_of_ble_eq_true rfl) hl (fun Xc ok tab fin hRm hXl hXZ => ?_)
  subst hXl
  subst hXZ
  unfold f_J3_append_2 at hE
  refine zg_aload_n ok dJ3_append_2_0 rfl 0 rfl ?_
  refine zg_iload_n ok dJ3_append_2_1 rfl 1 rfl ?_
  refine zg_callSU (vs := [zI a1]) (rest := []) (rm := rm_J2_append_2) ok hRm lk_J3_53 dJ3_append_2_2 hE (fun hE => mt_J2_append_2 hl hE) rfl (Nat.le_of_ble_eq_true rfl) ⟨⟨Nat.le_of_ble_eq_true rfl, Nat.le_of_ble_eq_true rfl⟩, Nat.le_of_ble_eq_true rfl, Nat.le_of_ble_eq_true rfl⟩ (zg_retA (fun v1 h1 hE => ?_)) (zg_xok ok tab fin ⟨Nat.le_of_ble_eq_true rfl, Nat.le_of_ble_eq_true rfl⟩)
  refine zg_cost (kc2 := 1) (ks2 := 576) ⟨rfl, rfl⟩ ?_
  refine zg_pop ok dJ3_append_2_5 (zw_rfc _) ?_
  refine zg_aload_n ok dJ3_append_2_6 rfl 0 rfl ?_
  exact zg_aret ok fin (Or.inl ⟨_, rfl⟩) dJ3_append_2_7 ⟨Nat.le_of_ble_eq_true rfl, Nat.le_of_ble_eq_true rfl⟩ hE
set_option maxHeartbeats 8000000 in
theorem mt_J17_checkFromIndexSize {l : Launch} (hl : l.stackTraces = false) {Z : zw_Z} {a0 : Int32} {a1 : Int32} {a2 : Int32} {a3 : Option Nat} {h : zw_H} {Q : Int32 → zw_H → Prop} {X : String → Nat → zw_H → Prop} (hE : f_J17_checkFromIndexSize Z.2.2.2 a0 a1 a2 a3 h Q X) : zw_Met l Z yJ17_checkFromIndexSize (ws_ yJ17_checkFromIndexSize cJ17_checkFromIndexSize 4 (Option.some Jvm.ClassFile.FieldType.int)) rm_J17_checkFromIndexSize [zI a0, zI a1, zI a2, zA a3] h (zq_I Q) X := by
  refine zg_start (own := "jdk/internal/util/Preconditions") (by decide +kernel) rfl (Nat.le_of_ble_eq_true rfl) hl (fun Xc ok tab fin hRm hXl hXZ => ?_)
  subst hXl
  subst hXZ
  unfold f_J17_checkFromIndexSize at hE
  refine zg_iload_n ok dJ17_checkFromIndexSize_0 rfl 2 rfl ?_
  refine zg_iload_n ok dJ17_checkFromIndexSize_1 rfl 0 rfl ?_
  refine zg_ior ok dJ17_checkFromIndexSize_2 ?_
  refine zg_iload_n ok dJ17_checkFromIndexSize_3 rfl 1 rfl ?_
  refine zg_ior ok dJ17_checkFromIndexSize_4 ?_
  refine zg_if_lt (tgt := 15) ok dJ17_checkFromIndexSize_5 (by decide) hE (fun hE => ?_) (fun hE => ?_)
  · exact hE.elim
  · refine zg_iload_n ok dJ17_checkFromIndexSize_8 rfl 1 rfl ?_
    refine zg_iload_n ok dJ17_checkFromIndexSize_9 rfl 2 rfl ?_
    refine zg_iload_n ok dJ17_checkFromIndexSize_10 rfl 0 rfl ?_
    refine zg_isub ok dJ17_checkFromIndexSize_11 ?_
    refine zg_icmp_le (tgt := 23) ok dJ17_checkFromIndexSize_12 (by decide) hE (fun hE => ?_) (fun hE => ?_)
    · refine zg_iload_n ok dJ17_checkFromIndexSize_23 rfl 0 rfl ?_
      exact zg_iret ok fin dJ17_checkFromIndexSize_24 ⟨Nat.le_of_ble_eq_true rfl, Nat.le_of_ble_eq_true rfl⟩ hE
    · exact hE.elim
set_option maxHeartbeats 8000000 in
theorem mt_J4_checkBoundsOffCount {l : Launch} (hl : l.stackTraces = false) {Z : zw_Z} {a0 : Int32} {a1 : Int32} {a2 : Int32} {h : zw_H} {Q : Int32 → zw_H → Prop} {X : String → Nat → zw_H → Prop} (hE : f_J4_checkBoundsOffCount Z.2.2.2 a0 a1 a2 h Q X) : zw_Met l Z yJ4_checkBoundsOffCount (ws_ yJ4_checkBoundsOffCount cJ4_checkBoundsOffCount 3 (Option.some Jvm.ClassFile.FieldType.int)) rm_J4_checkBoundsOffCount [zI a0, zI a1, zI a2] h (zq_I Q) X := by
  refine zg_startF (own := "java/lang/String") (by decide +kernel) rfl (Nat.le_of_ble_eq_true rfl) hl (fun Xc ok tab fin hRm hXl hXZ => ?_)
  subst hXl
  subst hXZ
  unfold f_J4_checkBoundsOffCount at hE
  refine zg_iload_n ok dJ4_checkBoundsOffCount_0 rfl 0 rfl ?_
  refine zg_iload_n ok dJ4_checkBoundsOffCount_1 rfl 1 rfl ?_
  refine zg_iload_n ok dJ4_checkBoundsOffCount_2 rfl 2 rfl ?_
  refine zg_getsA (C := "jdk/internal/util/Preconditions") (n := "SIOOBE_FORMATTER") (d' := "Ljava/util/function/BiFunction;") (k := 3) ok (List.mem_of_getElem? (i := 3) rfl) q589 dJ4_checkBoundsOffCount_3 ?_
  refine zg_callS (vs := [zI a0, zI a1, zI a2, zA ((zw_Zf Xc).2.2.2 3)]) (rest := []) (rm := rm_J17_checkFromIndexSize) ok hRm lk_J4_1065 dJ4_checkBoundsOffCount_6 hE (fun hE => mt_J17_checkFromIndexSize hl hE) rfl (Nat.le_of_ble_eq_true rfl) ⟨⟨Nat.le_of_ble_eq_true rfl, Nat.le_of_ble_eq_true rfl⟩, Nat.le_of_ble_eq_true rfl, Nat.le_of_ble_eq_true rfl⟩ (zg_retI (fun v1 h1 hE => ?_)) (zg_xok ok tab fin ⟨Nat.le_of_ble_eq_true rfl, Nat.le_of_ble_eq_true rfl⟩)
  refine zg_cost (kc2 := 0) (ks2 := 0) ⟨rfl, rfl⟩ ?_
  exact zg_iret ok fin dJ4_checkBoundsOffCount_9 ⟨Nat.le_of_ble_eq_true rfl, Nat.le_of_ble_eq_true rfl⟩ hE
set_option maxHeartbeats 8000000 in
theorem mt_J5_checkBoundsOffCount {l : Launch} (hl : l.stackTraces = false) {Z : zw_Z} {a0 : Int32} {a1 : Int32} {a2 : Option Nat} {h : zw_H} {Q : zw_H → Prop} {X : String → Nat → zw_H → Prop} (hE : f_J5_checkBoundsOffCount Z.2.2.2 a0 a1 a2 h Q X) : zw_Met l Z yJ5_checkBoundsOffCount (ws_ yJ5_checkBoundsOffCount cJ5_checkBoundsOffCount 3 (Option.none : Option Jvm.ClassFile.FieldType)) rm_J5_checkBoundsOffCount [zI a0, zI a1, zA a2] h (zq_V Q) X := by
  refine zg_start (own := "java/lang/StringUTF16") (by decide +kernel) rfl (Nat.le_of_ble_eq_true rfl) hl (fun Xc ok tab fin hRm hXl hXZ => ?_)
  subst hXl
  subst hXZ
  unfold f_J5_checkBoundsOffCount at hE
  refine zg_iload_n ok dJ5_checkBoundsOffCount_0 rfl 0 rfl ?_
  refine zg_iload_n ok dJ5_checkBoundsOffCount_1 rfl 1 rfl ?_
  refine zg_aload_n ok dJ5_checkBoundsOffCount_2 rfl 2 rfl ?_
  refine zg_callS (vs := [zA a2]) (rest := [.int a1, .int a0]) (rm := rm_J5_length) ok hRm lk_J5_48 dJ5_checkBoundsOffCount_3 hE (fun hE => mt_J5_length hl hE) rfl (Nat.le_of_ble_eq_true rfl) ⟨⟨Nat.le_of_ble_eq_true rfl, Nat.le_of_ble_eq_true rfl⟩, Nat.le_of_ble_eq_true rfl, Nat.le_of_ble_eq_true rfl⟩ (zg_retI (fun v1 h1 hE => ?_)) (zg_xok ok tab fin ⟨Nat.le_of_ble_eq_true rfl, Nat.le_of_ble_eq_true rfl⟩)
  refine zg_cost (kc2 := 0) (ks2 := 0) ⟨rfl, rfl⟩ ?_
  refine zg_callS (vs := [zI a0, zI a1, zI v1]) (rest := []) (rm := rm_J4_checkBoundsOffCount) ok hRm lk_J5_419 dJ5_checkBoundsOffCount_6 hE (fun hE => mt_J4_checkBoundsOffCount hl hE) rfl (Nat.le_of_ble_eq_true rfl) ⟨⟨Nat.le_of_ble_eq_true rfl, Nat.le_of_ble_eq_true rfl⟩, Nat.le_of_ble_eq_true rfl, Nat.le_of_ble_eq_true rfl⟩ (zg_retI (fun v2 h2 hE => ?_)) (zg_xok ok tab fin ⟨Nat.le_of_ble_eq_true rfl, Nat.le_of_ble_eq_true rfl⟩)
  refine zg_cost (kc2 := 0) (ks2 := 0) ⟨rfl, rfl⟩ ?_
  refine zg_pop ok dJ5_checkBoundsOffCount_9 rfl ?_
  exact zg_vret ok fin dJ5_checkBoundsOffCount_10 ⟨Nat.le_of_ble_eq_true rfl, Nat.le_of_ble_eq_true rfl⟩ hE
set_option maxHeartbeats 8000000 in
theorem gt_f_J5_inflate_B10 {Xc : zw_X} {Q : zw_H → Prop} {X : String → Nat → zw_H → Prop} (hl : (zw_l Xc).stackTraces = false) (ok : zw_ok Xc cJ5_inflate "java/lang/StringUTF16" yJ5_inflate.name 6) (tab : zw_tab Xc []) (fin : zw_fin Xc (Option.none : Option Jvm.ClassFile.FieldType) (zq_V Q) X 0 0) (hRm : zw_rm Xc = rm_J5_inflate) {kc ks : Nat} (hb : kc ≤ 0 ∧ ks ≤ 0) {R : Int32 → Int32 → Int32 → zw_H → Prop} {l0 : Option Nat} {l2 : Option Nat} {l4 : Int32} (hR : ∀ (l1 : Int32) (l3 : Int32) (l5 : Int32) (h : zw_H), R l1 l3 l5 h → zw_G Xc kc ks 6 h 10 [(0, va_rf l0), (2, va_rf l2), (4, .int l4), (1, .int l1), (3, .int l3), (5, .int l5)] []) {k41 : zw_H → Prop} (hk41 : ∀  (h : zw_H), k41  h → zw_G Xc kc ks 6 h 41 [] [])  {l1 : Int32} {l3 : Int32} {l5 : Int32} {h : zw_H} (hE : f_J5_inflate_B10 (zw_Zf Xc).2.2.2 Q X k41 l0 l2 l4 R l1 l3 l5 h) : zw_G Xc kc ks 6 h 10 [(0, va_rf l0), (2, va_rf l2), (4, .int l4), (1, .int l1), (3, .int l3), (5, .int l5)] [] := by
  unfold f_J5_inflate_B10 at hE
  refine zg_iload ok dJ5_inflate_10 5 rfl ?_
  refine zg_iload ok dJ5_inflate_12 2 rfl ?_
  refine zg_icmp_ge (tgt := 41) ok dJ5_inflate_14 (by decide) hE (fun hE => ?_) (fun hE => ?_)
  · refine zg_sub (L' := []) [] rfl ?_
    exact hk41 _ hE
  · refine zg_aload_n ok dJ5_inflate_17 rfl 1 rfl ?_
    refine zg_iload_n ok dJ5_inflate_18 rfl 4 rfl ?_
    refine zg_iincLR (k := 4) (L' := fun v1 => [(3, .int v1), (0, va_rf l0), (2, va_rf l2), (4, .int l4), (1, .int l1), (5, .int l5)]) ok dJ5_inflate_19 (by decide +kernel) hE rfl (by decide) rfl (k9 := 1) rfl (fun _ => rfl) (fun v1 hE => ?_)
    refine zg_aload_n ok dJ5_inflate_22 rfl 1 rfl ?_
    refine zg_iload_n ok dJ5_inflate_23 rfl 4 rfl ?_
    refine zg_iincLR (k := 4) (L' := fun v2 => [(1, .int v2), (3, .int v1), (0, va_rf l0), (2, va_rf l2), (4, .int l4), (5, .int l5)]) ok dJ5_inflate_24 (by decide +kernel) hE rfl (by decide) rfl (k9 := 1) rfl (fun _ => rfl) (fun v2 hE => ?_)
    refine zg_bald ok dJ5_inflate_27 hE (fun v3 hE => ?_)
    refine zg_sipush (v := 255) ok dJ5_inflate_28 (by decide) ?_
    refine zg_iand ok dJ5_inflate_31 ?_
    refine zg_callS (vs := [zA l2, zI l3, zI (v3 &&& 255)]) (rest := []) (rm := rm_J5_putChar) ok hRm lk_J5_111 dJ5_inflate_32 hE (fun hE => mt_J5_putChar hl hE) rfl (Nat.le_of_ble_eq_true rfl) ⟨⟨Nat.le_of_ble_eq_true rfl, Nat.le_of_ble_eq_true rfl⟩, (by show kc + 0 ≤ 0; omega), (by show ks + 0 ≤ 0; omega)⟩ (zg_retV (fun h2 hE => ?_)) (zg_xok ok tab fin ⟨(by show kc + 0 ≤ 0; omega), (by show ks + 0 ≤ 0; omega)⟩)
    refine zg_cost (kc2 := kc) (ks2 := ks) ⟨(by show kc + 0 = kc; omega), (by show ks + 0 = ks; omega)⟩ ?_
    refine zg_iincL (k := 5) (L' := fun v4 => [(5, .int v4), (1, .int v2), (3, .int v1), (0, va_rf l0), (2, va_rf l2), (4, .int l4)]) ok dJ5_inflate_35 (by decide +kernel) hE rfl (by decide) (fun _ => rfl) (fun v4 hE => ?_)
    refine zg_goto (tgt := 10) ok dJ5_inflate_38 (by decide) ?_
    refine zg_sub (L' := [(0, va_rf l0), (2, va_rf l2), (4, .int l4), (1, .int v2), (3, .int v1), (5, .int v4)]) [3, 4, 5, 1, 2, 0] rfl ?_
    exact hR _ _ _ _ hE
theorem gt_f_J5_inflate_L10 {Xc : zw_X} {Q : zw_H → Prop} {X : String → Nat → zw_H → Prop} (hl : (zw_l Xc).stackTraces = false) (ok : zw_ok Xc cJ5_inflate "java/lang/StringUTF16" yJ5_inflate.name 6) (tab : zw_tab Xc []) (fin : zw_fin Xc (Option.none : Option Jvm.ClassFile.FieldType) (zq_V Q) X 0 0) (hRm : zw_rm Xc = rm_J5_inflate) {kc ks : Nat} (hb : kc ≤ 0 ∧ ks ≤ 0) {l0 : Option Nat} {l2 : Option Nat} {l4 : Int32} {k41 : zw_H → Prop} (hk41 : ∀  (h : zw_H), k41  h → zw_G Xc kc ks 6 h 41 [] [])  : ∀ (n9 : Nat) (l1 : Int32) (l3 : Int32) (l5 : Int32) (h : zw_H), zl4 (f_J5_inflate_B10 (zw_Zf Xc).2.2.2 Q X k41 l0 l2 l4) n9 l1 l3 l5 h → zw_G Xc kc ks 6 h 10 [(0, va_rf l0), (2, va_rf l2), (4, .int l4), (1, .int l1), (3, .int l3), (5, .int l5)] [] := by
  intro n9
  induction n9 with
  | zero => intro l1 l3 l5 h hE; exact hE.elim
  | succ n9 ih => intro l1 l3 l5 h hE; exact gt_f_J5_inflate_B10 hl ok tab fin hRm hb ih hk41 hE
set_option maxHeartbeats 8000000 in
theorem mt_J5_inflate {l : Launch} (hl : l.stackTraces = false) {Z : zw_Z} {a0 : Option Nat} {a1 : Int32} {a2 : Option Nat} {a3 : Int32} {a4 : Int32} {h : zw_H} {Q : zw_H → Prop} {X : String → Nat → zw_H → Prop} (hE : f_J5_inflate Z.2.2.2 a0 a1 a2 a3 a4 h Q X) : zw_Met l Z yJ5_inflate (ws_ yJ5_inflate cJ5_inflate 6 (Option.none : Option Jvm.ClassFile.FieldType)) rm_J5_inflate [zA a0, zI a1, zA a2, zI a3, zI a4] h (zq_V Q) X := by
  refine zg_start (own := "java/lang/StringUTF16") (by decide +kernel) rfl (Nat.le_of_ble_eq_true rfl) hl (fun Xc ok tab fin hRm hXl hXZ => ?_)
  subst hXl
  subst hXZ
  unfold f_J5_inflate at hE
  refine zg_iload_n ok dJ5_inflate_0 rfl 3 rfl ?_
  refine zg_iload ok dJ5_inflate_1 4 rfl ?_
  refine zg_aload_n ok dJ5_inflate_3 rfl 2 rfl ?_
  refine zg_callS (vs := [zI a3, zI a4, zA a2]) (rest := []) (rm := rm_J5_checkBoundsOffCount) ok hRm lk_J5_173 dJ5_inflate_4 hE (fun hE => mt_J5_checkBoundsOffCount hl hE) rfl (Nat.le_of_ble_eq_true rfl) ⟨⟨Nat.le_of_ble_eq_true rfl, Nat.le_of_ble_eq_true rfl⟩, Nat.le_of_ble_eq_true rfl, Nat.le_of_ble_eq_true rfl⟩ (zg_retV (fun h1 hE => ?_)) (zg_xok ok tab fin ⟨Nat.le_of_ble_eq_true rfl, Nat.le_of_ble_eq_true rfl⟩)
  refine zg_cost (kc2 := 0) (ks2 := 0) ⟨rfl, rfl⟩ ?_
  refine zg_iconst (v := 0) ok dJ5_inflate_7 (by decide) ?_
  refine zg_istore (L' := [(5, .int 0), (0, va_rf a0), (1, .int a1), (2, va_rf a2), (3, .int a3), (4, .int a4)]) ok dJ5_inflate_8 (by decide) rfl ?_
  refine zg_sub (L' := [(0, va_rf a0), (2, va_rf a2), (4, .int a4), (1, .int a1), (3, .int a3), (5, .int 0)]) [1, 3, 5, 2, 4, 0] rfl ?_
  refine gt_f_J5_inflate_L10 hl ok tab fin hRm ⟨Nat.le_of_ble_eq_true rfl, Nat.le_of_ble_eq_true rfl⟩ ?_ _ _ _ _ _ hE
  · intro h3 hE
    exact zg_vret ok fin dJ5_inflate_41 ⟨Nat.le_of_ble_eq_true rfl, Nat.le_of_ble_eq_true rfl⟩ hE
set_option maxHeartbeats 8000000 in
theorem mt_J16_inflate {l : Launch} (hl : l.stackTraces = false) {Z : zw_Z} {a0 : Option Nat} {a1 : Int32} {a2 : Option Nat} {a3 : Int32} {a4 : Int32} {h : zw_H} {Q : zw_H → Prop} {X : String → Nat → zw_H → Prop} (hE : f_J16_inflate Z.2.2.2 a0 a1 a2 a3 a4 h Q X) : zw_Met l Z yJ16_inflate (ws_ yJ16_inflate cJ16_inflate 5 (Option.none : Option Jvm.ClassFile.FieldType)) rm_J16_inflate [zA a0, zI a1, zA a2, zI a3, zI a4] h (zq_V Q) X := by
  refine zg_start (own := "java/lang/StringLatin1") (by decide +kernel) rfl (Nat.le_of_ble_eq_true rfl) hl (fun Xc ok tab fin hRm hXl hXZ => ?_)
  subst hXl
  subst hXZ
  unfold f_J16_inflate at hE
  refine zg_aload_n ok dJ16_inflate_0 rfl 0 rfl ?_
  refine zg_iload_n ok dJ16_inflate_1 rfl 1 rfl ?_
  refine zg_aload_n ok dJ16_inflate_2 rfl 2 rfl ?_
  refine zg_iload_n ok dJ16_inflate_3 rfl 3 rfl ?_
  refine zg_iload ok dJ16_inflate_4 4 rfl ?_
  refine zg_callS (vs := [zA a0, zI a1, zA a2, zI a3, zI a4]) (rest := []) (rm := rm_J5_inflate) ok hRm lk_J16_240 dJ16_inflate_6 hE (fun hE => mt_J5_inflate hl hE) rfl (Nat.le_of_ble_eq_true rfl) ⟨⟨Nat.le_of_ble_eq_true rfl, Nat.le_of_ble_eq_true rfl⟩, Nat.le_of_ble_eq_true rfl, Nat.le_of_ble_eq_true rfl⟩ (zg_retV (fun h1 hE => ?_)) (zg_xok ok tab fin ⟨Nat.le_of_ble_eq_true rfl, Nat.le_of_ble_eq_true rfl⟩)
  refine zg_cost (kc2 := 0) (ks2 := 0) ⟨rfl, rfl⟩ ?_
  exact zg_vret ok fin dJ16_inflate_9 ⟨Nat.le_of_ble_eq_true rfl, Nat.le_of_ble_eq_true rfl⟩ hE
set_option maxHeartbeats 8000000 in
theorem mt_J4_getBytes {l : Launch} (hl : l.stackTraces = false) {Z : zw_Z} {a0 : Option Nat} {a1 : Option Nat} {a2 : Int32} {a3 : Int32} {h : zw_H} {Q : zw_H → Prop} {X : String → Nat → zw_H → Prop} (hE : f_J4_getBytes Z.2.2.2 a0 a1 a2 a3 h Q X) : zw_Met l Z yJ4_getBytes (ws_ yJ4_getBytes cJ4_getBytes 4 (Option.none : Option Jvm.ClassFile.FieldType)) rm_J4_getBytes [zA a0, zA a1, zI a2, zI a3] h (zq_V Q) X := by
  refine zg_startF (own := "java/lang/String") (by decide +kernel) rfl (Nat.le_of_ble_eq_true rfl) hl (fun Xc ok tab fin hRm hXl hXZ => ?_)
  subst hXl
  subst hXZ
  unfold f_J4_getBytes at hE
  refine zg_aload_n ok dJ4_getBytes_0 rfl 0 rfl ?_
  refine zg_callV (vs := []) (rest := []) (rm := rm_J4_coder) ok hRm lk_J4_335 dJ4_getBytes_1 hE (fun hE => mt_J4_coder hl hE) rfl (Nat.le_of_ble_eq_true rfl) ⟨⟨Nat.le_of_ble_eq_true rfl, Nat.le_of_ble_eq_true rfl⟩, Nat.le_of_ble_eq_true rfl, Nat.le_of_ble_eq_true rfl⟩ (zg_retI (fun v1 h1 hE => ?_)) (zg_xok ok tab fin ⟨Nat.le_of_ble_eq_true rfl, Nat.le_of_ble_eq_true rfl⟩)
  refine zg_cost (kc2 := 0) (ks2 := 0) ⟨rfl, rfl⟩ ?_
  refine zg_iload_n ok dJ4_getBytes_4 rfl 3 rfl ?_
  refine zg_icmp_ne (tgt := 28) ok dJ4_getBytes_5 (by decide) hE (fun hE => ?_) (fun hE => ?_)
  · refine zg_aload_n ok dJ4_getBytes_28 rfl 0 rfl ?_
    refine zg_getA ok lf_J4_9 dJ4_getBytes_29 hE (fun v2 hE => ?_)
    refine zg_iconst (v := 0) ok dJ4_getBytes_32 (by decide) ?_
    refine zg_aload_n ok dJ4_getBytes_33 rfl 1 rfl ?_
    refine zg_iload_n ok dJ4_getBytes_34 rfl 2 rfl ?_
    refine zg_aload_n ok dJ4_getBytes_35 rfl 0 rfl ?_
    refine zg_getA ok lf_J4_9 dJ4_getBytes_36 hE (fun v3 hE => ?_)
    refine zg_alen ok dJ4_getBytes_39 hE (fun v4 hE => ?_)
    refine zg_callS (vs := [zA v2, zI 0, zA a1, zI a2, zI v4]) (rest := []) (rm := rm_J16_inflate) ok hRm lk_J4_106 dJ4_getBytes_40 hE (fun hE => mt_J16_inflate hl hE) rfl (Nat.le_of_ble_eq_true rfl) ⟨⟨Nat.le_of_ble_eq_true rfl, Nat.le_of_ble_eq_true rfl⟩, Nat.le_of_ble_eq_true rfl, Nat.le_of_ble_eq_true rfl⟩ (zg_retV (fun h2 hE => ?_)) (zg_xok ok tab fin ⟨Nat.le_of_ble_eq_true rfl, Nat.le_of_ble_eq_true rfl⟩)
    refine zg_cost (kc2 := 0) (ks2 := 0) ⟨rfl, rfl⟩ ?_
    exact zg_vret ok fin dJ4_getBytes_43 ⟨Nat.le_of_ble_eq_true rfl, Nat.le_of_ble_eq_true rfl⟩ hE
  · refine zg_aload_n ok dJ4_getBytes_8 rfl 0 rfl ?_
    refine zg_getA ok lf_J4_9 dJ4_getBytes_9 hE (fun v5 hE => ?_)
    refine zg_iconst (v := 0) ok dJ4_getBytes_12 (by decide) ?_
    refine zg_aload_n ok dJ4_getBytes_13 rfl 1 rfl ?_
    refine zg_iload_n ok dJ4_getBytes_14 rfl 2 rfl ?_
    refine zg_iload_n ok dJ4_getBytes_15 rfl 3 rfl ?_
    refine zg_ishl ok dJ4_getBytes_16 ?_
    refine zg_aload_n ok dJ4_getBytes_17 rfl 0 rfl ?_
    refine zg_getA ok lf_J4_9 dJ4_getBytes_18 hE (fun v6 hE => ?_)
    refine zg_alen ok dJ4_getBytes_21 hE (fun v7 hE => ?_)
    refine zg_cpB ok hRm q732 ⟨by decide, by decide⟩ (Nat.le_of_ble_eq_true rfl) dJ4_getBytes_22 hE (fun h3 hE => ?_)
    refine zg_goto (tgt := 43) ok dJ4_getBytes_25 (by decide) ?_
    exact zg_vret ok fin dJ4_getBytes_43 ⟨Nat.le_of_ble_eq_true rfl, Nat.le_of_ble_eq_true rfl⟩ hE
set_option maxHeartbeats 8000000 in
theorem mt_J2_putStringAt {l : Launch} (hl : l.stackTraces = false) {Z : zw_Z} {a0 : Option Nat} {a1 : Int32} {a2 : Option Nat} {h : zw_H} {Q : zw_H → Prop} {X : String → Nat → zw_H → Prop} (hE : f_J2_putStringAt Z.2.2.2 a0 a1 a2 h Q X) : zw_Met l Z yJ2_putStringAt (ws_ yJ2_putStringAt cJ2_putStringAt 3 (Option.none : Option Jvm.ClassFile.FieldType)) rm_J2_putStringAt [zA a0, zI a1, zA a2] h (zq_V Q) X := by
  refine zg_start (own := "java/lang/AbstractStringBuilder") (by decide +kernel) rfl (Nat.le_of_ble_eq_true rfl) hl (fun Xc ok tab fin hRm hXl hXZ => ?_)
  subst hXl
  subst hXZ
  unfold f_J2_putStringAt at hE
  exact hE.elim
set_option maxHeartbeats 8000000 in
theorem mt_J2_append_3 {l : Launch} (hl : l.stackTraces = false) {Z : zw_Z} {a0 : Option Nat} {a1 : Option Nat} {h : zw_H} {Q : Option Nat → zw_H → Prop} {X : String → Nat → zw_H → Prop} (hE : f_J2_append_3 Z.2.2.2 a0 a1 h Q X) : zw_Met l Z yJ2_append_3 (ws_ yJ2_append_3 cJ2_append_3 3 (Option.some (Jvm.ClassFile.FieldType.object "java/lang/AbstractStringBuilder"))) rm_J2_append_3 [zA a0, zA a1] h (zq_A Q) X := by
  refine zg_start (own := "java/lang/AbstractStringBuilder") (by decide +kernel) rfl (Nat.le_of_ble_eq_true rfl) hl (fun Xc ok tab fin hRm hXl hXZ => ?_)
  subst hXl
  subst hXZ
  unfold f_J2_append_3 at hE
  refine zg_aload_n ok dJ2_append_3_0 rfl 1 rfl ?_
  refine zg_ifnonnull (tgt := 9) ok dJ2_append_3_1 (by decide) hE (fun hE => ?_) (fun hE => ?_)
  · refine zg_aload_n ok dJ2_append_3_9 rfl 1 rfl ?_
    refine zg_callV (vs := []) (rest := []) (rm := rm_J4_length) ok hRm lk_J2_32 dJ2_append_3_10 hE (fun hE => mt_J4_length hl hE) rfl (Nat.le_of_ble_eq_true rfl) ⟨⟨Nat.le_of_ble_eq_true rfl, Nat.le_of_ble_eq_true rfl⟩, Nat.le_of_ble_eq_true rfl, Nat.le_of_ble_eq_true rfl⟩ (zg_retI (fun v1 h1 hE => ?_)) (zg_xok ok tab fin ⟨Nat.le_of_ble_eq_true rfl, Nat.le_of_ble_eq_true rfl⟩)
    refine zg_cost (kc2 := 0) (ks2 := 0) ⟨rfl, rfl⟩ ?_
    refine zg_istore_nR (L' := [(2, .int v1), (0, va_rf a0), (1, va_rf a1)]) ok dJ2_append_3_13 rfl (by decide) 1 rfl rfl rfl ?_
    refine zg_aload_n ok dJ2_append_3_14 rfl 1 rfl ?_
    refine zg_aload_n ok dJ2_append_3_15 rfl 1 rfl ?_
    refine zg_getI ok lf_J2_79 dJ2_append_3_16 hE (fun v2 hE => ?_)
    refine zg_iload_n ok dJ2_append_3_19 rfl 0 rfl ?_
    refine zg_iadd ok dJ2_append_3_20 ?_
    refine zg_callU (vs := [zI (v2 + v1)]) (rest := []) (rm := rm_J2_ensureCapacityInternal) ok hRm lk_J2_100 dJ2_append_3_21 hE (fun hE => mt_J2_ensureCapacityInternal hl hE) rfl (Nat.le_of_ble_eq_true rfl) ⟨⟨Nat.le_of_ble_eq_true rfl, Nat.le_of_ble_eq_true rfl⟩, Nat.le_of_ble_eq_true rfl, Nat.le_of_ble_eq_true rfl⟩ (zg_retV (fun h2 hE => ?_)) (zg_xok ok tab fin ⟨Nat.le_of_ble_eq_true rfl, Nat.le_of_ble_eq_true rfl⟩)
    refine zg_cost (kc2 := 1) (ks2 := 576) ⟨rfl, rfl⟩ ?_
    refine zg_aload_n ok dJ2_append_3_24 rfl 1 rfl ?_
    refine zg_aload_n ok dJ2_append_3_25 rfl 1 rfl ?_
    refine zg_getI ok lf_J2_79 dJ2_append_3_26 hE (fun v3 hE => ?_)
    refine zg_aload_n ok dJ2_append_3_29 rfl 2 rfl ?_
    refine zg_callU (vs := [zI v3, zA a1]) (rest := []) (rm := rm_J2_putStringAt) ok hRm lk_J2_208 dJ2_append_3_30 hE (fun hE => mt_J2_putStringAt hl hE) rfl (Nat.le_of_ble_eq_true rfl) ⟨⟨Nat.le_of_ble_eq_true rfl, Nat.le_of_ble_eq_true rfl⟩, Nat.le_of_ble_eq_true rfl, Nat.le_of_ble_eq_true rfl⟩ (zg_retV (fun h3 hE => ?_)) (zg_xok ok tab fin ⟨Nat.le_of_ble_eq_true rfl, Nat.le_of_ble_eq_true rfl⟩)
    refine zg_cost (kc2 := 1) (ks2 := 576) ⟨rfl, rfl⟩ ?_
    refine zg_aload_n ok dJ2_append_3_33 rfl 1 rfl ?_
    refine zg_dup ok dJ2_append_3_34 (zw_rfc _) ?_
    refine zg_getI ok lf_J2_79 dJ2_append_3_35 hE (fun v4 hE => ?_)
    refine zg_iload_n ok dJ2_append_3_38 rfl 0 rfl ?_
    refine zg_iadd ok dJ2_append_3_39 ?_
    refine zg_put (ty := .int) ok lf_J2_79 (Or.inl rfl) (by decide) (by decide +kernel) rfl rfl dJ2_append_3_40 hE (fun h4 hE => ?_)
    refine zg_aload_n ok dJ2_append_3_43 rfl 1 rfl ?_
    exact zg_aret ok fin (Or.inl ⟨_, rfl⟩) dJ2_append_3_44 ⟨Nat.le_of_ble_eq_true rfl, Nat.le_of_ble_eq_true rfl⟩ hE
  · exact hE.elim
set_option maxHeartbeats 8000000 in
theorem mt_J3_append_3 {l : Launch} (hl : l.stackTraces = false) {Z : zw_Z} {a0 : Option Nat} {a1 : Option Nat} {h : zw_H} {Q : Option Nat → zw_H → Prop} {X : String → Nat → zw_H → Prop} (hE : f_J3_append_3 Z.2.2.2 a0 a1 h Q X) : zw_Met l Z yJ3_append_3 (ws_ yJ3_append_3 cJ3_append_3 2 (Option.some (Jvm.ClassFile.FieldType.object "java/lang/StringBuilder"))) rm_J3_append_3 [zA a0, zA a1] h (zq_A Q) X := by
  refine zg_startF (own := "java/lang/StringBuilder") (by decide +kernel) rfl (Nat.le_of_ble_eq_true rfl) hl (fun Xc ok tab fin hRm hXl hXZ => ?_)
  subst hXl
  subst hXZ
  unfold f_J3_append_3 at hE
  refine zg_aload_n ok dJ3_append_3_0 rfl 0 rfl ?_
  refine zg_aload_n ok dJ3_append_3_1 rfl 1 rfl ?_
  refine zg_callSU (vs := [zA a1]) (rest := []) (rm := rm_J2_append_3) ok hRm lk_J3_29 dJ3_append_3_2 hE (fun hE => mt_J2_append_3 hl hE) rfl (Nat.le_of_ble_eq_true rfl) ⟨⟨Nat.le_of_ble_eq_true rfl, Nat.le_of_ble_eq_true rfl⟩, Nat.le_of_ble_eq_true rfl, Nat.le_of_ble_eq_true rfl⟩ (zg_retA (fun v1 h1 hE => ?_)) (zg_xok ok tab fin ⟨Nat.le_of_ble_eq_true rfl, Nat.le_of_ble_eq_true rfl⟩)
  refine zg_cost (kc2 := 1) (ks2 := 576) ⟨rfl, rfl⟩ ?_
  refine zg_pop ok dJ3_append_3_5 (zw_rfc _) ?_
  refine zg_aload_n ok dJ3_append_3_6 rfl 0 rfl ?_
  exact zg_aret ok fin (Or.inl ⟨_, rfl⟩) dJ3_append_3_7 ⟨Nat.le_of_ble_eq_true rfl, Nat.le_of_ble_eq_true rfl⟩ hE
set_option maxHeartbeats 8000000 in
theorem mt_J6_init {l : Launch} (hl : l.stackTraces = false) {Z : zw_Z} {a0 : Option Nat} {a1 : Option Nat} {h : zw_H} {Q : zw_H → Prop} {X : String → Nat → zw_H → Prop} (hE : f_J6_init Z.2.2.2 a0 a1 h Q X) : zw_Met l Z yJ6_init (ws_ yJ6_init cJ6_init 2 (Option.none : Option Jvm.ClassFile.FieldType)) rm_J6_init [zA a0, zA a1] h (zq_V Q) X := by
  refine zg_startF (own := "java/lang/Throwable") (by decide +kernel) rfl (Nat.le_of_ble_eq_true rfl) hl (fun Xc ok tab fin hRm hXl hXZ => ?_)
  subst hXl
  subst hXZ
  unfold f_J6_init at hE
  exact hE.elim
set_option maxHeartbeats 8000000 in
theorem mt_J7_init {l : Launch} (hl : l.stackTraces = false) {Z : zw_Z} {a0 : Option Nat} {a1 : Option Nat} {h : zw_H} {Q : zw_H → Prop} {X : String → Nat → zw_H → Prop} (hE : f_J7_init Z.2.2.2 a0 a1 h Q X) : zw_Met l Z yJ7_init (ws_ yJ7_init cJ7_init 2 (Option.none : Option Jvm.ClassFile.FieldType)) rm_J7_init [zA a0, zA a1] h (zq_V Q) X := by
  refine zg_start (own := "java/lang/Exception") (by decide +kernel) rfl (Nat.le_of_ble_eq_true rfl) hl (fun Xc ok tab fin hRm hXl hXZ => ?_)
  subst hXl
  subst hXZ
  unfold f_J7_init at hE
  refine zg_aload_n ok dJ7_init_0 rfl 0 rfl ?_
  refine zg_aload_n ok dJ7_init_1 rfl 1 rfl ?_
  refine zg_callI (vs := [zA a1]) (rest := []) (rm := rm_J6_init) ok hRm lk_J7_7 dJ7_init_2 hE.1 hE.2 (fun hE => mt_J6_init hl hE) rfl (Nat.le_of_ble_eq_true rfl) ⟨⟨Nat.le_of_ble_eq_true rfl, Nat.le_of_ble_eq_true rfl⟩, Nat.le_of_ble_eq_true rfl, Nat.le_of_ble_eq_true rfl⟩ (zg_retV (fun h1 hE => ?_)) (zg_xok ok tab fin ⟨Nat.le_of_ble_eq_true rfl, Nat.le_of_ble_eq_true rfl⟩)
  refine zg_cost (kc2 := 0) (ks2 := 0) ⟨rfl, rfl⟩ ?_
  exact zg_vret ok fin dJ7_init_5 ⟨Nat.le_of_ble_eq_true rfl, Nat.le_of_ble_eq_true rfl⟩ hE
set_option maxHeartbeats 8000000 in
theorem mt_J8_init {l : Launch} (hl : l.stackTraces = false) {Z : zw_Z} {a0 : Option Nat} {a1 : Option Nat} {h : zw_H} {Q : zw_H → Prop} {X : String → Nat → zw_H → Prop} (hE : f_J8_init Z.2.2.2 a0 a1 h Q X) : zw_Met l Z yJ8_init (ws_ yJ8_init cJ8_init 2 (Option.none : Option Jvm.ClassFile.FieldType)) rm_J8_init [zA a0, zA a1] h (zq_V Q) X := by
  refine zg_start (own := "java/lang/RuntimeException") (by decide +kernel) rfl (Nat.le_of_ble_eq_true rfl) hl (fun Xc ok tab fin hRm hXl hXZ => ?_)
  subst hXl
  subst hXZ
  unfold f_J8_init at hE
  refine zg_aload_n ok dJ8_init_0 rfl 0 rfl ?_
  refine zg_aload_n ok dJ8_init_1 rfl 1 rfl ?_
  refine zg_callI (vs := [zA a1]) (rest := []) (rm := rm_J7_init) ok hRm lk_J8_7 dJ8_init_2 hE.1 hE.2 (fun hE => mt_J7_init hl hE) rfl (Nat.le_of_ble_eq_true rfl) ⟨⟨Nat.le_of_ble_eq_true rfl, Nat.le_of_ble_eq_true rfl⟩, Nat.le_of_ble_eq_true rfl, Nat.le_of_ble_eq_true rfl⟩ (zg_retV (fun h1 hE => ?_)) (zg_xok ok tab fin ⟨Nat.le_of_ble_eq_true rfl, Nat.le_of_ble_eq_true rfl⟩)
  refine zg_cost (kc2 := 0) (ks2 := 0) ⟨rfl, rfl⟩ ?_
  exact zg_vret ok fin dJ8_init_5 ⟨Nat.le_of_ble_eq_true rfl, Nat.le_of_ble_eq_true rfl⟩ hE
set_option maxHeartbeats 8000000 in
theorem mt_J18_init {l : Launch} (hl : l.stackTraces = false) {Z : zw_Z} {a0 : Option Nat} {a1 : Option Nat} {h : zw_H} {Q : zw_H → Prop} {X : String → Nat → zw_H → Prop} (hE : f_J18_init Z.2.2.2 a0 a1 h Q X) : zw_Met l Z yJ18_init (ws_ yJ18_init cJ18_init 2 (Option.none : Option Jvm.ClassFile.FieldType)) rm_J18_init [zA a0, zA a1] h (zq_V Q) X := by
  refine zg_start (own := "java/lang/IllegalArgumentException") (by decide +kernel) rfl (Nat.le_of_ble_eq_true rfl) hl (fun Xc ok tab fin hRm hXl hXZ => ?_)
  subst hXl
  subst hXZ
  unfold f_J18_init at hE
  refine zg_aload_n ok dJ18_init_0 rfl 0 rfl ?_
  refine zg_aload_n ok dJ18_init_1 rfl 1 rfl ?_
  refine zg_callI (vs := [zA a1]) (rest := []) (rm := rm_J8_init) ok hRm lk_J18_7 dJ18_init_2 hE.1 hE.2 (fun hE => mt_J8_init hl hE) rfl (Nat.le_of_ble_eq_true rfl) ⟨⟨Nat.le_of_ble_eq_true rfl, Nat.le_of_ble_eq_true rfl⟩, Nat.le_of_ble_eq_true rfl, Nat.le_of_ble_eq_true rfl⟩ (zg_retV (fun h1 hE => ?_)) (zg_xok ok tab fin ⟨Nat.le_of_ble_eq_true rfl, Nat.le_of_ble_eq_true rfl⟩)
  refine zg_cost (kc2 := 0) (ks2 := 0) ⟨rfl, rfl⟩ ?_
  exact zg_vret ok fin dJ18_init_5 ⟨Nat.le_of_ble_eq_true rfl, Nat.le_of_ble_eq_true rfl⟩ hE
set_option maxHeartbeats 8000000 in
theorem mt_J15_checkLength {l : Launch} (hl : l.stackTraces = false) {Z : zw_Z} {a0 : Int32} {a1 : Int32} {h : zw_H} {Q : zw_H → Prop} {X : String → Nat → zw_H → Prop} (hE : f_J15_checkLength Z.2.2.2 a0 a1 h Q X) : zw_Met l Z yJ15_checkLength (ws_ yJ15_checkLength cJ15_checkLength 2 (Option.none : Option Jvm.ClassFile.FieldType)) rm_J15_checkLength [zI a0, zI a1] h (zq_V Q) X := by
  refine zg_start (own := "java/util/Arrays") (by decide +kernel) rfl (Nat.le_of_ble_eq_true rfl) hl (fun Xc ok tab fin hRm hXl hXZ => ?_)
  subst hXl
  subst hXZ
  unfold f_J15_checkLength at hE
  refine zg_iload_n ok dJ15_checkLength_0 rfl 1 rfl ?_
  refine zg_iload_n ok dJ15_checkLength_1 rfl 0 rfl ?_
  refine zg_icmp_ge (tgt := 37) ok dJ15_checkLength_2 (by decide) hE (fun hE => ?_) (fun hE => ?_)
  · exact zg_vret ok fin dJ15_checkLength_37 ⟨Nat.le_of_ble_eq_true rfl, Nat.le_of_ble_eq_true rfl⟩ hE
  · exact hE.elim
set_option maxHeartbeats 8000000 in
theorem mt_J15_copyOfRangeByte {l : Launch} (hl : l.stackTraces = false) {Z : zw_Z} {a0 : Option Nat} {a1 : Int32} {a2 : Int32} {h : zw_H} {Q : Option Nat → zw_H → Prop} {X : String → Nat → zw_H → Prop} (hE : f_J15_copyOfRangeByte Z.2.2.2 a0 a1 a2 h Q X) : zw_Met l Z yJ15_copyOfRangeByte (ws_ yJ15_copyOfRangeByte cJ15_copyOfRangeByte 5 (Option.some (Jvm.ClassFile.FieldType.array Jvm.ClassFile.FieldType.byte))) rm_J15_copyOfRangeByte [zA a0, zI a1, zI a2] h (zq_A Q) X := by
  refine zg_start (own := "java/util/Arrays") (by decide +kernel) rfl (Nat.le_of_ble_eq_true rfl) hl (fun Xc ok tab fin hRm hXl hXZ => ?_)
  subst hXl
  subst hXZ
  unfold f_J15_copyOfRangeByte at hE
  refine zg_iload_n ok dJ15_copyOfRangeByte_0 rfl 1 rfl ?_
  refine zg_iload_n ok dJ15_copyOfRangeByte_1 rfl 2 rfl ?_
  refine zg_callS (vs := [zI a1, zI a2]) (rest := []) (rm := rm_J15_checkLength) ok hRm lk_J15_343 dJ15_copyOfRangeByte_2 hE (fun hE => mt_J15_checkLength hl hE) rfl (Nat.le_of_ble_eq_true rfl) ⟨⟨Nat.le_of_ble_eq_true rfl, Nat.le_of_ble_eq_true rfl⟩, Nat.le_of_ble_eq_true rfl, Nat.le_of_ble_eq_true rfl⟩ (zg_retV (fun h1 hE => ?_)) (zg_xok ok tab fin ⟨Nat.le_of_ble_eq_true rfl, Nat.le_of_ble_eq_true rfl⟩)
  refine zg_cost (kc2 := 0) (ks2 := 0) ⟨rfl, rfl⟩ ?_
  refine zg_iload_n ok dJ15_copyOfRangeByte_5 rfl 2 rfl ?_
  refine zg_iload_n ok dJ15_copyOfRangeByte_6 rfl 1 rfl ?_
  refine zg_isub ok dJ15_copyOfRangeByte_7 ?_
  refine zg_letI hE (fun v1 hE => ?_)
  refine zg_istore_n (L' := [(3, .int v1), (0, va_rf a0), (1, .int a1), (2, .int a2)]) ok dJ15_copyOfRangeByte_8 rfl (by decide) rfl ?_
  refine zg_iload_n ok dJ15_copyOfRangeByte_9 rfl 0 rfl ?_
  refine zg_newB (b := 16) ok (by rw [hRm]; exact ⟨Nat.le_of_ble_eq_true rfl, Nat.le_of_ble_eq_true rfl⟩) (Nat.le_of_ble_eq_true rfl) dJ15_copyOfRangeByte_10 hE (fun v2 h2 hE => ?_)
  refine zg_cost (kc2 := 1) (ks2 := 16) ⟨rfl, rfl⟩ ?_
  refine zg_astore (L' := [(4, va_rf (some v2)), (3, .int v1), (0, va_rf a0), (1, .int a1), (2, .int a2)]) ok dJ15_copyOfRangeByte_12 (by decide) rfl ?_
  refine zg_aload_n ok dJ15_copyOfRangeByte_14 rfl 2 rfl ?_
  refine zg_iload_n ok dJ15_copyOfRangeByte_15 rfl 3 rfl ?_
  refine zg_aload ok dJ15_copyOfRangeByte_16 0 rfl ?_
  refine zg_iconst (v := 0) ok dJ15_copyOfRangeByte_18 (by decide) ?_
  refine zg_aload_n ok dJ15_copyOfRangeByte_19 rfl 2 rfl ?_
  refine zg_alen ok dJ15_copyOfRangeByte_20 hE (fun v3 hE => ?_)
  refine zg_iload_n ok dJ15_copyOfRangeByte_21 rfl 3 rfl ?_
  refine zg_isub ok dJ15_copyOfRangeByte_22 ?_
  refine zg_iload_n ok dJ15_copyOfRangeByte_23 rfl 1 rfl ?_
  refine zg_callS (vs := [zI (v3 - a1), zI v1]) (rest := [.int 0, va_rf (some v2), .int a1, va_rf a0]) (rm := rm_J14_min) ok hRm lk_J15_304 dJ15_copyOfRangeByte_24 hE (fun hE => mt_J14_min hl hE) rfl (Nat.le_of_ble_eq_true rfl) ⟨⟨Nat.le_of_ble_eq_true rfl, Nat.le_of_ble_eq_true rfl⟩, Nat.le_of_ble_eq_true rfl, Nat.le_of_ble_eq_true rfl⟩ (zg_retI (fun v4 h3 hE => ?_)) (zg_xok ok tab fin ⟨Nat.le_of_ble_eq_true rfl, Nat.le_of_ble_eq_true rfl⟩)
  refine zg_cost (kc2 := 1) (ks2 := 16) ⟨rfl, rfl⟩ ?_
  refine zg_cpB ok hRm q559 ⟨by decide, by decide⟩ (Nat.le_of_ble_eq_true rfl) dJ15_copyOfRangeByte_27 hE (fun h4 hE => ?_)
  refine zg_aload ok dJ15_copyOfRangeByte_30 0 rfl ?_
  exact zg_aret ok fin (Or.inr ⟨_, rfl⟩) dJ15_copyOfRangeByte_32 ⟨Nat.le_of_ble_eq_true rfl, Nat.le_of_ble_eq_true rfl⟩ hE
set_option maxHeartbeats 8000000 in
theorem gt_f_J15_copyOfRange_J10 {Xc : zw_X} {Q : Option Nat → zw_H → Prop} {X : String → Nat → zw_H → Prop} (hl : (zw_l Xc).stackTraces = false) (ok : zw_ok Xc cJ15_copyOfRange "java/util/Arrays" yJ15_copyOfRange.name 3) (tab : zw_tab Xc []) (fin : zw_fin Xc (Option.some (Jvm.ClassFile.FieldType.array Jvm.ClassFile.FieldType.byte)) (zq_A Q) X 1 16) (hRm : zw_rm Xc = rm_J15_copyOfRange)  {l0 : Option Nat} {l1 : Int32} {l2 : Int32}  {h : zw_H} (hE : f_J15_copyOfRange_J10 (zw_Zf Xc).2.2.2 Q X  l0 l1 l2 h) : zw_G Xc 0 0 3 h 10 [(0, va_rf l0), (1, .int l1), (2, .int l2)] [] := by
  unfold f_J15_copyOfRange_J10 at hE
  refine zg_aload_n ok dJ15_copyOfRange_10 rfl 0 rfl ?_
  refine zg_iload_n ok dJ15_copyOfRange_11 rfl 1 rfl ?_
  refine zg_iload_n ok dJ15_copyOfRange_12 rfl 2 rfl ?_
  refine zg_callS (vs := [zA l0, zI l1, zI l2]) (rest := []) (rm := rm_J15_copyOfRangeByte) ok hRm lk_J15_339 dJ15_copyOfRange_13 hE (fun hE => mt_J15_copyOfRangeByte hl hE) rfl (Nat.le_of_ble_eq_true rfl) ⟨⟨Nat.le_of_ble_eq_true rfl, Nat.le_of_ble_eq_true rfl⟩, Nat.le_of_ble_eq_true rfl, Nat.le_of_ble_eq_true rfl⟩ (zg_retA (fun v1 h1 hE => ?_)) (zg_xok ok tab fin ⟨Nat.le_of_ble_eq_true rfl, Nat.le_of_ble_eq_true rfl⟩)
  refine zg_cost (kc2 := 1) (ks2 := 16) ⟨rfl, rfl⟩ ?_
  exact zg_aret ok fin (Or.inr ⟨_, rfl⟩) dJ15_copyOfRange_16 ⟨Nat.le_of_ble_eq_true rfl, Nat.le_of_ble_eq_true rfl⟩ hE
set_option maxHeartbeats 8000000 in
theorem mt_J15_copyOfRange {l : Launch} (hl : l.stackTraces = false) {Z : zw_Z} {a0 : Option Nat} {a1 : Int32} {a2 : Int32} {h : zw_H} {Q : Option Nat → zw_H → Prop} {X : String → Nat → zw_H → Prop} (hE : f_J15_copyOfRange Z.2.2.2 a0 a1 a2 h Q X) : zw_Met l Z yJ15_copyOfRange (ws_ yJ15_copyOfRange cJ15_copyOfRange 3 (Option.some (Jvm.ClassFile.FieldType.array Jvm.ClassFile.FieldType.byte))) rm_J15_copyOfRange [zA a0, zI a1, zI a2] h (zq_A Q) X := by
  refine zg_start (own := "java/util/Arrays") (by decide +kernel) rfl (Nat.le_of_ble_eq_true rfl) hl (fun Xc ok tab fin hRm hXl hXZ => ?_)
  subst hXl
  subst hXZ
  unfold f_J15_copyOfRange at hE
  refine zg_iload_n ok dJ15_copyOfRange_0 rfl 1 rfl ?_
  refine zg_if_ne (tgt := 10) ok dJ15_copyOfRange_1 (by decide) hE (fun hE => ?_) (fun hE => ?_)
  · exact gt_f_J15_copyOfRange_J10 hl ok tab fin hRm  hE
  · refine zg_iload_n ok dJ15_copyOfRange_4 rfl 2 rfl ?_
    refine zg_aload_n ok dJ15_copyOfRange_5 rfl 0 rfl ?_
    refine zg_alen ok dJ15_copyOfRange_6 hE (fun v2 hE => ?_)
    refine zg_icmp_eq (tgt := 17) ok dJ15_copyOfRange_7 (by decide) hE (fun hE => ?_) (fun hE => ?_)
    · exact hE.elim
    · exact gt_f_J15_copyOfRange_J10 hl ok tab fin hRm  hE
set_option maxHeartbeats 8000000 in
theorem mt_J5_coderFromArrayLen {l : Launch} (hl : l.stackTraces = false) {Z : zw_Z} {a0 : Option Nat} {a1 : Int32} {h : zw_H} {Q : Int32 → zw_H → Prop} {X : String → Nat → zw_H → Prop} (hE : f_J5_coderFromArrayLen Z.2.2.2 a0 a1 h Q X) : zw_Met l Z yJ5_coderFromArrayLen (ws_ yJ5_coderFromArrayLen cJ5_coderFromArrayLen 2 (Option.some Jvm.ClassFile.FieldType.byte)) rm_J5_coderFromArrayLen [zA a0, zI a1] h (zq_I Q) X := by
  refine zg_start (own := "java/lang/StringUTF16") (by decide +kernel) rfl (Nat.le_of_ble_eq_true rfl) hl (fun Xc ok tab fin hRm hXl hXZ => ?_)
  subst hXl
  subst hXZ
  unfold f_J5_coderFromArrayLen at hE
  refine zg_iload_n ok dJ5_coderFromArrayLen_0 rfl 1 rfl ?_
  refine zg_aload_n ok dJ5_coderFromArrayLen_1 rfl 0 rfl ?_
  refine zg_alen ok dJ5_coderFromArrayLen_2 hE (fun v1 hE => ?_)
  refine zg_isub ok dJ5_coderFromArrayLen_3 ?_
  refine zg_bipush (v := 31) ok dJ5_coderFromArrayLen_4 (by decide) ?_
  refine zg_iushr ok dJ5_coderFromArrayLen_6 ?_
  refine zg_i2b ok dJ5_coderFromArrayLen_7 ?_
  exact zg_bret ok fin dJ5_coderFromArrayLen_8 ⟨Nat.le_of_ble_eq_true rfl, Nat.le_of_ble_eq_true rfl⟩ hE.1 hE.2
set_option maxHeartbeats 8000000 in
theorem gt_f_J4_init_2_J79 {Xc : zw_X} {Q : zw_H → Prop} {X : String → Nat → zw_H → Prop} (hl : (zw_l Xc).stackTraces = false) (ok : zw_ok Xc cJ4_init_2 "java/lang/String" yJ4_init_2.name 5) (tab : zw_tab Xc []) (fin : zw_fin Xc (Option.none : Option Jvm.ClassFile.FieldType) (zq_V Q) X 1 16) (hRm : zw_rm Xc = rm_J4_init_2)  {l0 : Option Nat} {l3 : Option Nat} {l4 : Int32}  {h : zw_H} (hE : f_J4_init_2_J79 (zw_Zf Xc).2.2.2 Q X  l0 l3 l4 h) : zw_G Xc 0 0 5 h 79 [(0, va_rf l0), (3, va_rf l3), (4, .int l4)] [] := by
  unfold f_J4_init_2_J79 at hE
  refine zg_aload_n ok dJ4_init_2_79 rfl 0 rfl ?_
  refine zg_iconst (v := 1) ok dJ4_init_2_80 (by decide) ?_
  refine zg_put (ty := .byte) ok lf_J4_15w (Or.inr ⟨rfl, rfl, rfl, "java/lang/String", q755, Or.inl rfl⟩) (by decide) (by decide +kernel) rfl rfl dJ4_init_2_81 hE (fun h4 hE => ?_)
  refine zg_aload_n ok dJ4_init_2_84 rfl 0 rfl ?_
  refine zg_aload_n ok dJ4_init_2_85 rfl 1 rfl ?_
  refine zg_iconst (v := 0) ok dJ4_init_2_86 (by decide) ?_
  refine zg_iload ok dJ4_init_2_87 2 rfl ?_
  refine zg_iconst (v := 1) ok dJ4_init_2_89 (by decide) ?_
  refine zg_ishl ok dJ4_init_2_90 ?_
  refine zg_callS (vs := [zA l3, zI 0, zI (l4 <<< (1 &&& 31))]) (rest := [va_rf l0]) (rm := rm_J15_copyOfRange) ok hRm lk_J4_54 dJ4_init_2_91 hE (fun hE => mt_J15_copyOfRange hl hE) rfl (Nat.le_of_ble_eq_true rfl) ⟨⟨Nat.le_of_ble_eq_true rfl, Nat.le_of_ble_eq_true rfl⟩, Nat.le_of_ble_eq_true rfl, Nat.le_of_ble_eq_true rfl⟩ (zg_retA (fun v4 h5 hE => ?_)) (zg_xok ok tab fin ⟨Nat.le_of_ble_eq_true rfl, Nat.le_of_ble_eq_true rfl⟩)
  refine zg_cost (kc2 := 1) (ks2 := 16) ⟨rfl, rfl⟩ ?_
  refine zg_put (ty := (.array .byte)) ok lf_J4_9w (Or.inr ⟨rfl, rfl, rfl, "java/lang/String", q754, Or.inl rfl⟩) (by decide) (by decide +kernel) (zw_nrA _ _) (zw_frA _ _) dJ4_init_2_94 hE (fun h6 hE => ?_)
  exact zg_vret ok fin dJ4_init_2_97 ⟨Nat.le_of_ble_eq_true rfl, Nat.le_of_ble_eq_true rfl⟩ hE
set_option maxHeartbeats 8000000 in
theorem mt_J4_init_2 {l : Launch} (hl : l.stackTraces = false) {Z : zw_Z} {a0 : Option Nat} {a1 : Option Nat} {a2 : Option Nat} {h : zw_H} {Q : zw_H → Prop} {X : String → Nat → zw_H → Prop} (hE : f_J4_init_2 Z.2.2.2 a0 a1 a2 h Q X) : zw_Met l Z yJ4_init_2 (ws_ yJ4_init_2 cJ4_init_2 5 (Option.none : Option Jvm.ClassFile.FieldType)) rm_J4_init_2 [zA a0, zA a1, zA a2] h (zq_V Q) X := by
  refine zg_startF (own := "java/lang/String") (by decide +kernel) rfl (Nat.le_of_ble_eq_true rfl) hl (fun Xc ok tab fin hRm hXl hXZ => ?_)
  subst hXl
  subst hXZ
  unfold f_J4_init_2 at hE
  refine zg_aload_n ok dJ4_init_2_0 rfl 0 rfl ?_
  refine zg_objInitE (rest := []) ok hRm q626 ⟨Nat.le_of_ble_eq_true rfl, Nat.le_of_ble_eq_true rfl⟩ (Nat.le_of_ble_eq_true rfl) dJ4_init_2_1 hE (fun hE => ?_)
  refine zg_aload_n ok dJ4_init_2_4 rfl 1 rfl ?_
  refine zg_callU (vs := []) (rest := []) (rm := rm_J2_getValue) ok hRm lk_J4_552 dJ4_init_2_5 hE (fun hE => mt_J2_getValue hl hE) rfl (Nat.le_of_ble_eq_true rfl) ⟨⟨Nat.le_of_ble_eq_true rfl, Nat.le_of_ble_eq_true rfl⟩, Nat.le_of_ble_eq_true rfl, Nat.le_of_ble_eq_true rfl⟩ (zg_retA (fun v1 h1 hE => ?_)) (zg_xok ok tab fin ⟨Nat.le_of_ble_eq_true rfl, Nat.le_of_ble_eq_true rfl⟩)
  refine zg_cost (kc2 := 0) (ks2 := 0) ⟨rfl, rfl⟩ ?_
  refine zg_astore_nR (L' := [(3, va_rf v1), (0, va_rf a0), (1, va_rf a1), (2, va_rf a2)]) ok dJ4_init_2_8 rfl (by decide) 2 rfl rfl rfl ?_
  refine zg_aload_n ok dJ4_init_2_9 rfl 2 rfl ?_
  refine zg_callU (vs := []) (rest := []) (rm := rm_J3_length) ok hRm lk_J4_549 dJ4_init_2_10 hE (fun hE => mt_J3_length hl hE) rfl (Nat.le_of_ble_eq_true rfl) ⟨⟨Nat.le_of_ble_eq_true rfl, Nat.le_of_ble_eq_true rfl⟩, Nat.le_of_ble_eq_true rfl, Nat.le_of_ble_eq_true rfl⟩ (zg_retI (fun v2 h2 hE => ?_)) (zg_xok ok tab fin ⟨Nat.le_of_ble_eq_true rfl, Nat.le_of_ble_eq_true rfl⟩)
  refine zg_cost (kc2 := 0) (ks2 := 0) ⟨rfl, rfl⟩ ?_
  refine zg_istoreR (L' := [(4, .int v2), (3, va_rf v1), (0, va_rf a0), (1, va_rf a1), (2, va_rf a2)]) ok dJ4_init_2_13 (by decide) 0 rfl rfl rfl ?_
  refine zg_aload_n ok dJ4_init_2_15 rfl 3 rfl ?_
  refine zg_callU (vs := []) (rest := []) (rm := rm_J2_isLatin1) ok hRm lk_J4_1047 dJ4_init_2_16 hE (fun hE => mt_J2_isLatin1 hl hE) rfl (Nat.le_of_ble_eq_true rfl) ⟨⟨Nat.le_of_ble_eq_true rfl, Nat.le_of_ble_eq_true rfl⟩, Nat.le_of_ble_eq_true rfl, Nat.le_of_ble_eq_true rfl⟩ (zg_retI (fun v3 h3 hE => ?_)) (zg_xok ok tab fin ⟨Nat.le_of_ble_eq_true rfl, Nat.le_of_ble_eq_true rfl⟩)
  refine zg_cost (kc2 := 0) (ks2 := 0) ⟨rfl, rfl⟩ ?_
  refine zg_if_eq (tgt := 41) ok dJ4_init_2_19 (by decide) hE (fun hE => ?_) (fun hE => ?_)
  · refine zg_getsI (C := "java/lang/String") (n := "COMPACT_STRINGS") (d' := "Z") (v := 1) ok (List.mem_of_getElem? (i := 0) rfl) q718 dJ4_init_2_41 ?_
    refine zg_if_eq (tgt := 79) ok dJ4_init_2_44 (by decide) hE (fun hE => ?_) (fun hE => ?_)
    · refine zg_sub (L' := [(0, va_rf a0), (3, va_rf v1), (4, .int v2)]) [2, 1, 0] rfl ?_
      exact gt_f_J4_init_2_J79 hl ok tab fin hRm  hE
    · refine zg_aload_n ok dJ4_init_2_47 rfl 3 rfl ?_
      refine zg_getI ok lf_J4_1048 dJ4_init_2_48 hE (fun v5 hE => ?_)
      refine zg_if_eq (tgt := 79) ok dJ4_init_2_51 (by decide) hE (fun hE => ?_) (fun hE => ?_)
      · refine zg_sub (L' := [(0, va_rf a0), (3, va_rf v1), (4, .int v2)]) [2, 1, 0] rfl ?_
        exact gt_f_J4_init_2_J79 hl ok tab fin hRm  hE
      · exact hE.elim
  · refine zg_aload_n ok dJ4_init_2_22 rfl 2 rfl ?_
    refine zg_iconst (v := 0) ok dJ4_init_2_23 (by decide) ?_
    refine zg_put (ty := .byte) ok lf_J4_15w (Or.inr ⟨rfl, rfl, rfl, "java/lang/String", q755, Or.inl rfl⟩) (by decide) (by decide +kernel) rfl rfl dJ4_init_2_24 hE (fun h7 hE => ?_)
    refine zg_aload_n ok dJ4_init_2_27 rfl 2 rfl ?_
    refine zg_aload_n ok dJ4_init_2_28 rfl 1 rfl ?_
    refine zg_iconst (v := 0) ok dJ4_init_2_29 (by decide) ?_
    refine zg_iload ok dJ4_init_2_30 0 rfl ?_
    refine zg_callS (vs := [zA v1, zI 0, zI v2]) (rest := [va_rf a0]) (rm := rm_J15_copyOfRange) ok hRm lk_J4_54 dJ4_init_2_32 hE (fun hE => mt_J15_copyOfRange hl hE) rfl (Nat.le_of_ble_eq_true rfl) ⟨⟨Nat.le_of_ble_eq_true rfl, Nat.le_of_ble_eq_true rfl⟩, Nat.le_of_ble_eq_true rfl, Nat.le_of_ble_eq_true rfl⟩ (zg_retA (fun v6 h8 hE => ?_)) (zg_xok ok tab fin ⟨Nat.le_of_ble_eq_true rfl, Nat.le_of_ble_eq_true rfl⟩)
    refine zg_cost (kc2 := 1) (ks2 := 16) ⟨rfl, rfl⟩ ?_
    refine zg_put (ty := (.array .byte)) ok lf_J4_9w (Or.inr ⟨rfl, rfl, rfl, "java/lang/String", q754, Or.inl rfl⟩) (by decide) (by decide +kernel) (zw_nrA _ _) (zw_frA _ _) dJ4_init_2_35 hE (fun h9 hE => ?_)
    refine zg_goto (tgt := 97) ok dJ4_init_2_38 (by decide) ?_
    exact zg_vret ok fin dJ4_init_2_97 ⟨Nat.le_of_ble_eq_true rfl, Nat.le_of_ble_eq_true rfl⟩ hE
set_option maxHeartbeats 8000000 in
theorem mt_J4_init {l : Launch} (hl : l.stackTraces = false) {Z : zw_Z} {a0 : Option Nat} {a1 : Option Nat} {h : zw_H} {Q : zw_H → Prop} {X : String → Nat → zw_H → Prop} (hE : f_J4_init Z.2.2.2 a0 a1 h Q X) : zw_Met l Z yJ4_init (ws_ yJ4_init cJ4_init 2 (Option.none : Option Jvm.ClassFile.FieldType)) rm_J4_init [zA a0, zA a1] h (zq_V Q) X := by
  refine zg_startF (own := "java/lang/String") (by decide +kernel) rfl (Nat.le_of_ble_eq_true rfl) hl (fun Xc ok tab fin hRm hXl hXZ => ?_)
  subst hXl
  subst hXZ
  unfold f_J4_init at hE
  refine zg_aload_n ok dJ4_init_0 rfl 0 rfl ?_
  refine zg_aload_n ok dJ4_init_1 rfl 1 rfl ?_
  refine zg_null ok dJ4_init_2 ?_
  refine zg_callI (vs := [zA a1, zA none]) (rest := []) (rm := rm_J4_init_2) ok hRm lk_J4_489 dJ4_init_3 hE.1 hE.2 (fun hE => mt_J4_init_2 hl hE) rfl (Nat.le_of_ble_eq_true rfl) ⟨⟨Nat.le_of_ble_eq_true rfl, Nat.le_of_ble_eq_true rfl⟩, Nat.le_of_ble_eq_true rfl, Nat.le_of_ble_eq_true rfl⟩ (zg_retV (fun h1 hE => ?_)) (zg_xok ok tab fin ⟨Nat.le_of_ble_eq_true rfl, Nat.le_of_ble_eq_true rfl⟩)
  refine zg_cost (kc2 := 1) (ks2 := 16) ⟨rfl, rfl⟩ ?_
  exact zg_vret ok fin dJ4_init_6 ⟨Nat.le_of_ble_eq_true rfl, Nat.le_of_ble_eq_true rfl⟩ hE
set_option maxHeartbeats 8000000 in
theorem mt_J3_toString {l : Launch} (hl : l.stackTraces = false) {Z : zw_Z} {a0 : Option Nat} {h : zw_H} {Q : Option Nat → zw_H → Prop} {X : String → Nat → zw_H → Prop} (hE : f_J3_toString Z.2.2.2 a0 h Q X) : zw_Met l Z yJ3_toString (ws_ yJ3_toString cJ3_toString 1 (Option.some (Jvm.ClassFile.FieldType.object "java/lang/String"))) rm_J3_toString [zA a0] h (zq_A Q) X := by
  refine zg_startF (own := "java/lang/StringBuilder") (by decide +kernel) rfl (Nat.le_of_ble_eq_true rfl) hl (fun Xc ok tab fin hRm hXl hXZ => ?_)
  subst hXl
  subst hXZ
  unfold f_J3_toString at hE
  refine zg_new ok ln_J3_18 (by rw [hRm]; exact ⟨Nat.le_of_ble_eq_true rfl, Nat.le_of_ble_eq_true rfl⟩) dJ3_toString_0 hE (fun v1 h1 hE => ?_)
  refine zg_cost (kc2 := 1) (ks2 := 4) ⟨rfl, rfl⟩ ?_
  refine zg_dup ok dJ3_toString_3 (zw_rfc _) ?_
  refine zg_aload_n ok dJ3_toString_4 rfl 0 rfl ?_
  refine zg_callI (vs := [zA a0]) (rest := [va_rf (some v1)]) (rm := rm_J4_init) ok hRm lk_J3_137 dJ3_toString_5 (by simp) hE (fun hE => mt_J4_init hl hE) rfl (Nat.le_of_ble_eq_true rfl) ⟨⟨Nat.le_of_ble_eq_true rfl, Nat.le_of_ble_eq_true rfl⟩, Nat.le_of_ble_eq_true rfl, Nat.le_of_ble_eq_true rfl⟩ (zg_retV (fun h2 hE => ?_)) (zg_xok ok tab fin ⟨Nat.le_of_ble_eq_true rfl, Nat.le_of_ble_eq_true rfl⟩)
  refine zg_cost (kc2 := 2) (ks2 := 20) ⟨rfl, rfl⟩ ?_
  exact zg_aret ok fin (Or.inl ⟨_, rfl⟩) dJ3_toString_8 ⟨Nat.le_of_ble_eq_true rfl, Nat.le_of_ble_eq_true rfl⟩ hE
set_option maxHeartbeats 8000000 in
theorem gt_f_X3_letters_B11 {Xc : zw_X} {Q : Option Nat → zw_H → Prop} {X : String → Nat → zw_H → Prop} (hl : (zw_l Xc).stackTraces = false) (ok : zw_ok Xc cX3_letters "MultipoleLine$Parser" yX3_letters.name 5) (tab : zw_tab Xc []) (fin : zw_fin Xc (Option.some (Jvm.ClassFile.FieldType.object "java/lang/String")) (zq_A Q) X 4 40) (hRm : zw_rm Xc = rm_X3_letters) {kc ks : Nat} (hb : kc ≤ 4 ∧ ks ≤ 40) {R : Int32 → zw_H → Prop} {l0 : Option Nat} {l2 : Int32} {l3 : Option Nat} (hR : ∀ (l4 : Int32) (h : zw_H), R l4 h → zw_G Xc kc ks 5 h 11 [(0, va_rf l0), (2, .int l2), (3, va_rf l3), (4, .int l4)] []) {k35 : zw_H → Prop} (hk35 : ∀  (h : zw_H), k35  h → zw_G Xc kc ks 5 h 35 [(3, va_rf l3)] [])  {l4 : Int32} {h : zw_H} (hE : f_X3_letters_B11 (zw_Zf Xc).2.2.2 Q X k35 l0 l2 l3 R l4 h) : zw_G Xc kc ks 5 h 11 [(0, va_rf l0), (2, .int l2), (3, va_rf l3), (4, .int l4)] [] := by
  unfold f_X3_letters_B11 at hE
  refine zg_iload ok dX3_letters_11 3 rfl ?_
  refine zg_iload_n ok dX3_letters_13 rfl 1 rfl ?_
  refine zg_icmp_ge (tgt := 35) ok dX3_letters_14 (by decide) hE (fun hE => ?_) (fun hE => ?_)
  · refine zg_sub (L' := [(3, va_rf l3)]) [2] rfl ?_
    exact hk35 _ hE
  · refine zg_aload_n ok dX3_letters_17 rfl 2 rfl ?_
    refine zg_aload_n ok dX3_letters_18 rfl 0 rfl ?_
    refine zg_iload ok dX3_letters_19 3 rfl ?_
    refine zg_callV (vs := [zI l4]) (rest := [va_rf l3]) (rm := rm_X3_at) ok hRm lk_X3_39 dX3_letters_21 hE (fun hE => mt_X3_at hl hE) rfl (Nat.le_of_ble_eq_true rfl) ⟨⟨Nat.le_of_ble_eq_true rfl, Nat.le_of_ble_eq_true rfl⟩, (by show kc + 0 ≤ 4; omega), (by show ks + 0 ≤ 40; omega)⟩ (zg_retI (fun v2 h3 hE => ?_)) (zg_xok ok tab fin ⟨(by show kc + 0 ≤ 4; omega), (by show ks + 0 ≤ 40; omega)⟩)
    refine zg_cost (kc2 := kc) (ks2 := ks) ⟨(by show kc + 0 = kc; omega), (by show ks + 0 = ks; omega)⟩ ?_
    refine zg_i2c ok dX3_letters_24 ?_
    refine zg_callV (vs := [zI ((v2.toUInt32 % 65536).toInt32)]) (rest := []) (rm := rm_J3_appendn) ok hRm lk_X3_50 dX3_letters_25 hE (fun hE => mt_J3_appendn hl hE) rfl (Nat.le_of_ble_eq_true rfl) ⟨⟨Nat.le_of_ble_eq_true rfl, Nat.le_of_ble_eq_true rfl⟩, (by show kc + 0 ≤ 4; omega), (by show ks + 0 ≤ 40; omega)⟩ (zg_retA (fun v3 h4 hE => ?_)) (zg_xok ok tab fin ⟨(by show kc + 0 ≤ 4; omega), (by show ks + 0 ≤ 40; omega)⟩)
    refine zg_cost (kc2 := kc) (ks2 := ks) ⟨(by show kc + 0 = kc; omega), (by show ks + 0 = ks; omega)⟩ ?_
    refine zg_pop ok dX3_letters_28 (zw_rfc _) ?_
    refine zg_iincLR (k := 3) (L' := fun v4 => [(4, .int v4), (0, va_rf l0), (2, .int l2), (3, va_rf l3)]) ok dX3_letters_29 (by decide +kernel) hE rfl (by decide) rfl (k9 := 2) rfl (fun _ => rfl) (fun v4 hE => ?_)
    refine zg_goto (tgt := 11) ok dX3_letters_32 (by decide) ?_
    refine zg_sub (L' := [(0, va_rf l0), (2, .int l2), (3, va_rf l3), (4, .int v4)]) [1, 2, 3, 0] rfl ?_
    exact hR _ _ hE
theorem gt_f_X3_letters_L11 {Xc : zw_X} {Q : Option Nat → zw_H → Prop} {X : String → Nat → zw_H → Prop} (hl : (zw_l Xc).stackTraces = false) (ok : zw_ok Xc cX3_letters "MultipoleLine$Parser" yX3_letters.name 5) (tab : zw_tab Xc []) (fin : zw_fin Xc (Option.some (Jvm.ClassFile.FieldType.object "java/lang/String")) (zq_A Q) X 4 40) (hRm : zw_rm Xc = rm_X3_letters) {kc ks : Nat} (hb : kc ≤ 4 ∧ ks ≤ 40) {l0 : Option Nat} {l2 : Int32} {l3 : Option Nat} {k35 : zw_H → Prop} (hk35 : ∀  (h : zw_H), k35  h → zw_G Xc kc ks 5 h 35 [(3, va_rf l3)] [])  : ∀ (n9 : Nat) (l4 : Int32) (h : zw_H), zl2 (f_X3_letters_B11 (zw_Zf Xc).2.2.2 Q X k35 l0 l2 l3) n9 l4 h → zw_G Xc kc ks 5 h 11 [(0, va_rf l0), (2, .int l2), (3, va_rf l3), (4, .int l4)] [] := by
  intro n9
  induction n9 with
  | zero => intro l4 h hE; exact hE.elim
  | succ n9 ih => intro l4 h hE; exact gt_f_X3_letters_B11 hl ok tab fin hRm hb ih hk35 hE
set_option maxHeartbeats 8000000 in
theorem mt_X3_letters {l : Launch} (hl : l.stackTraces = false) {Z : zw_Z} {a0 : Option Nat} {a1 : Int32} {a2 : Int32} {h : zw_H} {Q : Option Nat → zw_H → Prop} {X : String → Nat → zw_H → Prop} (hE : f_X3_letters Z.2.2.2 a0 a1 a2 h Q X) : zw_Met l Z yX3_letters (ws_ yX3_letters cX3_letters 5 (Option.some (Jvm.ClassFile.FieldType.object "java/lang/String"))) rm_X3_letters [zA a0, zI a1, zI a2] h (zq_A Q) X := by
  refine zg_start (own := "MultipoleLine$Parser") (by decide +kernel) rfl (Nat.le_of_ble_eq_true rfl) hl (fun Xc ok tab fin hRm hXl hXZ => ?_)
  subst hXl
  subst hXZ
  unfold f_X3_letters at hE
  refine zg_new ok ln_X3_47 (by rw [hRm]; exact ⟨Nat.le_of_ble_eq_true rfl, Nat.le_of_ble_eq_true rfl⟩) dX3_letters_0 hE (fun v1 h1 hE => ?_)
  refine zg_cost (kc2 := 1) (ks2 := 4) ⟨rfl, rfl⟩ ?_
  refine zg_dup ok dX3_letters_3 (zw_rfc _) ?_
  refine zg_callI (vs := []) (rest := [va_rf (some v1)]) (rm := rm_J3_init) ok hRm lk_X3_49 dX3_letters_4 (by simp) hE (fun hE => mt_J3_init hl hE) rfl (Nat.le_of_ble_eq_true rfl) ⟨⟨Nat.le_of_ble_eq_true rfl, Nat.le_of_ble_eq_true rfl⟩, Nat.le_of_ble_eq_true rfl, Nat.le_of_ble_eq_true rfl⟩ (zg_retV (fun h2 hE => ?_)) (zg_xok ok tab fin ⟨Nat.le_of_ble_eq_true rfl, Nat.le_of_ble_eq_true rfl⟩)
  refine zg_cost (kc2 := 2) (ks2 := 20) ⟨rfl, rfl⟩ ?_
  refine zg_astore_n (L' := [(3, va_rf (some v1)), (0, va_rf a0), (1, .int a1), (2, .int a2)]) ok dX3_letters_7 rfl (by decide) rfl ?_
  refine zg_iload_n ok dX3_letters_8 rfl 2 rfl ?_
  refine zg_istoreR (L' := [(4, .int a1), (3, va_rf (some v1)), (0, va_rf a0), (1, .int a1), (2, .int a2)]) ok dX3_letters_9 (by decide) 0 rfl rfl rfl ?_
  refine zg_sub (L' := [(0, va_rf a0), (2, .int a2), (3, va_rf (some v1)), (4, .int a1)]) [2, 4, 1, 0] rfl ?_
  refine gt_f_X3_letters_L11 hl ok tab fin hRm ⟨Nat.le_of_ble_eq_true rfl, Nat.le_of_ble_eq_true rfl⟩ ?_ _ _ _ hE
  · intro h5 hE
    refine zg_aload_n ok dX3_letters_35 rfl 0 rfl ?_
    refine zg_callV (vs := []) (rest := []) (rm := rm_J3_toString) ok hRm lk_X3_54 dX3_letters_36 hE (fun hE => mt_J3_toString hl hE) rfl (Nat.le_of_ble_eq_true rfl) ⟨⟨Nat.le_of_ble_eq_true rfl, Nat.le_of_ble_eq_true rfl⟩, Nat.le_of_ble_eq_true rfl, Nat.le_of_ble_eq_true rfl⟩ (zg_retA (fun v5 h6 hE => ?_)) (zg_xok ok tab fin ⟨Nat.le_of_ble_eq_true rfl, Nat.le_of_ble_eq_true rfl⟩)
    refine zg_cost (kc2 := 4) (ks2 := 40) ⟨rfl, rfl⟩ ?_
    exact zg_aret ok fin (Or.inl ⟨_, rfl⟩) dX3_letters_39 ⟨Nat.le_of_ble_eq_true rfl, Nat.le_of_ble_eq_true rfl⟩ hE
set_option maxHeartbeats 8000000 in
theorem gt_f_X3_step_J265 {Xc : zw_X} {Q : zw_H → Prop} {X : String → Nat → zw_H → Prop} (hl : (zw_l Xc).stackTraces = false) (ok : zw_ok Xc cX3_step "MultipoleLine$Parser" yX3_step.name 3) (tab : zw_tab Xc []) (fin : zw_fin Xc (Option.none : Option Jvm.ClassFile.FieldType) (zq_V Q) X 4 40) (hRm : zw_rm Xc = rm_X3_step)  {l0 : Option Nat} {s0 : Int32} {s1 : Option Nat} {h : zw_H} (hE : f_X3_step_J265 (zw_Zf Xc).2.2.2 Q X  l0 s0 s1 h) : zw_G Xc 0 0 3 h 265 [(0, va_rf l0)] [.int s0, va_rf s1] := by
  unfold f_X3_step_J265 at hE
  refine zg_put (ty := .int) ok lf_X3_64 (Or.inl rfl) (by decide) (by decide +kernel) rfl rfl dX3_step_265 hE (fun h7 hE => ?_)
  refine zg_aload_n ok dX3_step_268 rfl 0 rfl ?_
  refine zg_dup ok dX3_step_269 (zw_rfc _) ?_
  refine zg_getI ok lf_X3_58 dX3_step_270 hE (fun v8 hE => ?_)
  refine zg_iconst (v := 1) ok dX3_step_273 (by decide) ?_
  refine zg_iadd ok dX3_step_274 ?_
  refine zg_put (ty := .int) ok lf_X3_58 (Or.inl rfl) (by decide) (by decide +kernel) rfl rfl dX3_step_275 hE (fun h8 hE => ?_)
  exact zg_vret ok fin dX3_step_278 ⟨Nat.le_of_ble_eq_true rfl, Nat.le_of_ble_eq_true rfl⟩ hE
set_option maxHeartbeats 8000000 in
theorem gt_f_X3_step_B208 {Xc : zw_X} {Q : zw_H → Prop} {X : String → Nat → zw_H → Prop} (hl : (zw_l Xc).stackTraces = false) (ok : zw_ok Xc cX3_step "MultipoleLine$Parser" yX3_step.name 3) (tab : zw_tab Xc []) (fin : zw_fin Xc (Option.none : Option Jvm.ClassFile.FieldType) (zq_V Q) X 4 40) (hRm : zw_rm Xc = rm_X3_step) {kc ks : Nat} (hb : kc ≤ 4 ∧ ks ≤ 40) {R : Int32 → zw_H → Prop} {l0 : Option Nat} (hR : ∀ (l2 : Int32) (h : zw_H), R l2 h → zw_G Xc kc ks 3 h 208 [(0, va_rf l0), (2, .int l2)] []) {k250 : zw_H → Prop} (hk250 : ∀  (h : zw_H), k250  h → zw_G Xc kc ks 3 h 250 [] [])  {l2 : Int32} {h : zw_H} (hE : f_X3_step_B208 (zw_Zf Xc).2.2.2 Q X k250 l0 R l2 h) : zw_G Xc kc ks 3 h 208 [(0, va_rf l0), (2, .int l2)] [] := by
  unfold f_X3_step_B208 at hE
  refine zg_iload_n ok dX3_step_208 rfl 1 rfl ?_
  refine zg_aload_n ok dX3_step_209 rfl 0 rfl ?_
  refine zg_getI ok lf_X3_58 dX3_step_210 hE (fun v14 hE => ?_)
  refine zg_icmp_ge (tgt := 250) ok dX3_step_213 (by decide) hE (fun hE => ?_) (fun hE => ?_)
  · refine zg_sub (L' := []) [] rfl ?_
    exact hk250 _ hE
  · refine zg_aload_n ok dX3_step_216 rfl 0 rfl ?_
    refine zg_getI ok lf_X3_64 dX3_step_217 hE (fun v15 hE => ?_)
    refine zg_iconst (v := 1) ok dX3_step_220 (by decide) ?_
    refine zg_icmp_ne (tgt := 250) ok dX3_step_221 (by decide) hE (fun hE => ?_) (fun hE => ?_)
    · refine zg_sub (L' := []) [] rfl ?_
      exact hk250 _ hE
    · refine zg_aload_n ok dX3_step_224 rfl 0 rfl ?_
      refine zg_bipush (v := 10) ok dX3_step_225 (by decide) ?_
      refine zg_aload_n ok dX3_step_227 rfl 0 rfl ?_
      refine zg_getI ok lf_X3_83 dX3_step_228 hE (fun v16 hE => ?_)
      refine zg_imul ok dX3_step_231 ?_
      refine zg_aload_n ok dX3_step_232 rfl 0 rfl ?_
      refine zg_iload_n ok dX3_step_233 rfl 1 rfl ?_
      refine zg_callV (vs := [zI l2]) (rest := [.int ((10 : Int32) * v16), va_rf l0]) (rm := rm_X3_at) ok hRm lk_X3_39 dX3_step_234 hE (fun hE => mt_X3_at hl hE) rfl (Nat.le_of_ble_eq_true rfl) ⟨⟨Nat.le_of_ble_eq_true rfl, Nat.le_of_ble_eq_true rfl⟩, (by show kc + 0 ≤ 4; omega), (by show ks + 0 ≤ 40; omega)⟩ (zg_retI (fun v17 h13 hE => ?_)) (zg_xok ok tab fin ⟨(by show kc + 0 ≤ 4; omega), (by show ks + 0 ≤ 40; omega)⟩)
      refine zg_cost (kc2 := kc) (ks2 := ks) ⟨(by show kc + 0 = kc; omega), (by show ks + 0 = ks; omega)⟩ ?_
      refine zg_iadd ok dX3_step_237 ?_
      refine zg_bipush (v := 48) ok dX3_step_238 (by decide) ?_
      refine zg_isub ok dX3_step_240 ?_
      refine zg_put (ty := .int) ok lf_X3_83 (Or.inl rfl) (by decide) (by decide +kernel) rfl rfl dX3_step_241 hE (fun h14 hE => ?_)
      refine zg_iincL (k := 1) (L' := fun v18 => [(2, .int v18), (0, va_rf l0)]) ok dX3_step_244 (by decide +kernel) hE rfl (by decide) (fun _ => rfl) (fun v18 hE => ?_)
      refine zg_goto (tgt := 208) ok dX3_step_247 (by decide) ?_
      refine zg_sub (L' := [(0, va_rf l0), (2, .int v18)]) [1, 0] rfl ?_
      exact hR _ _ hE
theorem gt_f_X3_step_L208 {Xc : zw_X} {Q : zw_H → Prop} {X : String → Nat → zw_H → Prop} (hl : (zw_l Xc).stackTraces = false) (ok : zw_ok Xc cX3_step "MultipoleLine$Parser" yX3_step.name 3) (tab : zw_tab Xc []) (fin : zw_fin Xc (Option.none : Option Jvm.ClassFile.FieldType) (zq_V Q) X 4 40) (hRm : zw_rm Xc = rm_X3_step) {kc ks : Nat} (hb : kc ≤ 4 ∧ ks ≤ 40) {l0 : Option Nat} {k250 : zw_H → Prop} (hk250 : ∀  (h : zw_H), k250  h → zw_G Xc kc ks 3 h 250 [] [])  : ∀ (n9 : Nat) (l2 : Int32) (h : zw_H), zl2 (f_X3_step_B208 (zw_Zf Xc).2.2.2 Q X k250 l0) n9 l2 h → zw_G Xc kc ks 3 h 208 [(0, va_rf l0), (2, .int l2)] [] := by
  intro n9
  induction n9 with
  | zero => intro l2 h hE; exact hE.elim
  | succ n9 ih => intro l2 h hE; exact gt_f_X3_step_B208 hl ok tab fin hRm hb ih hk250 hE
set_option maxHeartbeats 8000000 in
theorem gt_f_X3_step_J195 {Xc : zw_X} {Q : zw_H → Prop} {X : String → Nat → zw_H → Prop} (hl : (zw_l Xc).stackTraces = false) (ok : zw_ok Xc cX3_step "MultipoleLine$Parser" yX3_step.name 3) (tab : zw_tab Xc []) (fin : zw_fin Xc (Option.none : Option Jvm.ClassFile.FieldType) (zq_V Q) X 4 40) (hRm : zw_rm Xc = rm_X3_step)  {l0 : Option Nat} {s0 : Int32} {s1 : Option Nat} {h : zw_H} (hE : f_X3_step_J195 (zw_Zf Xc).2.2.2 Q X  l0 s0 s1 h) : zw_G Xc 0 0 3 h 195 [(0, va_rf l0)] [.int s0, va_rf s1] := by
  unfold f_X3_step_J195 at hE
  refine zg_put (ty := .int) ok lf_X3_64 (Or.inl rfl) (by decide) (by decide +kernel) rfl rfl dX3_step_195 hE (fun h11 hE => ?_)
  refine zg_aload_n ok dX3_step_198 rfl 0 rfl ?_
  refine zg_iconst (v := 0) ok dX3_step_199 (by decide) ?_
  refine zg_put (ty := .int) ok lf_X3_83 (Or.inl rfl) (by decide) (by decide +kernel) rfl rfl dX3_step_200 hE (fun h12 hE => ?_)
  refine zg_aload_n ok dX3_step_203 rfl 0 rfl ?_
  refine zg_getI ok lf_X3_61 dX3_step_204 hE (fun v13 hE => ?_)
  refine zg_istore_n (L' := [(2, .int v13), (0, va_rf l0)]) ok dX3_step_207 rfl (by decide) rfl ?_
  refine zg_sub (L' := [(0, va_rf l0), (2, .int v13)]) [1, 0] rfl ?_
  refine gt_f_X3_step_L208 hl ok tab fin hRm ⟨Nat.le_of_ble_eq_true rfl, Nat.le_of_ble_eq_true rfl⟩ ?_ _ _ _ hE
  · intro h15 hE
    refine zg_goto (tgt := 278) ok dX3_step_250 (by decide) ?_
    exact zg_vret ok fin dX3_step_278 ⟨Nat.le_of_ble_eq_true rfl, Nat.le_of_ble_eq_true rfl⟩ hE
set_option maxHeartbeats 8000000 in
theorem gt_f_X3_step_J112 {Xc : zw_X} {Q : zw_H → Prop} {X : String → Nat → zw_H → Prop} (hl : (zw_l Xc).stackTraces = false) (ok : zw_ok Xc cX3_step "MultipoleLine$Parser" yX3_step.name 3) (tab : zw_tab Xc []) (fin : zw_fin Xc (Option.none : Option Jvm.ClassFile.FieldType) (zq_V Q) X 4 40) (hRm : zw_rm Xc = rm_X3_step)  {l0 : Option Nat} {s0 : Int32} {s1 : Option Nat} {h : zw_H} (hE : f_X3_step_J112 (zw_Zf Xc).2.2.2 Q X  l0 s0 s1 h) : zw_G Xc 0 0 3 h 112 [(0, va_rf l0)] [.int s0, va_rf s1] := by
  unfold f_X3_step_J112 at hE
  refine zg_put (ty := .int) ok lf_X3_64 (Or.inl rfl) (by decide) (by decide +kernel) rfl rfl dX3_step_112 hE (fun h18 hE => ?_)
  refine zg_aload_n ok dX3_step_115 rfl 0 rfl ?_
  refine zg_aload_n ok dX3_step_116 rfl 0 rfl ?_
  refine zg_getI ok lf_X3_64 dX3_step_117 hE (fun v23 hE => ?_)
  refine zg_if_ne (tgt := 138) ok dX3_step_120 (by decide) hE (fun hE => ?_) (fun hE => ?_)
  · refine zg_ldcS ok ls_X3_22 dX3_step_138 ?_
    refine zg_put (ty := (.object "java/lang/String")) ok lf_X3_24 (Or.inl rfl) (by decide) (by decide +kernel) (zw_nrO _ _) (zw_frO _ _) dX3_step_140 hE (fun h19 hE => ?_)
    refine zg_goto (tgt := 278) ok dX3_step_143 (by decide) ?_
    exact zg_vret ok fin dX3_step_278 ⟨Nat.le_of_ble_eq_true rfl, Nat.le_of_ble_eq_true rfl⟩ hE
  · refine zg_aload_n ok dX3_step_123 rfl 0 rfl ?_
    refine zg_aload_n ok dX3_step_124 rfl 0 rfl ?_
    refine zg_getI ok lf_X3_61 dX3_step_125 hE (fun v24 hE => ?_)
    refine zg_aload_n ok dX3_step_128 rfl 0 rfl ?_
    refine zg_getI ok lf_X3_58 dX3_step_129 hE (fun v25 hE => ?_)
    refine zg_callV (vs := [zI v24, zI v25]) (rest := [va_rf l0]) (rm := rm_X3_letters) ok hRm lk_X3_75 dX3_step_132 hE (fun hE => mt_X3_letters hl hE) rfl (Nat.le_of_ble_eq_true rfl) ⟨⟨Nat.le_of_ble_eq_true rfl, Nat.le_of_ble_eq_true rfl⟩, Nat.le_of_ble_eq_true rfl, Nat.le_of_ble_eq_true rfl⟩ (zg_retA (fun v26 h20 hE => ?_)) (zg_xok ok tab fin ⟨Nat.le_of_ble_eq_true rfl, Nat.le_of_ble_eq_true rfl⟩)
    refine zg_cost (kc2 := 4) (ks2 := 40) ⟨rfl, rfl⟩ ?_
    refine zg_goto (tgt := 140) ok dX3_step_135 (by decide) ?_
    refine zg_put (ty := (.object "java/lang/String")) ok lf_X3_24 (Or.inl rfl) (by decide) (by decide +kernel) (zw_nrO _ _) (zw_frO _ _) dX3_step_140 hE (fun h21 hE => ?_)
    refine zg_goto (tgt := 278) ok dX3_step_143 (by decide) ?_
    exact zg_vret ok fin dX3_step_278 ⟨Nat.le_of_ble_eq_true rfl, Nat.le_of_ble_eq_true rfl⟩ hE
set_option maxHeartbeats 8000000 in
theorem gt_f_X3_step_B0 {Xc : zw_X} {Q : zw_H → Prop} {X : String → Nat → zw_H → Prop} (hl : (zw_l Xc).stackTraces = false) (ok : zw_ok Xc cX3_step "MultipoleLine$Parser" yX3_step.name 3) (tab : zw_tab Xc []) (fin : zw_fin Xc (Option.none : Option Jvm.ClassFile.FieldType) (zq_V Q) X 4 40) (hRm : zw_rm Xc = rm_X3_step) {kc ks : Nat} (hb : kc ≤ 4 ∧ ks ≤ 40) {R : zw_H → Prop} {l0 : Option Nat} (hR : ∀  (h : zw_H), R  h → zw_G Xc kc ks 3 h 0 [(0, va_rf l0)] []) {k26 : zw_H → Prop} (hk26 : ∀  (h : zw_H), k26  h → zw_G Xc kc ks 3 h 26 [(0, va_rf l0)] [])   {h : zw_H} (hE : f_X3_step_B0 (zw_Zf Xc).2.2.2 Q X k26 l0 R  h) : zw_G Xc kc ks 3 h 0 [(0, va_rf l0)] [] := by
  unfold f_X3_step_B0 at hE
  refine zg_aload_n ok dX3_step_0 rfl 0 rfl ?_
  refine zg_aload_n ok dX3_step_1 rfl 0 rfl ?_
  refine zg_getI ok lf_X3_58 dX3_step_2 hE (fun v28 hE => ?_)
  refine zg_callV (vs := [zI v28]) (rest := []) (rm := rm_X3_at) ok hRm lk_X3_39 dX3_step_5 hE (fun hE => mt_X3_at hl hE) rfl (Nat.le_of_ble_eq_true rfl) ⟨⟨Nat.le_of_ble_eq_true rfl, Nat.le_of_ble_eq_true rfl⟩, (by show kc + 0 ≤ 4; omega), (by show ks + 0 ≤ 40; omega)⟩ (zg_retI (fun v29 h24 hE => ?_)) (zg_xok ok tab fin ⟨(by show kc + 0 ≤ 4; omega), (by show ks + 0 ≤ 40; omega)⟩)
  refine zg_cost (kc2 := kc) (ks2 := ks) ⟨(by show kc + 0 = kc; omega), (by show ks + 0 = ks; omega)⟩ ?_
  refine zg_bipush (v := 32) ok dX3_step_8 (by decide) ?_
  refine zg_icmp_ne (tgt := 26) ok dX3_step_10 (by decide) hE (fun hE => ?_) (fun hE => ?_)
  · exact hk26 _ hE
  · refine zg_aload_n ok dX3_step_13 rfl 0 rfl ?_
    refine zg_dup ok dX3_step_14 (zw_rfc _) ?_
    refine zg_getI ok lf_X3_58 dX3_step_15 hE (fun v30 hE => ?_)
    refine zg_iconst (v := 1) ok dX3_step_18 (by decide) ?_
    refine zg_iadd ok dX3_step_19 ?_
    refine zg_put (ty := .int) ok lf_X3_58 (Or.inl rfl) (by decide) (by decide +kernel) rfl rfl dX3_step_20 hE (fun h25 hE => ?_)
    refine zg_goto (tgt := 0) ok dX3_step_23 (by decide) ?_
    exact hR _ hE
theorem gt_f_X3_step_L0 {Xc : zw_X} {Q : zw_H → Prop} {X : String → Nat → zw_H → Prop} (hl : (zw_l Xc).stackTraces = false) (ok : zw_ok Xc cX3_step "MultipoleLine$Parser" yX3_step.name 3) (tab : zw_tab Xc []) (fin : zw_fin Xc (Option.none : Option Jvm.ClassFile.FieldType) (zq_V Q) X 4 40) (hRm : zw_rm Xc = rm_X3_step) {kc ks : Nat} (hb : kc ≤ 4 ∧ ks ≤ 40) {l0 : Option Nat} {k26 : zw_H → Prop} (hk26 : ∀  (h : zw_H), k26  h → zw_G Xc kc ks 3 h 26 [(0, va_rf l0)] [])  : ∀ (n9 : Nat)  (h : zw_H), zl1 (f_X3_step_B0 (zw_Zf Xc).2.2.2 Q X k26 l0) n9  h → zw_G Xc kc ks 3 h 0 [(0, va_rf l0)] [] := by
  intro n9
  induction n9 with
  | zero => intro  h hE; exact hE.elim
  | succ n9 ih => intro  h hE; exact gt_f_X3_step_B0 hl ok tab fin hRm hb ih hk26 hE
set_option maxHeartbeats 8000000 in
theorem mt_X3_step {l : Launch} (hl : l.stackTraces = false) {Z : zw_Z} {a0 : Option Nat} {h : zw_H} {Q : zw_H → Prop} {X : String → Nat → zw_H → Prop} (hE : f_X3_step Z.2.2.2 a0 h Q X) : zw_Met l Z yX3_step (ws_ yX3_step cX3_step 3 (Option.none : Option Jvm.ClassFile.FieldType)) rm_X3_step [zA a0] h (zq_V Q) X := by
  refine zg_start (own := "MultipoleLine$Parser") (by decide +kernel) rfl (Nat.le_of_ble_eq_true rfl) hl (fun Xc ok tab fin hRm hXl hXZ => ?_)
  subst hXl
  subst hXZ
  unfold f_X3_step at hE
  refine zg_aload_n ok dX3_step_0 rfl 0 rfl ?_
  refine zg_aload_n ok dX3_step_1 rfl 0 rfl ?_
  refine zg_getI ok lf_X3_58 dX3_step_2 hE (fun v1 hE => ?_)
  refine zg_callV (vs := [zI v1]) (rest := []) (rm := rm_X3_at) ok hRm lk_X3_39 dX3_step_5 hE (fun hE => mt_X3_at hl hE) rfl (Nat.le_of_ble_eq_true rfl) ⟨⟨Nat.le_of_ble_eq_true rfl, Nat.le_of_ble_eq_true rfl⟩, Nat.le_of_ble_eq_true rfl, Nat.le_of_ble_eq_true rfl⟩ (zg_retI (fun v2 h1 hE => ?_)) (zg_xok ok tab fin ⟨Nat.le_of_ble_eq_true rfl, Nat.le_of_ble_eq_true rfl⟩)
  refine zg_cost (kc2 := 0) (ks2 := 0) ⟨rfl, rfl⟩ ?_
  refine zg_bipush (v := 32) ok dX3_step_8 (by decide) ?_
  refine zg_icmp_ne (tgt := 26) ok dX3_step_10 (by decide) hE (fun hE => ?_) (fun hE => ?_)
  · refine zg_aload_n ok dX3_step_26 rfl 0 rfl ?_
    refine zg_aload_n ok dX3_step_27 rfl 0 rfl ?_
    refine zg_getI ok lf_X3_58 dX3_step_28 hE (fun v3 hE => ?_)
    refine zg_put (ty := .int) ok lf_X3_61 (Or.inl rfl) (by decide) (by decide +kernel) rfl rfl dX3_step_31 hE (fun h2 hE => ?_)
    refine zg_aload_n ok dX3_step_34 rfl 0 rfl ?_
    refine zg_ldcS ok ls_X3_22 dX3_step_35 ?_
    refine zg_put (ty := (.object "java/lang/String")) ok lf_X3_24 (Or.inl rfl) (by decide) (by decide +kernel) (zw_nrO _ _) (zw_frO _ _) dX3_step_37 hE (fun h3 hE => ?_)
    refine zg_aload_n ok dX3_step_40 rfl 0 rfl ?_
    refine zg_aload_n ok dX3_step_41 rfl 0 rfl ?_
    refine zg_getI ok lf_X3_61 dX3_step_42 hE (fun v4 hE => ?_)
    refine zg_callV (vs := [zI v4]) (rest := []) (rm := rm_X3_at) ok hRm lk_X3_39 dX3_step_45 hE (fun hE => mt_X3_at hl hE) rfl (Nat.le_of_ble_eq_true rfl) ⟨⟨Nat.le_of_ble_eq_true rfl, Nat.le_of_ble_eq_true rfl⟩, Nat.le_of_ble_eq_true rfl, Nat.le_of_ble_eq_true rfl⟩ (zg_retI (fun v5 h4 hE => ?_)) (zg_xok ok tab fin ⟨Nat.le_of_ble_eq_true rfl, Nat.le_of_ble_eq_true rfl⟩)
    refine zg_cost (kc2 := 0) (ks2 := 0) ⟨rfl, rfl⟩ ?_
    refine zg_istore_nR (L' := [(1, .int v5), (0, va_rf a0)]) ok dX3_step_48 rfl (by decide) 0 rfl rfl rfl ?_
    refine zg_iload_n ok dX3_step_49 rfl 0 rfl ?_
    refine zg_iconst (v := (-1)) ok dX3_step_50 (by decide) ?_
    refine zg_icmp_ne (tgt := 62) ok dX3_step_51 (by decide) hE (fun hE => ?_) (fun hE => ?_)
    · refine zg_iload_n ok dX3_step_62 rfl 0 rfl ?_
      refine zg_i2l ok dX3_step_63 ?_
      refine zg_ldc2 (v := (97 : Int64)) ok q507 dX3_step_64 ?_
      refine zg_ldc2 (v := (122 : Int64)) ok q508 dX3_step_67 ?_
      refine zg_callSN (vs := [zJ v5.toInt64, zJ (97 : Int64), zJ (122 : Int64)]) (rest := []) (rm := rm_X1_in) ok hRm lk_X3_43 dX3_step_70 hE (fun hE => mt_X1_in hl hE) rfl (Nat.le_of_ble_eq_true rfl) ⟨⟨Nat.le_of_ble_eq_true rfl, Nat.le_of_ble_eq_true rfl⟩, Nat.le_of_ble_eq_true rfl, Nat.le_of_ble_eq_true rfl⟩ (zg_retI (fun v6 h5 hE => ?_)) (zg_xok ok tab fin ⟨Nat.le_of_ble_eq_true rfl, Nat.le_of_ble_eq_true rfl⟩)
      refine zg_cost (kc2 := 0) (ks2 := 0) ⟨rfl, rfl⟩ ?_
      refine zg_if_eq (tgt := 146) ok dX3_step_73 (by decide) hE (fun hE => ?_) (fun hE => ?_)
      · refine zg_iload_n ok dX3_step_146 rfl 0 rfl ?_
        refine zg_i2l ok dX3_step_147 ?_
        refine zg_ldc2 (v := (48 : Int64)) ok q761 dX3_step_148 ?_
        refine zg_ldc2 (v := (57 : Int64)) ok q762 dX3_step_151 ?_
        refine zg_callSN (vs := [zJ v5.toInt64, zJ (48 : Int64), zJ (57 : Int64)]) (rest := []) (rm := rm_X1_in) ok hRm lk_X3_43 dX3_step_154 hE (fun hE => mt_X1_in hl hE) rfl (Nat.le_of_ble_eq_true rfl) ⟨⟨Nat.le_of_ble_eq_true rfl, Nat.le_of_ble_eq_true rfl⟩, Nat.le_of_ble_eq_true rfl, Nat.le_of_ble_eq_true rfl⟩ (zg_retI (fun v7 h6 hE => ?_)) (zg_xok ok tab fin ⟨Nat.le_of_ble_eq_true rfl, Nat.le_of_ble_eq_true rfl⟩)
        refine zg_cost (kc2 := 0) (ks2 := 0) ⟨rfl, rfl⟩ ?_
        refine zg_if_eq (tgt := 253) ok dX3_step_157 (by decide) hE (fun hE => ?_) (fun hE => ?_)
        · refine zg_aload_n ok dX3_step_253 rfl 1 rfl ?_
          refine zg_iload_n ok dX3_step_254 rfl 0 rfl ?_
          refine zg_bipush (v := 59) ok dX3_step_255 (by decide) ?_
          refine zg_icmp_ne (tgt := 264) ok dX3_step_257 (by decide) hE (fun hE => ?_) (fun hE => ?_)
          · refine zg_iconst (v := 4) ok dX3_step_264 (by decide) ?_
            refine zg_sub (L' := [(0, va_rf a0)]) [1] rfl ?_
            exact gt_f_X3_step_J265 hl ok tab fin hRm  hE
          · refine zg_iconst (v := 2) ok dX3_step_260 (by decide) ?_
            refine zg_goto (tgt := 265) ok dX3_step_261 (by decide) ?_
            refine zg_sub (L' := [(0, va_rf a0)]) [1] rfl ?_
            exact gt_f_X3_step_J265 hl ok tab fin hRm  hE
        · refine zg_aload_n ok dX3_step_160 rfl 1 rfl ?_
          refine zg_aload_n ok dX3_step_161 rfl 1 rfl ?_
          refine zg_aload_n ok dX3_step_162 rfl 1 rfl ?_
          refine zg_getI ok lf_X3_61 dX3_step_163 hE (fun v9 hE => ?_)
          refine zg_bipush (v := 48) ok dX3_step_166 (by decide) ?_
          refine zg_bipush (v := 57) ok dX3_step_168 (by decide) ?_
          refine zg_callV (vs := [zI v9, zI 48, zI 57]) (rest := [va_rf a0]) (rm := rm_X3_run) ok hRm lk_X3_71 dX3_step_170 hE (fun hE => mt_X3_run hl hE) rfl (Nat.le_of_ble_eq_true rfl) ⟨⟨Nat.le_of_ble_eq_true rfl, Nat.le_of_ble_eq_true rfl⟩, Nat.le_of_ble_eq_true rfl, Nat.le_of_ble_eq_true rfl⟩ (zg_retI (fun v10 h9 hE => ?_)) (zg_xok ok tab fin ⟨Nat.le_of_ble_eq_true rfl, Nat.le_of_ble_eq_true rfl⟩)
          refine zg_cost (kc2 := 0) (ks2 := 0) ⟨rfl, rfl⟩ ?_
          refine zg_put (ty := .int) ok lf_X3_58 (Or.inl rfl) (by decide) (by decide +kernel) rfl rfl dX3_step_173 hE (fun h10 hE => ?_)
          refine zg_aload_n ok dX3_step_176 rfl 1 rfl ?_
          refine zg_aload_n ok dX3_step_177 rfl 1 rfl ?_
          refine zg_getI ok lf_X3_58 dX3_step_178 hE (fun v11 hE => ?_)
          refine zg_aload_n ok dX3_step_181 rfl 1 rfl ?_
          refine zg_getI ok lf_X3_61 dX3_step_182 hE (fun v12 hE => ?_)
          refine zg_isub ok dX3_step_185 ?_
          refine zg_iconst (v := 3) ok dX3_step_186 (by decide) ?_
          refine zg_icmp_gt (tgt := 194) ok dX3_step_187 (by decide) hE (fun hE => ?_) (fun hE => ?_)
          · refine zg_iconst (v := 4) ok dX3_step_194 (by decide) ?_
            refine zg_sub (L' := [(0, va_rf a0)]) [1] rfl ?_
            exact gt_f_X3_step_J195 hl ok tab fin hRm  hE
          · refine zg_iconst (v := 1) ok dX3_step_190 (by decide) ?_
            refine zg_goto (tgt := 195) ok dX3_step_191 (by decide) ?_
            refine zg_sub (L' := [(0, va_rf a0)]) [1] rfl ?_
            exact gt_f_X3_step_J195 hl ok tab fin hRm  hE
      · refine zg_aload_n ok dX3_step_76 rfl 1 rfl ?_
        refine zg_aload_n ok dX3_step_77 rfl 1 rfl ?_
        refine zg_aload_n ok dX3_step_78 rfl 1 rfl ?_
        refine zg_getI ok lf_X3_61 dX3_step_79 hE (fun v19 hE => ?_)
        refine zg_bipush (v := 97) ok dX3_step_82 (by decide) ?_
        refine zg_bipush (v := 122) ok dX3_step_84 (by decide) ?_
        refine zg_callV (vs := [zI v19, zI 97, zI 122]) (rest := [va_rf a0]) (rm := rm_X3_run) ok hRm lk_X3_71 dX3_step_86 hE (fun hE => mt_X3_run hl hE) rfl (Nat.le_of_ble_eq_true rfl) ⟨⟨Nat.le_of_ble_eq_true rfl, Nat.le_of_ble_eq_true rfl⟩, Nat.le_of_ble_eq_true rfl, Nat.le_of_ble_eq_true rfl⟩ (zg_retI (fun v20 h16 hE => ?_)) (zg_xok ok tab fin ⟨Nat.le_of_ble_eq_true rfl, Nat.le_of_ble_eq_true rfl⟩)
        refine zg_cost (kc2 := 0) (ks2 := 0) ⟨rfl, rfl⟩ ?_
        refine zg_put (ty := .int) ok lf_X3_58 (Or.inl rfl) (by decide) (by decide +kernel) rfl rfl dX3_step_89 hE (fun h17 hE => ?_)
        refine zg_aload_n ok dX3_step_92 rfl 1 rfl ?_
        refine zg_aload_n ok dX3_step_93 rfl 1 rfl ?_
        refine zg_getI ok lf_X3_58 dX3_step_94 hE (fun v21 hE => ?_)
        refine zg_aload_n ok dX3_step_97 rfl 1 rfl ?_
        refine zg_getI ok lf_X3_61 dX3_step_98 hE (fun v22 hE => ?_)
        refine zg_isub ok dX3_step_101 ?_
        refine zg_bipush (v := 6) ok dX3_step_102 (by decide) ?_
        refine zg_icmp_gt (tgt := 111) ok dX3_step_104 (by decide) hE (fun hE => ?_) (fun hE => ?_)
        · refine zg_iconst (v := 4) ok dX3_step_111 (by decide) ?_
          refine zg_sub (L' := [(0, va_rf a0)]) [1] rfl ?_
          exact gt_f_X3_step_J112 hl ok tab fin hRm  hE
        · refine zg_iconst (v := 0) ok dX3_step_107 (by decide) ?_
          refine zg_goto (tgt := 112) ok dX3_step_108 (by decide) ?_
          refine zg_sub (L' := [(0, va_rf a0)]) [1] rfl ?_
          exact gt_f_X3_step_J112 hl ok tab fin hRm  hE
    · refine zg_aload_n ok dX3_step_54 rfl 1 rfl ?_
      refine zg_iconst (v := 3) ok dX3_step_55 (by decide) ?_
      refine zg_put (ty := .int) ok lf_X3_64 (Or.inl rfl) (by decide) (by decide +kernel) rfl rfl dX3_step_56 hE (fun h22 hE => ?_)
      refine zg_goto (tgt := 278) ok dX3_step_59 (by decide) ?_
      exact zg_vret ok fin dX3_step_278 ⟨Nat.le_of_ble_eq_true rfl, Nat.le_of_ble_eq_true rfl⟩ hE
  · refine zg_aload_n ok dX3_step_13 rfl 0 rfl ?_
    refine zg_dup ok dX3_step_14 (zw_rfc _) ?_
    refine zg_getI ok lf_X3_58 dX3_step_15 hE (fun v27 hE => ?_)
    refine zg_iconst (v := 1) ok dX3_step_18 (by decide) ?_
    refine zg_iadd ok dX3_step_19 ?_
    refine zg_put (ty := .int) ok lf_X3_58 (Or.inl rfl) (by decide) (by decide +kernel) rfl rfl dX3_step_20 hE (fun h23 hE => ?_)
    refine zg_goto (tgt := 0) ok dX3_step_23 (by decide) ?_
    refine gt_f_X3_step_L0 hl ok tab fin hRm ⟨Nat.le_of_ble_eq_true rfl, Nat.le_of_ble_eq_true rfl⟩ ?_ _ _ hE
    · intro h26 hE
      refine zg_aload_n ok dX3_step_26 rfl 0 rfl ?_
      refine zg_aload_n ok dX3_step_27 rfl 0 rfl ?_
      refine zg_getI ok lf_X3_58 dX3_step_28 hE (fun v31 hE => ?_)
      refine zg_put (ty := .int) ok lf_X3_61 (Or.inl rfl) (by decide) (by decide +kernel) rfl rfl dX3_step_31 hE (fun h27 hE => ?_)
      refine zg_aload_n ok dX3_step_34 rfl 0 rfl ?_
      refine zg_ldcS ok ls_X3_22 dX3_step_35 ?_
      refine zg_put (ty := (.object "java/lang/String")) ok lf_X3_24 (Or.inl rfl) (by decide) (by decide +kernel) (zw_nrO _ _) (zw_frO _ _) dX3_step_37 hE (fun h28 hE => ?_)
      refine zg_aload_n ok dX3_step_40 rfl 0 rfl ?_
      refine zg_aload_n ok dX3_step_41 rfl 0 rfl ?_
      refine zg_getI ok lf_X3_61 dX3_step_42 hE (fun v32 hE => ?_)
      refine zg_callV (vs := [zI v32]) (rest := []) (rm := rm_X3_at) ok hRm lk_X3_39 dX3_step_45 hE (fun hE => mt_X3_at hl hE) rfl (Nat.le_of_ble_eq_true rfl) ⟨⟨Nat.le_of_ble_eq_true rfl, Nat.le_of_ble_eq_true rfl⟩, Nat.le_of_ble_eq_true rfl, Nat.le_of_ble_eq_true rfl⟩ (zg_retI (fun v33 h29 hE => ?_)) (zg_xok ok tab fin ⟨Nat.le_of_ble_eq_true rfl, Nat.le_of_ble_eq_true rfl⟩)
      refine zg_cost (kc2 := 0) (ks2 := 0) ⟨rfl, rfl⟩ ?_
      refine zg_istore_nR (L' := [(1, .int v33), (0, va_rf a0)]) ok dX3_step_48 rfl (by decide) 0 rfl rfl rfl ?_
      refine zg_iload_n ok dX3_step_49 rfl 0 rfl ?_
      refine zg_iconst (v := (-1)) ok dX3_step_50 (by decide) ?_
      refine zg_icmp_ne (tgt := 62) ok dX3_step_51 (by decide) hE (fun hE => ?_) (fun hE => ?_)
      · refine zg_iload_n ok dX3_step_62 rfl 0 rfl ?_
        refine zg_i2l ok dX3_step_63 ?_
        refine zg_ldc2 (v := (97 : Int64)) ok q507 dX3_step_64 ?_
        refine zg_ldc2 (v := (122 : Int64)) ok q508 dX3_step_67 ?_
        refine zg_callSN (vs := [zJ v33.toInt64, zJ (97 : Int64), zJ (122 : Int64)]) (rest := []) (rm := rm_X1_in) ok hRm lk_X3_43 dX3_step_70 hE (fun hE => mt_X1_in hl hE) rfl (Nat.le_of_ble_eq_true rfl) ⟨⟨Nat.le_of_ble_eq_true rfl, Nat.le_of_ble_eq_true rfl⟩, Nat.le_of_ble_eq_true rfl, Nat.le_of_ble_eq_true rfl⟩ (zg_retI (fun v34 h30 hE => ?_)) (zg_xok ok tab fin ⟨Nat.le_of_ble_eq_true rfl, Nat.le_of_ble_eq_true rfl⟩)
        refine zg_cost (kc2 := 0) (ks2 := 0) ⟨rfl, rfl⟩ ?_
        refine zg_if_eq (tgt := 146) ok dX3_step_73 (by decide) hE (fun hE => ?_) (fun hE => ?_)
        · refine zg_iload_n ok dX3_step_146 rfl 0 rfl ?_
          refine zg_i2l ok dX3_step_147 ?_
          refine zg_ldc2 (v := (48 : Int64)) ok q761 dX3_step_148 ?_
          refine zg_ldc2 (v := (57 : Int64)) ok q762 dX3_step_151 ?_
          refine zg_callSN (vs := [zJ v33.toInt64, zJ (48 : Int64), zJ (57 : Int64)]) (rest := []) (rm := rm_X1_in) ok hRm lk_X3_43 dX3_step_154 hE (fun hE => mt_X1_in hl hE) rfl (Nat.le_of_ble_eq_true rfl) ⟨⟨Nat.le_of_ble_eq_true rfl, Nat.le_of_ble_eq_true rfl⟩, Nat.le_of_ble_eq_true rfl, Nat.le_of_ble_eq_true rfl⟩ (zg_retI (fun v35 h31 hE => ?_)) (zg_xok ok tab fin ⟨Nat.le_of_ble_eq_true rfl, Nat.le_of_ble_eq_true rfl⟩)
          refine zg_cost (kc2 := 0) (ks2 := 0) ⟨rfl, rfl⟩ ?_
          refine zg_if_eq (tgt := 253) ok dX3_step_157 (by decide) hE (fun hE => ?_) (fun hE => ?_)
          · refine zg_aload_n ok dX3_step_253 rfl 1 rfl ?_
            refine zg_iload_n ok dX3_step_254 rfl 0 rfl ?_
            refine zg_bipush (v := 59) ok dX3_step_255 (by decide) ?_
            refine zg_icmp_ne (tgt := 264) ok dX3_step_257 (by decide) hE (fun hE => ?_) (fun hE => ?_)
            · refine zg_iconst (v := 4) ok dX3_step_264 (by decide) ?_
              refine zg_sub (L' := [(0, va_rf a0)]) [1] rfl ?_
              exact gt_f_X3_step_J265 hl ok tab fin hRm  hE
            · refine zg_iconst (v := 2) ok dX3_step_260 (by decide) ?_
              refine zg_goto (tgt := 265) ok dX3_step_261 (by decide) ?_
              refine zg_sub (L' := [(0, va_rf a0)]) [1] rfl ?_
              exact gt_f_X3_step_J265 hl ok tab fin hRm  hE
          · refine zg_aload_n ok dX3_step_160 rfl 1 rfl ?_
            refine zg_aload_n ok dX3_step_161 rfl 1 rfl ?_
            refine zg_aload_n ok dX3_step_162 rfl 1 rfl ?_
            refine zg_getI ok lf_X3_61 dX3_step_163 hE (fun v36 hE => ?_)
            refine zg_bipush (v := 48) ok dX3_step_166 (by decide) ?_
            refine zg_bipush (v := 57) ok dX3_step_168 (by decide) ?_
            refine zg_callV (vs := [zI v36, zI 48, zI 57]) (rest := [va_rf a0]) (rm := rm_X3_run) ok hRm lk_X3_71 dX3_step_170 hE (fun hE => mt_X3_run hl hE) rfl (Nat.le_of_ble_eq_true rfl) ⟨⟨Nat.le_of_ble_eq_true rfl, Nat.le_of_ble_eq_true rfl⟩, Nat.le_of_ble_eq_true rfl, Nat.le_of_ble_eq_true rfl⟩ (zg_retI (fun v37 h32 hE => ?_)) (zg_xok ok tab fin ⟨Nat.le_of_ble_eq_true rfl, Nat.le_of_ble_eq_true rfl⟩)
            refine zg_cost (kc2 := 0) (ks2 := 0) ⟨rfl, rfl⟩ ?_
            refine zg_put (ty := .int) ok lf_X3_58 (Or.inl rfl) (by decide) (by decide +kernel) rfl rfl dX3_step_173 hE (fun h33 hE => ?_)
            refine zg_aload_n ok dX3_step_176 rfl 1 rfl ?_
            refine zg_aload_n ok dX3_step_177 rfl 1 rfl ?_
            refine zg_getI ok lf_X3_58 dX3_step_178 hE (fun v38 hE => ?_)
            refine zg_aload_n ok dX3_step_181 rfl 1 rfl ?_
            refine zg_getI ok lf_X3_61 dX3_step_182 hE (fun v39 hE => ?_)
            refine zg_isub ok dX3_step_185 ?_
            refine zg_iconst (v := 3) ok dX3_step_186 (by decide) ?_
            refine zg_icmp_gt (tgt := 194) ok dX3_step_187 (by decide) hE (fun hE => ?_) (fun hE => ?_)
            · refine zg_iconst (v := 4) ok dX3_step_194 (by decide) ?_
              refine zg_sub (L' := [(0, va_rf a0)]) [1] rfl ?_
              exact gt_f_X3_step_J195 hl ok tab fin hRm  hE
            · refine zg_iconst (v := 1) ok dX3_step_190 (by decide) ?_
              refine zg_goto (tgt := 195) ok dX3_step_191 (by decide) ?_
              refine zg_sub (L' := [(0, va_rf a0)]) [1] rfl ?_
              exact gt_f_X3_step_J195 hl ok tab fin hRm  hE
        · refine zg_aload_n ok dX3_step_76 rfl 1 rfl ?_
          refine zg_aload_n ok dX3_step_77 rfl 1 rfl ?_
          refine zg_aload_n ok dX3_step_78 rfl 1 rfl ?_
          refine zg_getI ok lf_X3_61 dX3_step_79 hE (fun v40 hE => ?_)
          refine zg_bipush (v := 97) ok dX3_step_82 (by decide) ?_
          refine zg_bipush (v := 122) ok dX3_step_84 (by decide) ?_
          refine zg_callV (vs := [zI v40, zI 97, zI 122]) (rest := [va_rf a0]) (rm := rm_X3_run) ok hRm lk_X3_71 dX3_step_86 hE (fun hE => mt_X3_run hl hE) rfl (Nat.le_of_ble_eq_true rfl) ⟨⟨Nat.le_of_ble_eq_true rfl, Nat.le_of_ble_eq_true rfl⟩, Nat.le_of_ble_eq_true rfl, Nat.le_of_ble_eq_true rfl⟩ (zg_retI (fun v41 h34 hE => ?_)) (zg_xok ok tab fin ⟨Nat.le_of_ble_eq_true rfl, Nat.le_of_ble_eq_true rfl⟩)
          refine zg_cost (kc2 := 0) (ks2 := 0) ⟨rfl, rfl⟩ ?_
          refine zg_put (ty := .int) ok lf_X3_58 (Or.inl rfl) (by decide) (by decide +kernel) rfl rfl dX3_step_89 hE (fun h35 hE => ?_)
          refine zg_aload_n ok dX3_step_92 rfl 1 rfl ?_
          refine zg_aload_n ok dX3_step_93 rfl 1 rfl ?_
          refine zg_getI ok lf_X3_58 dX3_step_94 hE (fun v42 hE => ?_)
          refine zg_aload_n ok dX3_step_97 rfl 1 rfl ?_
          refine zg_getI ok lf_X3_61 dX3_step_98 hE (fun v43 hE => ?_)
          refine zg_isub ok dX3_step_101 ?_
          refine zg_bipush (v := 6) ok dX3_step_102 (by decide) ?_
          refine zg_icmp_gt (tgt := 111) ok dX3_step_104 (by decide) hE (fun hE => ?_) (fun hE => ?_)
          · refine zg_iconst (v := 4) ok dX3_step_111 (by decide) ?_
            refine zg_sub (L' := [(0, va_rf a0)]) [1] rfl ?_
            exact gt_f_X3_step_J112 hl ok tab fin hRm  hE
          · refine zg_iconst (v := 0) ok dX3_step_107 (by decide) ?_
            refine zg_goto (tgt := 112) ok dX3_step_108 (by decide) ?_
            refine zg_sub (L' := [(0, va_rf a0)]) [1] rfl ?_
            exact gt_f_X3_step_J112 hl ok tab fin hRm  hE
      · refine zg_aload_n ok dX3_step_54 rfl 1 rfl ?_
        refine zg_iconst (v := 3) ok dX3_step_55 (by decide) ?_
        refine zg_put (ty := .int) ok lf_X3_64 (Or.inl rfl) (by decide) (by decide +kernel) rfl rfl dX3_step_56 hE (fun h36 hE => ?_)
        refine zg_goto (tgt := 278) ok dX3_step_59 (by decide) ?_
        exact zg_vret ok fin dX3_step_278 ⟨Nat.le_of_ble_eq_true rfl, Nat.le_of_ble_eq_true rfl⟩ hE
set_option maxHeartbeats 8000000 in
theorem mt_X3_init {l : Launch} (hl : l.stackTraces = false) {Z : zw_Z} {a0 : Option Nat} {a1 : Option Nat} {a2 : Int32} {h : zw_H} {Q : zw_H → Prop} {X : String → Nat → zw_H → Prop} (hE : f_X3_init Z.2.2.2 a0 a1 a2 h Q X) : zw_Met l Z yX3_init (ws_ yX3_init cX3_init 3 (Option.none : Option Jvm.ClassFile.FieldType)) rm_X3_init [zA a0, zA a1, zI a2] h (zq_V Q) X := by
  refine zg_start (own := "MultipoleLine$Parser") (by decide +kernel) rfl (Nat.le_of_ble_eq_true rfl) hl (fun Xc ok tab fin hRm hXl hXZ => ?_)
  subst hXl
  subst hXZ
  unfold f_X3_init at hE
  refine zg_aload_n ok dX3_init_0 rfl 0 rfl ?_
  refine zg_aload_n ok dX3_init_1 rfl 1 rfl ?_
  refine zg_put (ty := (.object "MultipoleLine")) ok lf_X3_3 (Or.inr ⟨rfl, rfl, rfl, "MultipoleLine$Parser", q770, Or.inl rfl⟩) (by decide) (by decide +kernel) (zw_nrO _ _) (zw_frO _ _) dX3_init_2 hE (fun h1 hE => ?_)
  refine zg_aload_n ok dX3_init_5 rfl 0 rfl ?_
  refine zg_objInitE (rest := []) ok hRm q392 ⟨Nat.le_of_ble_eq_true rfl, Nat.le_of_ble_eq_true rfl⟩ (Nat.le_of_ble_eq_true rfl) dX3_init_6 hE (fun hE => ?_)
  refine zg_aload_n ok dX3_init_9 rfl 0 rfl ?_
  refine zg_new ok ln_X3_15 (by rw [hRm]; exact ⟨Nat.le_of_ble_eq_true rfl, Nat.le_of_ble_eq_true rfl⟩) dX3_init_10 hE (fun v1 h2 hE => ?_)
  refine zg_cost (kc2 := 1) (ks2 := 10) ⟨rfl, rfl⟩ ?_
  refine zg_dup ok dX3_init_13 (zw_rfc _) ?_
  refine zg_callIN (vs := []) (rest := [va_rf (some v1), va_rf a0]) (rm := rm_X4_init) ok hRm lk_X3_17 dX3_init_14 (by simp) hE (fun hE => mt_X4_init hl hE) rfl (Nat.le_of_ble_eq_true rfl) ⟨⟨Nat.le_of_ble_eq_true rfl, Nat.le_of_ble_eq_true rfl⟩, Nat.le_of_ble_eq_true rfl, Nat.le_of_ble_eq_true rfl⟩ (zg_retV (fun h3 hE => ?_)) (zg_xok ok tab fin ⟨Nat.le_of_ble_eq_true rfl, Nat.le_of_ble_eq_true rfl⟩)
  refine zg_cost (kc2 := 243) (ks2 := 1257) ⟨rfl, rfl⟩ ?_
  refine zg_put (ty := (.object "MultipoleLine$Line")) ok lf_X3_18 (Or.inr ⟨rfl, rfl, rfl, "MultipoleLine$Parser", q763, Or.inl rfl⟩) (by decide) (by decide +kernel) (zw_nrO _ _) (zw_frO _ _) dX3_init_17 hE (fun h4 hE => ?_)
  refine zg_aload_n ok dX3_init_20 rfl 0 rfl ?_
  refine zg_ldcS ok ls_X3_22 dX3_init_21 ?_
  refine zg_put (ty := (.object "java/lang/String")) ok lf_X3_24 (Or.inl rfl) (by decide) (by decide +kernel) (zw_nrO _ _) (zw_frO _ _) dX3_init_23 hE (fun h5 hE => ?_)
  refine zg_aload_n ok dX3_init_26 rfl 0 rfl ?_
  refine zg_iload_n ok dX3_init_27 rfl 2 rfl ?_
  refine zg_put (ty := .int) ok lf_X3_28 (Or.inr ⟨rfl, rfl, rfl, "MultipoleLine$Parser", q764, Or.inl rfl⟩) (by decide) (by decide +kernel) rfl rfl dX3_init_28 hE (fun h6 hE => ?_)
  refine zg_aload_n ok dX3_init_31 rfl 0 rfl ?_
  refine zg_callV (vs := []) (rest := []) (rm := rm_X3_step) ok hRm lk_X3_32 dX3_init_32 hE (fun hE => mt_X3_step hl hE) rfl (Nat.le_of_ble_eq_true rfl) ⟨⟨Nat.le_of_ble_eq_true rfl, Nat.le_of_ble_eq_true rfl⟩, Nat.le_of_ble_eq_true rfl, Nat.le_of_ble_eq_true rfl⟩ (zg_retV (fun h7 hE => ?_)) (zg_xok ok tab fin ⟨Nat.le_of_ble_eq_true rfl, Nat.le_of_ble_eq_true rfl⟩)
  refine zg_cost (kc2 := 247) (ks2 := 1297) ⟨rfl, rfl⟩ ?_
  exact zg_vret ok fin dX3_init_35 ⟨Nat.le_of_ble_eq_true rfl, Nat.le_of_ble_eq_true rfl⟩ hE
set_option maxHeartbeats 8000000 in
theorem gt_f_J16_equals_B9 {Xc : zw_X} {Q : Int32 → zw_H → Prop} {X : String → Nat → zw_H → Prop} (hl : (zw_l Xc).stackTraces = false) (ok : zw_ok Xc cJ16_equals "java/lang/StringLatin1" yJ16_equals.name 3) (tab : zw_tab Xc []) (fin : zw_fin Xc (Option.some Jvm.ClassFile.FieldType.boolean) (zq_I Q) X 0 0) (hRm : zw_rm Xc = rm_J16_equals) {kc ks : Nat} (hb : kc ≤ 0 ∧ ks ≤ 0) {R : Int32 → zw_H → Prop} {l0 : Option Nat} {l1 : Option Nat} (hR : ∀ (l2 : Int32) (h : zw_H), R l2 h → zw_G Xc kc ks 3 h 9 [(0, va_rf l0), (1, va_rf l1), (2, .int l2)] []) {k24 : zw_H → Prop} (hk24 : ∀  (h : zw_H), k24  h → zw_G Xc kc ks 3 h 24 [] []) {k32 : zw_H → Prop} (hk32 : ∀  (h : zw_H), k32  h → zw_G Xc kc ks 3 h 32 [] [])  {l2 : Int32} {h : zw_H} (hE : f_J16_equals_B9 (zw_Zf Xc).2.2.2 Q X k24 k32 l0 l1 R l2 h) : zw_G Xc kc ks 3 h 9 [(0, va_rf l0), (1, va_rf l1), (2, .int l2)] [] := by
  unfold f_J16_equals_B9 at hE
  refine zg_iload_n ok dJ16_equals_9 rfl 2 rfl ?_
  refine zg_aload_n ok dJ16_equals_10 rfl 0 rfl ?_
  refine zg_alen ok dJ16_equals_11 hE (fun v3 hE => ?_)
  refine zg_icmp_ge (tgt := 32) ok dJ16_equals_12 (by decide) hE (fun hE => ?_) (fun hE => ?_)
  · refine zg_sub (L' := []) [] rfl ?_
    exact hk32 _ hE
  · refine zg_aload_n ok dJ16_equals_15 rfl 0 rfl ?_
    refine zg_iload_n ok dJ16_equals_16 rfl 2 rfl ?_
    refine zg_bald ok dJ16_equals_17 hE (fun v4 hE => ?_)
    refine zg_aload_n ok dJ16_equals_18 rfl 1 rfl ?_
    refine zg_iload_n ok dJ16_equals_19 rfl 2 rfl ?_
    refine zg_bald ok dJ16_equals_20 hE (fun v5 hE => ?_)
    refine zg_icmp_eq (tgt := 26) ok dJ16_equals_21 (by decide) hE (fun hE => ?_) (fun hE => ?_)
    · refine zg_iincLR (k := 2) (L' := fun v6 => [(2, .int v6), (0, va_rf l0), (1, va_rf l1)]) ok dJ16_equals_26 (by decide +kernel) hE rfl (by decide) rfl (k9 := 1) rfl (fun _ => rfl) (fun v6 hE => ?_)
      refine zg_goto (tgt := 9) ok dJ16_equals_29 (by decide) ?_
      refine zg_sub (L' := [(0, va_rf l0), (1, va_rf l1), (2, .int v6)]) [1, 2, 0] rfl ?_
      exact hR _ _ hE
    · refine zg_sub (L' := []) [] rfl ?_
      exact hk24 _ hE
theorem gt_f_J16_equals_L9 {Xc : zw_X} {Q : Int32 → zw_H → Prop} {X : String → Nat → zw_H → Prop} (hl : (zw_l Xc).stackTraces = false) (ok : zw_ok Xc cJ16_equals "java/lang/StringLatin1" yJ16_equals.name 3) (tab : zw_tab Xc []) (fin : zw_fin Xc (Option.some Jvm.ClassFile.FieldType.boolean) (zq_I Q) X 0 0) (hRm : zw_rm Xc = rm_J16_equals) {kc ks : Nat} (hb : kc ≤ 0 ∧ ks ≤ 0) {l0 : Option Nat} {l1 : Option Nat} {k24 : zw_H → Prop} (hk24 : ∀  (h : zw_H), k24  h → zw_G Xc kc ks 3 h 24 [] []) {k32 : zw_H → Prop} (hk32 : ∀  (h : zw_H), k32  h → zw_G Xc kc ks 3 h 32 [] [])  : ∀ (n9 : Nat) (l2 : Int32) (h : zw_H), zl2 (f_J16_equals_B9 (zw_Zf Xc).2.2.2 Q X k24 k32 l0 l1) n9 l2 h → zw_G Xc kc ks 3 h 9 [(0, va_rf l0), (1, va_rf l1), (2, .int l2)] [] := by
  intro n9
  induction n9 with
  | zero => intro l2 h hE; exact hE.elim
  | succ n9 ih => intro l2 h hE; exact gt_f_J16_equals_B9 hl ok tab fin hRm hb ih hk24 hk32 hE
set_option maxHeartbeats 8000000 in
theorem mt_J16_equals {l : Launch} (hl : l.stackTraces = false) {Z : zw_Z} {a0 : Option Nat} {a1 : Option Nat} {h : zw_H} {Q : Int32 → zw_H → Prop} {X : String → Nat → zw_H → Prop} (hE : f_J16_equals Z.2.2.2 a0 a1 h Q X) : zw_Met l Z yJ16_equals (ws_ yJ16_equals cJ16_equals 3 (Option.some Jvm.ClassFile.FieldType.boolean)) rm_J16_equals [zA a0, zA a1] h (zq_I Q) X := by
  refine zg_start (own := "java/lang/StringLatin1") (by decide +kernel) rfl (Nat.le_of_ble_eq_true rfl) hl (fun Xc ok tab fin hRm hXl hXZ => ?_)
  subst hXl
  subst hXZ
  unfold f_J16_equals at hE
  refine zg_aload_n ok dJ16_equals_0 rfl 0 rfl ?_
  refine zg_alen ok dJ16_equals_1 hE (fun v1 hE => ?_)
  refine zg_aload_n ok dJ16_equals_2 rfl 1 rfl ?_
  refine zg_alen ok dJ16_equals_3 hE (fun v2 hE => ?_)
  refine zg_icmp_ne (tgt := 34) ok dJ16_equals_4 (by decide) hE (fun hE => ?_) (fun hE => ?_)
  · refine zg_iconst (v := 0) ok dJ16_equals_34 (by decide) ?_
    exact zg_zret ok fin dJ16_equals_35 ⟨Nat.le_of_ble_eq_true rfl, Nat.le_of_ble_eq_true rfl⟩ rfl hE
  · refine zg_iconst (v := 0) ok dJ16_equals_7 (by decide) ?_
    refine zg_istore_nR (L' := [(2, .int 0), (0, va_rf a0), (1, va_rf a1)]) ok dJ16_equals_8 rfl (by decide) 1 rfl rfl rfl ?_
    refine zg_sub (L' := [(0, va_rf a0), (1, va_rf a1), (2, .int 0)]) [1, 2, 0] rfl ?_
    refine gt_f_J16_equals_L9 hl ok tab fin hRm ⟨Nat.le_of_ble_eq_true rfl, Nat.le_of_ble_eq_true rfl⟩ ?_ ?_ _ _ _ hE
    · intro h1 hE
      refine zg_iconst (v := 0) ok dJ16_equals_24 (by decide) ?_
      exact zg_zret ok fin dJ16_equals_25 ⟨Nat.le_of_ble_eq_true rfl, Nat.le_of_ble_eq_true rfl⟩ rfl hE
    · intro h2 hE
      refine zg_iconst (v := 1) ok dJ16_equals_32 (by decide) ?_
      exact zg_zret ok fin dJ16_equals_33 ⟨Nat.le_of_ble_eq_true rfl, Nat.le_of_ble_eq_true rfl⟩ rfl hE
set_option maxHeartbeats 8000000 in
theorem gt_f_J4_equals_J36 {Xc : zw_X} {Q : Int32 → zw_H → Prop} {X : String → Nat → zw_H → Prop} (hl : (zw_l Xc).stackTraces = false) (ok : zw_ok Xc cJ4_equals "java/lang/String" yJ4_equals.name 3) (tab : zw_tab Xc []) (fin : zw_fin Xc (Option.some Jvm.ClassFile.FieldType.boolean) (zq_I Q) X 0 0) (hRm : zw_rm Xc = rm_J4_equals)  {l0 : Option Nat} {l2 : Option Nat}  {h : zw_H} (hE : f_J4_equals_J36 (zw_Zf Xc).2.2.2 Q X  l0 l2 h) : zw_G Xc 0 0 3 h 36 [(0, va_rf l0), (2, va_rf l2)] [] := by
  unfold f_J4_equals_J36 at hE
  refine zg_aload_n ok dJ4_equals_36 rfl 0 rfl ?_
  refine zg_getA ok lf_J4_9 dJ4_equals_37 hE (fun v2 hE => ?_)
  refine zg_aload_n ok dJ4_equals_40 rfl 1 rfl ?_
  refine zg_getA ok lf_J4_9 dJ4_equals_41 hE (fun v3 hE => ?_)
  refine zg_callS (vs := [zA v2, zA v3]) (rest := []) (rm := rm_J16_equals) ok hRm lk_J4_541 dJ4_equals_44 hE (fun hE => mt_J16_equals hl hE) rfl (Nat.le_of_ble_eq_true rfl) ⟨⟨Nat.le_of_ble_eq_true rfl, Nat.le_of_ble_eq_true rfl⟩, Nat.le_of_ble_eq_true rfl, Nat.le_of_ble_eq_true rfl⟩ (zg_retI (fun v4 h1 hE => ?_)) (zg_xok ok tab fin ⟨Nat.le_of_ble_eq_true rfl, Nat.le_of_ble_eq_true rfl⟩)
  refine zg_cost (kc2 := 0) (ks2 := 0) ⟨rfl, rfl⟩ ?_
  refine zg_if_eq (tgt := 54) ok dJ4_equals_47 (by decide) hE (fun hE => ?_) (fun hE => ?_)
  · refine zg_iconst (v := 0) ok dJ4_equals_54 (by decide) ?_
    exact zg_zret ok fin dJ4_equals_55 ⟨Nat.le_of_ble_eq_true rfl, Nat.le_of_ble_eq_true rfl⟩ rfl hE
  · refine zg_iconst (v := 1) ok dJ4_equals_50 (by decide) ?_
    refine zg_goto (tgt := 55) ok dJ4_equals_51 (by decide) ?_
    exact zg_zret ok fin dJ4_equals_55 ⟨Nat.le_of_ble_eq_true rfl, Nat.le_of_ble_eq_true rfl⟩ rfl hE
set_option maxHeartbeats 8000000 in
theorem mt_J4_equals {l : Launch} (hl : l.stackTraces = false) {Z : zw_Z} {a0 : Option Nat} {a1 : Option Nat} {h : zw_H} {Q : Int32 → zw_H → Prop} {X : String → Nat → zw_H → Prop} (hE : f_J4_equals Z.2.2.2 a0 a1 h Q X) : zw_Met l Z yJ4_equals (ws_ yJ4_equals cJ4_equals 3 (Option.some Jvm.ClassFile.FieldType.boolean)) rm_J4_equals [zA a0, zA a1] h (zq_I Q) X := by
  refine zg_startF (own := "java/lang/String") (by decide +kernel) rfl (Nat.le_of_ble_eq_true rfl) hl (fun Xc ok tab fin hRm hXl hXZ => ?_)
  subst hXl
  subst hXZ
  unfold f_J4_equals at hE
  refine zg_aload_n ok dJ4_equals_0 rfl 0 rfl ?_
  refine zg_aload_n ok dJ4_equals_1 rfl 1 rfl ?_
  refine zg_acmp_ne (tgt := 7) ok dJ4_equals_2 (by decide) hE (fun hE => ?_) (fun hE => ?_)
  · refine zg_aload_n ok dJ4_equals_7 rfl 1 rfl ?_
    refine zg_instE ok lc_J4_10 dJ4_equals_8 hE (fun v1 hE => ?_)
    refine zg_if_eq (tgt := 54) ok dJ4_equals_11 (by decide) hE (fun hE => ?_) (fun hE => ?_)
    · refine zg_iconst (v := 0) ok dJ4_equals_54 (by decide) ?_
      exact zg_zret ok fin dJ4_equals_55 ⟨Nat.le_of_ble_eq_true rfl, Nat.le_of_ble_eq_true rfl⟩ rfl hE
    · refine zg_aload_n ok dJ4_equals_14 rfl 1 rfl ?_
      refine zg_castE ok lc_J4_10 dJ4_equals_15 hE (fun hE => ?_)
      refine zg_astore_nR (L' := [(2, va_rf a1), (0, va_rf a0), (1, va_rf a1)]) ok dJ4_equals_18 rfl (by decide) 1 rfl rfl rfl ?_
      refine zg_getsI (C := "java/lang/String") (n := "COMPACT_STRINGS") (d' := "Z") (v := 1) ok (List.mem_of_getElem? (i := 0) rfl) q718 dJ4_equals_19 ?_
      refine zg_if_eq (tgt := 36) ok dJ4_equals_22 (by decide) hE (fun hE => ?_) (fun hE => ?_)
      · refine zg_sub (L' := [(0, va_rf a0), (2, va_rf a1)]) [1, 0] rfl ?_
        exact gt_f_J4_equals_J36 hl ok tab fin hRm  hE
      · refine zg_aload_n ok dJ4_equals_25 rfl 1 rfl ?_
        refine zg_getI ok lf_J4_15 dJ4_equals_26 hE (fun v5 hE => ?_)
        refine zg_aload_n ok dJ4_equals_29 rfl 0 rfl ?_
        refine zg_getI ok lf_J4_15 dJ4_equals_30 hE (fun v6 hE => ?_)
        refine zg_icmp_ne (tgt := 54) ok dJ4_equals_33 (by decide) hE (fun hE => ?_) (fun hE => ?_)
        · refine zg_iconst (v := 0) ok dJ4_equals_54 (by decide) ?_
          exact zg_zret ok fin dJ4_equals_55 ⟨Nat.le_of_ble_eq_true rfl, Nat.le_of_ble_eq_true rfl⟩ rfl hE
        · refine zg_sub (L' := [(0, va_rf a0), (2, va_rf a1)]) [1, 0] rfl ?_
          exact gt_f_J4_equals_J36 hl ok tab fin hRm  hE
  · refine zg_iconst (v := 1) ok dJ4_equals_5 (by decide) ?_
    exact zg_zret ok fin dJ4_equals_6 ⟨Nat.le_of_ble_eq_true rfl, Nat.le_of_ble_eq_true rfl⟩ rfl hE
set_option maxHeartbeats 8000000 in
theorem gt_f_J6_init_3_J41 {Xc : zw_X} {Q : zw_H → Prop} {X : String → Nat → zw_H → Prop} (hl : (zw_l Xc).stackTraces = false) (ok : zw_ok Xc cJ6_init_3 "java/lang/Throwable" yJ6_init_3.name 5) (tab : zw_tab Xc []) (fin : zw_fin Xc (Option.none : Option Jvm.ClassFile.FieldType) (zq_V Q) X 0 0) (hRm : zw_rm Xc = rm_J6_init_3)  {l0 : Option Nat} {l1 : Option Nat} {l2 : Option Nat} {l3 : Int32}  {h : zw_H} (hE : f_J6_init_3_J41 (zw_Zf Xc).2.2.2 Q X  l0 l1 l2 l3 h) : zw_G Xc 0 0 5 h 41 [(0, va_rf l0), (1, va_rf l1), (2, va_rf l2), (3, .int l3)] [] := by
  unfold f_J6_init_3_J41 at hE
  refine zg_aload_n ok dJ6_init_3_41 rfl 0 rfl ?_
  refine zg_aload_n ok dJ6_init_3_42 rfl 1 rfl ?_
  refine zg_put (ty := (.object "java/lang/String")) ok lf_J6_31 (Or.inl rfl) (by decide) (by decide +kernel) (zw_nrO _ _) (zw_frO _ _) dJ6_init_3_43 hE (fun h5 hE => ?_)
  refine zg_aload_n ok dJ6_init_3_46 rfl 0 rfl ?_
  refine zg_aload_n ok dJ6_init_3_47 rfl 2 rfl ?_
  refine zg_put (ty := (.object "java/lang/Throwable")) ok lf_J6_7 (Or.inl rfl) (by decide) (by decide +kernel) (zw_nrO _ _) (zw_frO _ _) dJ6_init_3_48 hE (fun h6 hE => ?_)
  refine zg_iload_n ok dJ6_init_3_51 rfl 3 rfl ?_
  refine zg_if_ne (tgt := 60) ok dJ6_init_3_52 (by decide) hE (fun hE => ?_) (fun hE => ?_)
  · exact zg_vret ok fin dJ6_init_3_60 ⟨Nat.le_of_ble_eq_true rfl, Nat.le_of_ble_eq_true rfl⟩ hE
  · refine zg_aload_n ok dJ6_init_3_55 rfl 0 rfl ?_
    refine zg_null ok dJ6_init_3_56 ?_
    refine zg_put (ty := (.object "java/util/List")) ok lf_J6_24 (Or.inl rfl) (by decide) (by decide +kernel) (zw_nrO _ _) (zw_frO _ _) dJ6_init_3_57 hE (fun h7 hE => ?_)
    exact zg_vret ok fin dJ6_init_3_60 ⟨Nat.le_of_ble_eq_true rfl, Nat.le_of_ble_eq_true rfl⟩ hE
set_option maxHeartbeats 8000000 in
theorem mt_J6_init_3 {l : Launch} (hl : l.stackTraces = false) {Z : zw_Z} {a0 : Option Nat} {a1 : Option Nat} {a2 : Option Nat} {a3 : Int32} {a4 : Int32} {h : zw_H} {Q : zw_H → Prop} {X : String → Nat → zw_H → Prop} (hE : f_J6_init_3 Z.2.2.2 a0 a1 a2 a3 a4 h Q X) : zw_Met l Z yJ6_init_3 (ws_ yJ6_init_3 cJ6_init_3 5 (Option.none : Option Jvm.ClassFile.FieldType)) rm_J6_init_3 [zA a0, zA a1, zA a2, zI a3, zI a4] h (zq_V Q) X := by
  refine zg_startF (own := "java/lang/Throwable") (by decide +kernel) rfl (Nat.le_of_ble_eq_true rfl) hl (fun Xc ok tab fin hRm hXl hXZ => ?_)
  subst hXl
  subst hXZ
  unfold f_J6_init_3 at hE
  refine zg_aload_n ok dJ6_init_3_0 rfl 0 rfl ?_
  refine zg_objInitE (rest := []) ok hRm q290 ⟨Nat.le_of_ble_eq_true rfl, Nat.le_of_ble_eq_true rfl⟩ (Nat.le_of_ble_eq_true rfl) dJ6_init_3_1 hE (fun hE => ?_)
  refine zg_aload_n ok dJ6_init_3_4 rfl 0 rfl ?_
  refine zg_aload_n ok dJ6_init_3_5 rfl 0 rfl ?_
  refine zg_put (ty := (.object "java/lang/Throwable")) ok lf_J6_7 (Or.inl rfl) (by decide) (by decide +kernel) (zw_nrO _ _) (zw_frO _ _) dJ6_init_3_6 hE (fun h1 hE => ?_)
  refine zg_aload_n ok dJ6_init_3_9 rfl 0 rfl ?_
  refine zg_getsA (C := "java/lang/Throwable") (n := "UNASSIGNED_STACK") (d' := "[Ljava/lang/StackTraceElement;") (k := 0) ok (List.mem_of_getElem? (i := 0) rfl) q291 dJ6_init_3_10 ?_
  refine zg_put (ty := (.array (.object "java/lang/StackTraceElement"))) ok lf_J6_17 (Or.inl rfl) (by decide) (by decide +kernel) (zw_nrA _ _) (zw_frA _ _) dJ6_init_3_13 hE (fun h2 hE => ?_)
  refine zg_aload_n ok dJ6_init_3_16 rfl 0 rfl ?_
  refine zg_getsA (C := "java/lang/Throwable") (n := "SUPPRESSED_SENTINEL") (d' := "Ljava/util/List;") (k := 1) ok (List.mem_of_getElem? (i := 1) rfl) q293 dJ6_init_3_17 ?_
  refine zg_put (ty := (.object "java/util/List")) ok lf_J6_24 (Or.inl rfl) (by decide) (by decide +kernel) (zw_nrO _ _) (zw_frO _ _) dJ6_init_3_20 hE (fun h3 hE => ?_)
  refine zg_iload ok dJ6_init_3_23 4 rfl ?_
  refine zg_if_eq (tgt := 36) ok dJ6_init_3_25 (by decide) hE (fun hE => ?_) (fun hE => ?_)
  · refine zg_aload_n ok dJ6_init_3_36 rfl 0 rfl ?_
    refine zg_null ok dJ6_init_3_37 ?_
    refine zg_put (ty := (.array (.object "java/lang/StackTraceElement"))) ok lf_J6_17 (Or.inl rfl) (by decide) (by decide +kernel) (zw_nrA _ _) (zw_frA _ _) dJ6_init_3_38 hE (fun h4 hE => ?_)
    refine zg_sub (L' := [(0, va_rf a0), (1, va_rf a1), (2, va_rf a2), (3, .int a3)]) [0, 1, 2, 3] rfl ?_
    exact gt_f_J6_init_3_J41 hl ok tab fin hRm  hE
  · exact hE.elim
set_option maxHeartbeats 8000000 in
theorem mt_J7_init_3 {l : Launch} (hl : l.stackTraces = false) {Z : zw_Z} {a0 : Option Nat} {a1 : Option Nat} {a2 : Option Nat} {a3 : Int32} {a4 : Int32} {h : zw_H} {Q : zw_H → Prop} {X : String → Nat → zw_H → Prop} (hE : f_J7_init_3 Z.2.2.2 a0 a1 a2 a3 a4 h Q X) : zw_Met l Z yJ7_init_3 (ws_ yJ7_init_3 cJ7_init_3 5 (Option.none : Option Jvm.ClassFile.FieldType)) rm_J7_init_3 [zA a0, zA a1, zA a2, zI a3, zI a4] h (zq_V Q) X := by
  refine zg_start (own := "java/lang/Exception") (by decide +kernel) rfl (Nat.le_of_ble_eq_true rfl) hl (fun Xc ok tab fin hRm hXl hXZ => ?_)
  subst hXl
  subst hXZ
  unfold f_J7_init_3 at hE
  refine zg_aload_n ok dJ7_init_3_0 rfl 0 rfl ?_
  refine zg_aload_n ok dJ7_init_3_1 rfl 1 rfl ?_
  refine zg_aload_n ok dJ7_init_3_2 rfl 2 rfl ?_
  refine zg_iload_n ok dJ7_init_3_3 rfl 3 rfl ?_
  refine zg_iload ok dJ7_init_3_4 4 rfl ?_
  refine zg_callI (vs := [zA a1, zA a2, zI a3, zI a4]) (rest := []) (rm := rm_J6_init_3) ok hRm lk_J7_16 dJ7_init_3_6 hE.1 hE.2 (fun hE => mt_J6_init_3 hl hE) rfl (Nat.le_of_ble_eq_true rfl) ⟨⟨Nat.le_of_ble_eq_true rfl, Nat.le_of_ble_eq_true rfl⟩, Nat.le_of_ble_eq_true rfl, Nat.le_of_ble_eq_true rfl⟩ (zg_retV (fun h1 hE => ?_)) (zg_xok ok tab fin ⟨Nat.le_of_ble_eq_true rfl, Nat.le_of_ble_eq_true rfl⟩)
  refine zg_cost (kc2 := 0) (ks2 := 0) ⟨rfl, rfl⟩ ?_
  exact zg_vret ok fin dJ7_init_3_9 ⟨Nat.le_of_ble_eq_true rfl, Nat.le_of_ble_eq_true rfl⟩ hE
set_option maxHeartbeats 8000000 in
theorem mt_X6_init {l : Launch} (hl : l.stackTraces = false) {Z : zw_Z} {a0 : Option Nat} {a1 : Int32} {a2 : Int32} {h : zw_H} {Q : zw_H → Prop} {X : String → Nat → zw_H → Prop} (hE : f_X6_init Z.2.2.2 a0 a1 a2 h Q X) : zw_Met l Z yX6_init (ws_ yX6_init cX6_init 3 (Option.none : Option Jvm.ClassFile.FieldType)) rm_X6_init [zA a0, zI a1, zI a2] h (zq_V Q) X := by
  refine zg_start (own := "MultipoleLine$Flaw") (by decide +kernel) rfl (Nat.le_of_ble_eq_true rfl) hl (fun Xc ok tab fin hRm hXl hXZ => ?_)
  subst hXl
  subst hXZ
  unfold f_X6_init at hE
  refine zg_aload_n ok dX6_init_0 rfl 0 rfl ?_
  refine zg_null ok dX6_init_1 ?_
  refine zg_null ok dX6_init_2 ?_
  refine zg_iconst (v := 0) ok dX6_init_3 (by decide) ?_
  refine zg_iconst (v := 0) ok dX6_init_4 (by decide) ?_
  refine zg_callI (vs := [zA none, zA none, zI 0, zI 0]) (rest := []) (rm := rm_J7_init_3) ok hRm lk_X6_1 dX6_init_5 hE.1 hE.2 (fun hE => mt_J7_init_3 hl hE) rfl (Nat.le_of_ble_eq_true rfl) ⟨⟨Nat.le_of_ble_eq_true rfl, Nat.le_of_ble_eq_true rfl⟩, Nat.le_of_ble_eq_true rfl, Nat.le_of_ble_eq_true rfl⟩ (zg_retV (fun h1 hE => ?_)) (zg_xok ok tab fin ⟨Nat.le_of_ble_eq_true rfl, Nat.le_of_ble_eq_true rfl⟩)
  refine zg_cost (kc2 := 0) (ks2 := 0) ⟨rfl, rfl⟩ ?_
  refine zg_aload_n ok dX6_init_8 rfl 0 rfl ?_
  refine zg_iload_n ok dX6_init_9 rfl 1 rfl ?_
  refine zg_put (ty := .int) ok lf_X6_7 (Or.inr ⟨rfl, rfl, rfl, "MultipoleLine$Flaw", q823, Or.inl rfl⟩) (by decide) (by decide +kernel) rfl rfl dX6_init_10 hE (fun h2 hE => ?_)
  refine zg_aload_n ok dX6_init_13 rfl 0 rfl ?_
  refine zg_iload_n ok dX6_init_14 rfl 2 rfl ?_
  refine zg_put (ty := .int) ok lf_X6_13 (Or.inr ⟨rfl, rfl, rfl, "MultipoleLine$Flaw", q825, Or.inl rfl⟩) (by decide) (by decide +kernel) rfl rfl dX6_init_15 hE (fun h3 hE => ?_)
  exact zg_vret ok fin dX6_init_18 ⟨Nat.le_of_ble_eq_true rfl, Nat.le_of_ble_eq_true rfl⟩ hE
set_option maxHeartbeats 8000000 in
theorem mt_X3_check {l : Launch} (hl : l.stackTraces = false) {Z : zw_Z} {a0 : Option Nat} {a1 : Int32} {a2 : Int32} {h : zw_H} {Q : zw_H → Prop} {X : String → Nat → zw_H → Prop} (hE : f_X3_check Z.2.2.2 a0 a1 a2 h Q X) : zw_Met l Z yX3_check (ws_ yX3_check cX3_check 3 (Option.none : Option Jvm.ClassFile.FieldType)) rm_X3_check [zA a0, zI a1, zI a2] h (zq_V Q) X := by
  refine zg_start (own := "MultipoleLine$Parser") (by decide +kernel) rfl (Nat.le_of_ble_eq_true rfl) hl (fun Xc ok tab fin hRm hXl hXZ => ?_)
  subst hXl
  subst hXZ
  unfold f_X3_check at hE
  refine zg_iload_n ok dX3_check_0 rfl 1 rfl ?_
  refine zg_if_ne (tgt := 17) ok dX3_check_1 (by decide) hE (fun hE => ?_) (fun hE => ?_)
  · exact zg_vret ok fin dX3_check_17 ⟨Nat.le_of_ble_eq_true rfl, Nat.le_of_ble_eq_true rfl⟩ hE
  · refine zg_new ok ln_X3_86 (by rw [hRm]; exact ⟨Nat.le_of_ble_eq_true rfl, Nat.le_of_ble_eq_true rfl⟩) dX3_check_4 hE (fun v1 h1 hE => ?_)
    refine zg_cost (kc2 := 1) (ks2 := 8) ⟨rfl, rfl⟩ ?_
    refine zg_dup ok dX3_check_7 (zw_rfc _) ?_
    refine zg_iload_n ok dX3_check_8 rfl 2 rfl ?_
    refine zg_aload_n ok dX3_check_9 rfl 0 rfl ?_
    refine zg_getI ok lf_X3_61 dX3_check_10 hE (fun v2 hE => ?_)
    refine zg_callI (vs := [zI a2, zI v2]) (rest := [va_rf (some v1)]) (rm := rm_X6_init) ok hRm lk_X3_88 dX3_check_13 (by simp) hE (fun hE => mt_X6_init hl hE) rfl (Nat.le_of_ble_eq_true rfl) ⟨⟨Nat.le_of_ble_eq_true rfl, Nat.le_of_ble_eq_true rfl⟩, Nat.le_of_ble_eq_true rfl, Nat.le_of_ble_eq_true rfl⟩ (zg_retV (fun h2 hE => ?_)) (zg_xok ok tab fin ⟨Nat.le_of_ble_eq_true rfl, Nat.le_of_ble_eq_true rfl⟩)
    refine zg_cost (kc2 := 1) (ks2 := 8) ⟨rfl, rfl⟩ ?_
    refine zg_athrowE ok dX3_check_16 hE (fun v3 hE => ?_)
    exact zg_xout ok tab fin (fun z hz => by cases hz) ⟨Nat.le_of_ble_eq_true rfl, Nat.le_of_ble_eq_true rfl⟩ hE
set_option maxHeartbeats 8000000 in
theorem mt_X4_low {l : Launch} (hl : l.stackTraces = false) {Z : zw_Z} {a0 : Int32} {h : zw_H} {Q : Int32 → zw_H → Prop} {X : String → Nat → zw_H → Prop} (hE : f_X4_low Z.2.2.2 a0 h Q X) : zw_Met l Z yX4_low (ws_ yX4_low cX4_low 1 (Option.some Jvm.ClassFile.FieldType.int)) rm_X4_low [zI a0] h (zq_I Q) X := by
  refine zg_start (own := "MultipoleLine$Line") (by decide +kernel) rfl (Nat.le_of_ble_eq_true rfl) hl (fun Xc ok tab fin hRm hXl hXZ => ?_)
  subst hXl
  subst hXZ
  unfold f_X4_low at hE
  refine zg_iload_n ok dX4_low_0 rfl 0 rfl ?_
  refine zg_iconst (v := 3) ok dX4_low_1 (by decide) ?_
  refine zg_icmp_ne (tgt := 9) ok dX4_low_2 (by decide) hE (fun hE => ?_) (fun hE => ?_)
  · refine zg_iconst (v := 0) ok dX4_low_9 (by decide) ?_
    exact zg_iret ok fin dX4_low_10 ⟨Nat.le_of_ble_eq_true rfl, Nat.le_of_ble_eq_true rfl⟩ hE
  · refine zg_iconst (v := 2) ok dX4_low_5 (by decide) ?_
    refine zg_goto (tgt := 10) ok dX4_low_6 (by decide) ?_
    exact zg_iret ok fin dX4_low_10 ⟨Nat.le_of_ble_eq_true rfl, Nat.le_of_ble_eq_true rfl⟩ hE
set_option maxHeartbeats 8000000 in
theorem mt_X4_high {l : Launch} (hl : l.stackTraces = false) {Z : zw_Z} {a0 : Int32} {h : zw_H} {Q : Int32 → zw_H → Prop} {X : String → Nat → zw_H → Prop} (hE : f_X4_high Z.2.2.2 a0 h Q X) : zw_Met l Z yX4_high (ws_ yX4_high cX4_high 1 (Option.some Jvm.ClassFile.FieldType.int)) rm_X4_high [zI a0] h (zq_I Q) X := by
  refine zg_start (own := "MultipoleLine$Line") (by decide +kernel) rfl (Nat.le_of_ble_eq_true rfl) hl (fun Xc ok tab fin hRm hXl hXZ => ?_)
  subst hXl
  subst hXZ
  unfold f_X4_high at hE
  refine zg_iload_n ok dX4_high_0 rfl 0 rfl ?_
  refine zg_iconst (v := 3) ok dX4_high_1 (by decide) ?_
  refine zg_icmp_ne (tgt := 9) ok dX4_high_2 (by decide) hE (fun hE => ?_) (fun hE => ?_)
  · refine zg_iload_n ok dX4_high_9 rfl 0 rfl ?_
    refine zg_iconst (v := 4) ok dX4_high_10 (by decide) ?_
    refine zg_icmp_ne (tgt := 18) ok dX4_high_11 (by decide) hE (fun hE => ?_) (fun hE => ?_)
    · refine zg_sipush (v := 999) ok dX4_high_18 (by decide) ?_
      exact zg_iret ok fin dX4_high_21 ⟨Nat.le_of_ble_eq_true rfl, Nat.le_of_ble_eq_true rfl⟩ hE
    · refine zg_iconst (v := 4) ok dX4_high_14 (by decide) ?_
      refine zg_goto (tgt := 21) ok dX4_high_15 (by decide) ?_
      exact zg_iret ok fin dX4_high_21 ⟨Nat.le_of_ble_eq_true rfl, Nat.le_of_ble_eq_true rfl⟩ hE
  · refine zg_iconst (v := 5) ok dX4_high_5 (by decide) ?_
    refine zg_goto (tgt := 21) ok dX4_high_6 (by decide) ?_
    exact zg_iret ok fin dX4_high_21 ⟨Nat.le_of_ble_eq_true rfl, Nat.le_of_ble_eq_true rfl⟩ hE
set_option maxHeartbeats 8000000 in
theorem gt_f_X3_looks_J14 {Xc : zw_X} {Q : Int32 → zw_H → Prop} {X : String → Nat → zw_H → Prop} (hl : (zw_l Xc).stackTraces = false) (ok : zw_ok Xc cX3_looks "MultipoleLine$Parser" yX3_looks.name 3) (tab : zw_tab Xc []) (fin : zw_fin Xc (Option.some Jvm.ClassFile.FieldType.int) (zq_I Q) X 2 16) (hRm : zw_rm Xc = rm_X3_looks)  {l0 : Option Nat} {l1 : Int32} {l2 : Int32} {s0 : Int32} {s1 : Option Nat} {h : zw_H} (hE : f_X3_looks_J14 (zw_Zf Xc).2.2.2 Q X  l0 l1 l2 s0 s1 h) : zw_G Xc 0 0 3 h 14 [(0, va_rf l0), (1, .int l1), (2, .int l2)] [.int s0, va_rf s1] := by
  unfold f_X3_looks_J14 at hE
  refine zg_iconst (v := 1) ok dX3_looks_14 (by decide) ?_
  refine zg_callV (vs := [zI s0, zI 1]) (rest := []) (rm := rm_X3_check) ok hRm lk_X3_91 dX3_looks_15 hE (fun hE => mt_X3_check hl hE) rfl (Nat.le_of_ble_eq_true rfl) ⟨⟨Nat.le_of_ble_eq_true rfl, Nat.le_of_ble_eq_true rfl⟩, Nat.le_of_ble_eq_true rfl, Nat.le_of_ble_eq_true rfl⟩ (zg_retV (fun h1 hE => ?_)) (zg_xok ok tab fin ⟨Nat.le_of_ble_eq_true rfl, Nat.le_of_ble_eq_true rfl⟩)
  refine zg_cost (kc2 := 1) (ks2 := 8) ⟨rfl, rfl⟩ ?_
  refine zg_aload_n ok dX3_looks_18 rfl 0 rfl ?_
  refine zg_aload_n ok dX3_looks_19 rfl 0 rfl ?_
  refine zg_getI ok lf_X3_83 dX3_looks_20 hE (fun v2 hE => ?_)
  refine zg_i2l ok dX3_looks_23 ?_
  refine zg_iload_n ok dX3_looks_24 rfl 1 rfl ?_
  refine zg_i2l ok dX3_looks_25 ?_
  refine zg_iload_n ok dX3_looks_26 rfl 2 rfl ?_
  refine zg_i2l ok dX3_looks_27 ?_
  refine zg_callSN (vs := [zJ v2.toInt64, zJ l1.toInt64, zJ l2.toInt64]) (rest := [va_rf l0]) (rm := rm_X1_in) ok hRm lk_X3_43 dX3_looks_28 hE (fun hE => mt_X1_in hl hE) rfl (Nat.le_of_ble_eq_true rfl) ⟨⟨Nat.le_of_ble_eq_true rfl, Nat.le_of_ble_eq_true rfl⟩, Nat.le_of_ble_eq_true rfl, Nat.le_of_ble_eq_true rfl⟩ (zg_retI (fun v3 h2 hE => ?_)) (zg_xok ok tab fin ⟨Nat.le_of_ble_eq_true rfl, Nat.le_of_ble_eq_true rfl⟩)
  refine zg_cost (kc2 := 1) (ks2 := 8) ⟨rfl, rfl⟩ ?_
  refine zg_iconst (v := 2) ok dX3_looks_31 (by decide) ?_
  refine zg_callV (vs := [zI v3, zI 2]) (rest := []) (rm := rm_X3_check) ok hRm lk_X3_91 dX3_looks_32 hE (fun hE => mt_X3_check hl hE) rfl (Nat.le_of_ble_eq_true rfl) ⟨⟨Nat.le_of_ble_eq_true rfl, Nat.le_of_ble_eq_true rfl⟩, Nat.le_of_ble_eq_true rfl, Nat.le_of_ble_eq_true rfl⟩ (zg_retV (fun h3 hE => ?_)) (zg_xok ok tab fin ⟨Nat.le_of_ble_eq_true rfl, Nat.le_of_ble_eq_true rfl⟩)
  refine zg_cost (kc2 := 2) (ks2 := 16) ⟨rfl, rfl⟩ ?_
  refine zg_aload_n ok dX3_looks_35 rfl 0 rfl ?_
  refine zg_getI ok lf_X3_83 dX3_looks_36 hE (fun v4 hE => ?_)
  exact zg_iret ok fin dX3_looks_39 ⟨Nat.le_of_ble_eq_true rfl, Nat.le_of_ble_eq_true rfl⟩ hE
set_option maxHeartbeats 8000000 in
theorem mt_X3_looks {l : Launch} (hl : l.stackTraces = false) {Z : zw_Z} {a0 : Option Nat} {a1 : Int32} {a2 : Int32} {h : zw_H} {Q : Int32 → zw_H → Prop} {X : String → Nat → zw_H → Prop} (hE : f_X3_looks Z.2.2.2 a0 a1 a2 h Q X) : zw_Met l Z yX3_looks (ws_ yX3_looks cX3_looks 3 (Option.some Jvm.ClassFile.FieldType.int)) rm_X3_looks [zA a0, zI a1, zI a2] h (zq_I Q) X := by
  refine zg_start (own := "MultipoleLine$Parser") (by decide +kernel) rfl (Nat.le_of_ble_eq_true rfl) hl (fun Xc ok tab fin hRm hXl hXZ => ?_)
  subst hXl
  subst hXZ
  unfold f_X3_looks at hE
  refine zg_aload_n ok dX3_looks_0 rfl 0 rfl ?_
  refine zg_aload_n ok dX3_looks_1 rfl 0 rfl ?_
  refine zg_getI ok lf_X3_64 dX3_looks_2 hE (fun v1 hE => ?_)
  refine zg_iconst (v := 1) ok dX3_looks_5 (by decide) ?_
  refine zg_icmp_ne (tgt := 13) ok dX3_looks_6 (by decide) hE (fun hE => ?_) (fun hE => ?_)
  · refine zg_iconst (v := 0) ok dX3_looks_13 (by decide) ?_
    exact gt_f_X3_looks_J14 hl ok tab fin hRm  hE
  · refine zg_iconst (v := 1) ok dX3_looks_9 (by decide) ?_
    refine zg_goto (tgt := 14) ok dX3_looks_10 (by decide) ?_
    exact gt_f_X3_looks_J14 hl ok tab fin hRm  hE
set_option maxHeartbeats 8000000 in
theorem mt_X3_number {l : Launch} (hl : l.stackTraces = false) {Z : zw_Z} {a0 : Option Nat} {a1 : Int32} {a2 : Int32} {h : zw_H} {Q : Int32 → zw_H → Prop} {X : String → Nat → zw_H → Prop} (hE : f_X3_number Z.2.2.2 a0 a1 a2 h Q X) : zw_Met l Z yX3_number (ws_ yX3_number cX3_number 4 (Option.some Jvm.ClassFile.FieldType.int)) rm_X3_number [zA a0, zI a1, zI a2] h (zq_I Q) X := by
  refine zg_start (own := "MultipoleLine$Parser") (by decide +kernel) rfl (Nat.le_of_ble_eq_true rfl) hl (fun Xc ok tab fin hRm hXl hXZ => ?_)
  subst hXl
  subst hXZ
  unfold f_X3_number at hE
  refine zg_aload_n ok dX3_number_0 rfl 0 rfl ?_
  refine zg_iload_n ok dX3_number_1 rfl 1 rfl ?_
  refine zg_iload_n ok dX3_number_2 rfl 2 rfl ?_
  refine zg_callV (vs := [zI a1, zI a2]) (rest := []) (rm := rm_X3_looks) ok hRm lk_X3_95 dX3_number_3 hE (fun hE => mt_X3_looks hl hE) rfl (Nat.le_of_ble_eq_true rfl) ⟨⟨Nat.le_of_ble_eq_true rfl, Nat.le_of_ble_eq_true rfl⟩, Nat.le_of_ble_eq_true rfl, Nat.le_of_ble_eq_true rfl⟩ (zg_retI (fun v1 h1 hE => ?_)) (zg_xok ok tab fin ⟨Nat.le_of_ble_eq_true rfl, Nat.le_of_ble_eq_true rfl⟩)
  refine zg_cost (kc2 := 2) (ks2 := 16) ⟨rfl, rfl⟩ ?_
  refine zg_istore_n (L' := [(3, .int v1), (0, va_rf a0), (1, .int a1), (2, .int a2)]) ok dX3_number_6 rfl (by decide) rfl ?_
  refine zg_aload_n ok dX3_number_7 rfl 1 rfl ?_
  refine zg_callV (vs := []) (rest := []) (rm := rm_X3_step) ok hRm lk_X3_32 dX3_number_8 hE (fun hE => mt_X3_step hl hE) rfl (Nat.le_of_ble_eq_true rfl) ⟨⟨Nat.le_of_ble_eq_true rfl, Nat.le_of_ble_eq_true rfl⟩, Nat.le_of_ble_eq_true rfl, Nat.le_of_ble_eq_true rfl⟩ (zg_retV (fun h2 hE => ?_)) (zg_xok ok tab fin ⟨Nat.le_of_ble_eq_true rfl, Nat.le_of_ble_eq_true rfl⟩)
  refine zg_cost (kc2 := 6) (ks2 := 56) ⟨rfl, rfl⟩ ?_
  refine zg_iload_n ok dX3_number_11 rfl 0 rfl ?_
  exact zg_iret ok fin dX3_number_12 ⟨Nat.le_of_ble_eq_true rfl, Nat.le_of_ble_eq_true rfl⟩ hE
set_option maxHeartbeats 8000000 in
theorem mt_X4_sets {l : Launch} (hl : l.stackTraces = false) {Z : zw_Z} {a0 : Option Nat} {a1 : Int32} {a2 : Int32} {h : zw_H} {Q : zw_H → Prop} {X : String → Nat → zw_H → Prop} (hE : f_X4_sets Z.2.2.2 a0 a1 a2 h Q X) : zw_Met l Z yX4_sets (ws_ yX4_sets cX4_sets 3 (Option.none : Option Jvm.ClassFile.FieldType)) rm_X4_sets [zA a0, zI a1, zI a2] h (zq_V Q) X := by
  refine zg_start (own := "MultipoleLine$Line") (by decide +kernel) rfl (Nat.le_of_ble_eq_true rfl) hl (fun Xc ok tab fin hRm hXl hXZ => ?_)
  subst hXl
  subst hXZ
  unfold f_X4_sets at hE
  refine zg_iload_n ok dX4_sets_0 rfl 1 rfl ?_
  by_cases c9 : a1 = 3
  · rw [if_pos c9] at hE
    refine zg_lookup (tgt := 28) ok dX4_sets_1 (by decide) (by rw [c9] <;> decide) (by decide) ?_
    refine zg_aload_n ok dX4_sets_28 rfl 0 rfl ?_
    refine zg_iload_n ok dX4_sets_29 rfl 2 rfl ?_
    refine zg_put (ty := .int) ok lf_X4_57 (Or.inl rfl) (by decide) (by decide +kernel) rfl rfl dX4_sets_30 hE (fun h1 hE => ?_)
    refine zg_goto (tgt := 49) ok dX4_sets_33 (by decide) ?_
    exact zg_vret ok fin dX4_sets_49 ⟨Nat.le_of_ble_eq_true rfl, Nat.le_of_ble_eq_true rfl⟩ hE
  rw [if_neg c9] at hE
  by_cases c9 : a1 = 4
  · rw [if_pos c9] at hE
    refine zg_lookup (tgt := 36) ok dX4_sets_1 (by decide) (by rw [c9] <;> decide) (by decide) ?_
    refine zg_aload_n ok dX4_sets_36 rfl 0 rfl ?_
    refine zg_iload_n ok dX4_sets_37 rfl 2 rfl ?_
    refine zg_put (ty := .int) ok lf_X4_61 (Or.inl rfl) (by decide) (by decide +kernel) rfl rfl dX4_sets_38 hE (fun h2 hE => ?_)
    refine zg_goto (tgt := 49) ok dX4_sets_41 (by decide) ?_
    exact zg_vret ok fin dX4_sets_49 ⟨Nat.le_of_ble_eq_true rfl, Nat.le_of_ble_eq_true rfl⟩ hE
  rw [if_neg c9] at hE
  obtain ⟨hd9, hE⟩ := hE
  refine zg_lookup (tgt := 44) ok dX4_sets_1 (by decide) hd9 (by decide) ?_
  refine zg_aload_n ok dX4_sets_44 rfl 0 rfl ?_
  refine zg_iload_n ok dX4_sets_45 rfl 2 rfl ?_
  refine zg_put (ty := .int) ok lf_X4_64 (Or.inl rfl) (by decide) (by decide +kernel) rfl rfl dX4_sets_46 hE (fun h3 hE => ?_)
  exact zg_vret ok fin dX4_sets_49 ⟨Nat.le_of_ble_eq_true rfl, Nat.le_of_ble_eq_true rfl⟩ hE
set_option maxHeartbeats 8000000 in
theorem mt_J12_size {l : Launch} (hl : l.stackTraces = false) {Z : zw_Z} {a0 : Option Nat} {h : zw_H} {Q : Int32 → zw_H → Prop} {X : String → Nat → zw_H → Prop} (hE : f_J12_size Z.2.2.2 a0 h Q X) : zw_Met l Z yJ12_size (ws_ yJ12_size cJ12_size 1 (Option.some Jvm.ClassFile.FieldType.int)) rm_J12_size [zA a0] h (zq_I Q) X := by
  refine zg_start (own := "java/util/ArrayList") (by decide +kernel) rfl (Nat.le_of_ble_eq_true rfl) hl (fun Xc ok tab fin hRm hXl hXZ => ?_)
  subst hXl
  subst hXZ
  unfold f_J12_size at hE
  refine zg_aload_n ok dJ12_size_0 rfl 0 rfl ?_
  refine zg_getI ok lf_J12_48 dJ12_size_1 hE (fun v1 hE => ?_)
  exact zg_iret ok fin dJ12_size_4 ⟨Nat.le_of_ble_eq_true rfl, Nat.le_of_ble_eq_true rfl⟩ hE
set_option maxHeartbeats 8000000 in
theorem mt_X4_size {l : Launch} (hl : l.stackTraces = false) {Z : zw_Z} {a0 : Option Nat} {h : zw_H} {Q : Int32 → zw_H → Prop} {X : String → Nat → zw_H → Prop} (hE : f_X4_size Z.2.2.2 a0 h Q X) : zw_Met l Z yX4_size (ws_ yX4_size cX4_size 1 (Option.some Jvm.ClassFile.FieldType.int)) rm_X4_size [zA a0] h (zq_I Q) X := by
  refine zg_start (own := "MultipoleLine$Line") (by decide +kernel) rfl (Nat.le_of_ble_eq_true rfl) hl (fun Xc ok tab fin hRm hXl hXZ => ?_)
  subst hXl
  subst hXZ
  unfold f_X4_size at hE
  refine zg_aload_n ok dX4_size_0 rfl 0 rfl ?_
  refine zg_getA ok lf_X4_12 dX4_size_1 hE (fun v1 hE => ?_)
  refine zg_callF (vs := []) (rest := []) (rm := rm_J12_size) ok hRm lk_X4_73 dX4_size_4 hE (fun hE => mt_J12_size hl hE) rfl (Nat.le_of_ble_eq_true rfl) ⟨⟨Nat.le_of_ble_eq_true rfl, Nat.le_of_ble_eq_true rfl⟩, Nat.le_of_ble_eq_true rfl, Nat.le_of_ble_eq_true rfl⟩ (zg_retI (fun v2 h1 hE => ?_)) (zg_xok ok tab fin ⟨Nat.le_of_ble_eq_true rfl, Nat.le_of_ble_eq_true rfl⟩)
  refine zg_cost (kc2 := 0) (ks2 := 0) ⟨rfl, rfl⟩ ?_
  exact zg_iret ok fin dX4_size_9 ⟨Nat.le_of_ble_eq_true rfl, Nat.le_of_ble_eq_true rfl⟩ hE
set_option maxHeartbeats 8000000 in
theorem mt_J21_checkIndex {l : Launch} (hl : l.stackTraces = false) {Z : zw_Z} {a0 : Int32} {a1 : Int32} {h : zw_H} {Q : Int32 → zw_H → Prop} {X : String → Nat → zw_H → Prop} (hE : f_J21_checkIndex Z.2.2.2 a0 a1 h Q X) : zw_Met l Z yJ21_checkIndex (ws_ yJ21_checkIndex cJ21_checkIndex 2 (Option.some Jvm.ClassFile.FieldType.int)) rm_J21_checkIndex [zI a0, zI a1] h (zq_I Q) X := by
  refine zg_start (own := "java/util/Objects") (by decide +kernel) rfl (Nat.le_of_ble_eq_true rfl) hl (fun Xc ok tab fin hRm hXl hXZ => ?_)
  subst hXl
  subst hXZ
  unfold f_J21_checkIndex at hE
  refine zg_iload_n ok dJ21_checkIndex_0 rfl 0 rfl ?_
  refine zg_iload_n ok dJ21_checkIndex_1 rfl 1 rfl ?_
  refine zg_null ok dJ21_checkIndex_2 ?_
  refine zg_callS (vs := [zI a0, zI a1, zA none]) (rest := []) (rm := rm_J17_checkIndex) ok hRm lk_J21_105 dJ21_checkIndex_3 hE (fun hE => mt_J17_checkIndex hl hE) rfl (Nat.le_of_ble_eq_true rfl) ⟨⟨Nat.le_of_ble_eq_true rfl, Nat.le_of_ble_eq_true rfl⟩, Nat.le_of_ble_eq_true rfl, Nat.le_of_ble_eq_true rfl⟩ (zg_retI (fun v1 h1 hE => ?_)) (zg_xok ok tab fin ⟨Nat.le_of_ble_eq_true rfl, Nat.le_of_ble_eq_true rfl⟩)
  refine zg_cost (kc2 := 0) (ks2 := 0) ⟨rfl, rfl⟩ ?_
  exact zg_iret ok fin dJ21_checkIndex_6 ⟨Nat.le_of_ble_eq_true rfl, Nat.le_of_ble_eq_true rfl⟩ hE
set_option maxHeartbeats 8000000 in
theorem mt_J12_elementData {l : Launch} (hl : l.stackTraces = false) {Z : zw_Z} {a0 : Option Nat} {a1 : Int32} {h : zw_H} {Q : Option Nat → zw_H → Prop} {X : String → Nat → zw_H → Prop} (hE : f_J12_elementData Z.2.2.2 a0 a1 h Q X) : zw_Met l Z yJ12_elementData (ws_ yJ12_elementData cJ12_elementData 2 (Option.some (Jvm.ClassFile.FieldType.object "java/lang/Object"))) rm_J12_elementData [zA a0, zI a1] h (zq_A Q) X := by
  refine zg_start (own := "java/util/ArrayList") (by decide +kernel) rfl (Nat.le_of_ble_eq_true rfl) hl (fun Xc ok tab fin hRm hXl hXZ => ?_)
  subst hXl
  subst hXZ
  unfold f_J12_elementData at hE
  refine zg_aload_n ok dJ12_elementData_0 rfl 0 rfl ?_
  refine zg_getA ok lf_J12_9 dJ12_elementData_1 hE (fun v1 hE => ?_)
  refine zg_iload_n ok dJ12_elementData_4 rfl 1 rfl ?_
  refine zg_aaldO ok dJ12_elementData_5 hE (fun v2 hE => ?_)
  exact zg_aret ok fin (Or.inl ⟨_, rfl⟩) dJ12_elementData_6 ⟨Nat.le_of_ble_eq_true rfl, Nat.le_of_ble_eq_true rfl⟩ hE
set_option maxHeartbeats 8000000 in
theorem mt_J12_get {l : Launch} (hl : l.stackTraces = false) {Z : zw_Z} {a0 : Option Nat} {a1 : Int32} {h : zw_H} {Q : Option Nat → zw_H → Prop} {X : String → Nat → zw_H → Prop} (hE : f_J12_get Z.2.2.2 a0 a1 h Q X) : zw_Met l Z yJ12_get (ws_ yJ12_get cJ12_get 2 (Option.some (Jvm.ClassFile.FieldType.object "java/lang/Object"))) rm_J12_get [zA a0, zI a1] h (zq_A Q) X := by
  refine zg_start (own := "java/util/ArrayList") (by decide +kernel) rfl (Nat.le_of_ble_eq_true rfl) hl (fun Xc ok tab fin hRm hXl hXZ => ?_)
  subst hXl
  subst hXZ
  unfold f_J12_get at hE
  refine zg_iload_n ok dJ12_get_0 rfl 1 rfl ?_
  refine zg_aload_n ok dJ12_get_1 rfl 0 rfl ?_
  refine zg_getI ok lf_J12_48 dJ12_get_2 hE (fun v1 hE => ?_)
  refine zg_callS (vs := [zI a1, zI v1]) (rest := []) (rm := rm_J21_checkIndex) ok hRm lk_J12_118 dJ12_get_5 hE (fun hE => mt_J21_checkIndex hl hE) rfl (Nat.le_of_ble_eq_true rfl) ⟨⟨Nat.le_of_ble_eq_true rfl, Nat.le_of_ble_eq_true rfl⟩, Nat.le_of_ble_eq_true rfl, Nat.le_of_ble_eq_true rfl⟩ (zg_retI (fun v2 h1 hE => ?_)) (zg_xok ok tab fin ⟨Nat.le_of_ble_eq_true rfl, Nat.le_of_ble_eq_true rfl⟩)
  refine zg_cost (kc2 := 0) (ks2 := 0) ⟨rfl, rfl⟩ ?_
  refine zg_pop ok dJ12_get_8 rfl ?_
  refine zg_aload_n ok dJ12_get_9 rfl 0 rfl ?_
  refine zg_iload_n ok dJ12_get_10 rfl 1 rfl ?_
  refine zg_callV (vs := [zI a1]) (rest := []) (rm := rm_J12_elementData) ok hRm lk_J12_123 dJ12_get_11 hE (fun hE => mt_J12_elementData hl hE) rfl (Nat.le_of_ble_eq_true rfl) ⟨⟨Nat.le_of_ble_eq_true rfl, Nat.le_of_ble_eq_true rfl⟩, Nat.le_of_ble_eq_true rfl, Nat.le_of_ble_eq_true rfl⟩ (zg_retA (fun v3 h2 hE => ?_)) (zg_xok ok tab fin ⟨Nat.le_of_ble_eq_true rfl, Nat.le_of_ble_eq_true rfl⟩)
  refine zg_cost (kc2 := 0) (ks2 := 0) ⟨rfl, rfl⟩ ?_
  exact zg_aret ok fin (Or.inl ⟨_, rfl⟩) dJ12_get_14 ⟨Nat.le_of_ble_eq_true rfl, Nat.le_of_ble_eq_true rfl⟩ hE
set_option maxHeartbeats 8000000 in
theorem mt_X4_at {l : Launch} (hl : l.stackTraces = false) {Z : zw_Z} {a0 : Option Nat} {a1 : Int32} {h : zw_H} {Q : Option Nat → zw_H → Prop} {X : String → Nat → zw_H → Prop} (hE : f_X4_at Z.2.2.2 a0 a1 h Q X) : zw_Met l Z yX4_at (ws_ yX4_at cX4_at 2 (Option.some (Jvm.ClassFile.FieldType.object "MultipoleLine$Body"))) rm_X4_at [zA a0, zI a1] h (zq_A Q) X := by
  refine zg_start (own := "MultipoleLine$Line") (by decide +kernel) rfl (Nat.le_of_ble_eq_true rfl) hl (fun Xc ok tab fin hRm hXl hXZ => ?_)
  subst hXl
  subst hXZ
  unfold f_X4_at at hE
  refine zg_aload_n ok dX4_at_0 rfl 0 rfl ?_
  refine zg_getA ok lf_X4_12 dX4_at_1 hE (fun v1 hE => ?_)
  refine zg_iload_n ok dX4_at_4 rfl 1 rfl ?_
  refine zg_callF (vs := [zI a1]) (rest := []) (rm := rm_J12_get) ok hRm lk_X4_74 dX4_at_5 hE (fun hE => mt_J12_get hl hE) rfl (Nat.le_of_ble_eq_true rfl) ⟨⟨Nat.le_of_ble_eq_true rfl, Nat.le_of_ble_eq_true rfl⟩, Nat.le_of_ble_eq_true rfl, Nat.le_of_ble_eq_true rfl⟩ (zg_retA (fun v2 h1 hE => ?_)) (zg_xok ok tab fin ⟨Nat.le_of_ble_eq_true rfl, Nat.le_of_ble_eq_true rfl⟩)
  refine zg_cost (kc2 := 0) (ks2 := 0) ⟨rfl, rfl⟩ ?_
  refine zg_castE ok lc_X4_46 dX4_at_10 hE (fun hE => ?_)
  exact zg_aret ok fin (Or.inl ⟨_, rfl⟩) dX4_at_13 ⟨Nat.le_of_ble_eq_true rfl, Nat.le_of_ble_eq_true rfl⟩ hE
set_option maxHeartbeats 8000000 in
theorem gt_f_X4_hasFixed_J44 {Xc : zw_X} {Q : Int32 → zw_H → Prop} {X : String → Nat → zw_H → Prop} (hl : (zw_l Xc).stackTraces = false) (ok : zw_ok Xc cX4_hasFixed "MultipoleLine$Line" yX4_hasFixed.name 4) (tab : zw_tab Xc []) (fin : zw_fin Xc (Option.some Jvm.ClassFile.FieldType.boolean) (zq_I Q) X 0 0) (hRm : zw_rm Xc = rm_X4_hasFixed) {kc ks : Nat} (hb : kc ≤ 0 ∧ ks ≤ 0) {R : Int32 → Int32 → zw_H → Prop} {l0 : Option Nat} {l1 : Int32} (hR : ∀ (l2 : Int32) (l3 : Int32) (h : zw_H), R l2 l3 h → zw_G Xc kc ks 4 h 4 [(0, va_rf l0), (1, .int l1), (2, .int l2), (3, .int l3)] []) {k51 : Int32 → zw_H → Prop} (hk51 : ∀ (l2 : Int32) (h : zw_H), k51 l2 h → zw_G Xc kc ks 4 h 51 [(2, .int l2)] [])  {l3 : Int32} {s0 : Int32} {h : zw_H} (hE : f_X4_hasFixed_J44 (zw_Zf Xc).2.2.2 Q X R k51 l0 l1 l3 s0 h) : zw_G Xc kc ks 4 h 44 [(0, va_rf l0), (1, .int l1), (3, .int l3)] [.int s0] := by
  unfold f_X4_hasFixed_J44 at hE
  refine zg_istore_n (L' := [(2, .int s0), (0, va_rf l0), (1, .int l1), (3, .int l3)]) ok dX4_hasFixed_44 rfl (by decide) rfl ?_
  refine zg_iincL (k := 3) (L' := fun v2 => [(3, .int v2), (2, .int s0), (0, va_rf l0), (1, .int l1)]) ok dX4_hasFixed_45 (by decide +kernel) hE rfl (by decide) (fun _ => rfl) (fun v2 hE => ?_)
  refine zg_goto (tgt := 4) ok dX4_hasFixed_48 (by decide) ?_
  refine zg_sub (L' := [(0, va_rf l0), (1, .int l1), (2, .int s0), (3, .int v2)]) [2, 3, 1, 0] rfl ?_
  exact hR _ _ _ hE
set_option maxHeartbeats 8000000 in
theorem gt_f_X4_hasFixed_J39 {Xc : zw_X} {Q : Int32 → zw_H → Prop} {X : String → Nat → zw_H → Prop} (hl : (zw_l Xc).stackTraces = false) (ok : zw_ok Xc cX4_hasFixed "MultipoleLine$Line" yX4_hasFixed.name 4) (tab : zw_tab Xc []) (fin : zw_fin Xc (Option.some Jvm.ClassFile.FieldType.boolean) (zq_I Q) X 0 0) (hRm : zw_rm Xc = rm_X4_hasFixed) {kc ks : Nat} (hb : kc ≤ 0 ∧ ks ≤ 0) {R : Int32 → Int32 → zw_H → Prop} {l0 : Option Nat} {l1 : Int32} (hR : ∀ (l2 : Int32) (l3 : Int32) (h : zw_H), R l2 l3 h → zw_G Xc kc ks 4 h 4 [(0, va_rf l0), (1, .int l1), (2, .int l2), (3, .int l3)] []) {k51 : Int32 → zw_H → Prop} (hk51 : ∀ (l2 : Int32) (h : zw_H), k51 l2 h → zw_G Xc kc ks 4 h 51 [(2, .int l2)] [])  {l3 : Int32}  {h : zw_H} (hE : f_X4_hasFixed_J39 (zw_Zf Xc).2.2.2 Q X R k51 l0 l1 l3 h) : zw_G Xc kc ks 4 h 39 [(0, va_rf l0), (1, .int l1), (3, .int l3)] [] := by
  unfold f_X4_hasFixed_J39 at hE
  refine zg_iconst (v := 1) ok dX4_hasFixed_39 (by decide) ?_
  refine zg_goto (tgt := 44) ok dX4_hasFixed_40 (by decide) ?_
  exact gt_f_X4_hasFixed_J44 hl ok tab fin hRm hb hR hk51 hE
set_option maxHeartbeats 8000000 in
theorem gt_f_X4_hasFixed_J43 {Xc : zw_X} {Q : Int32 → zw_H → Prop} {X : String → Nat → zw_H → Prop} (hl : (zw_l Xc).stackTraces = false) (ok : zw_ok Xc cX4_hasFixed "MultipoleLine$Line" yX4_hasFixed.name 4) (tab : zw_tab Xc []) (fin : zw_fin Xc (Option.some Jvm.ClassFile.FieldType.boolean) (zq_I Q) X 0 0) (hRm : zw_rm Xc = rm_X4_hasFixed) {kc ks : Nat} (hb : kc ≤ 0 ∧ ks ≤ 0) {R : Int32 → Int32 → zw_H → Prop} {l0 : Option Nat} {l1 : Int32} (hR : ∀ (l2 : Int32) (l3 : Int32) (h : zw_H), R l2 l3 h → zw_G Xc kc ks 4 h 4 [(0, va_rf l0), (1, .int l1), (2, .int l2), (3, .int l3)] []) {k51 : Int32 → zw_H → Prop} (hk51 : ∀ (l2 : Int32) (h : zw_H), k51 l2 h → zw_G Xc kc ks 4 h 51 [(2, .int l2)] [])  {l3 : Int32}  {h : zw_H} (hE : f_X4_hasFixed_J43 (zw_Zf Xc).2.2.2 Q X R k51 l0 l1 l3 h) : zw_G Xc kc ks 4 h 43 [(0, va_rf l0), (1, .int l1), (3, .int l3)] [] := by
  unfold f_X4_hasFixed_J43 at hE
  refine zg_iconst (v := 0) ok dX4_hasFixed_43 (by decide) ?_
  exact gt_f_X4_hasFixed_J44 hl ok tab fin hRm hb hR hk51 hE
set_option maxHeartbeats 8000000 in
theorem gt_f_X4_hasFixed_B4 {Xc : zw_X} {Q : Int32 → zw_H → Prop} {X : String → Nat → zw_H → Prop} (hl : (zw_l Xc).stackTraces = false) (ok : zw_ok Xc cX4_hasFixed "MultipoleLine$Line" yX4_hasFixed.name 4) (tab : zw_tab Xc []) (fin : zw_fin Xc (Option.some Jvm.ClassFile.FieldType.boolean) (zq_I Q) X 0 0) (hRm : zw_rm Xc = rm_X4_hasFixed) {kc ks : Nat} (hb : kc ≤ 0 ∧ ks ≤ 0) {R : Int32 → Int32 → zw_H → Prop} {l0 : Option Nat} {l1 : Int32} (hR : ∀ (l2 : Int32) (l3 : Int32) (h : zw_H), R l2 l3 h → zw_G Xc kc ks 4 h 4 [(0, va_rf l0), (1, .int l1), (2, .int l2), (3, .int l3)] []) {k51 : Int32 → zw_H → Prop} (hk51 : ∀ (l2 : Int32) (h : zw_H), k51 l2 h → zw_G Xc kc ks 4 h 51 [(2, .int l2)] [])  {l2 : Int32} {l3 : Int32} {h : zw_H} (hE : f_X4_hasFixed_B4 (zw_Zf Xc).2.2.2 Q X k51 l0 l1 R l2 l3 h) : zw_G Xc kc ks 4 h 4 [(0, va_rf l0), (1, .int l1), (2, .int l2), (3, .int l3)] [] := by
  unfold f_X4_hasFixed_B4 at hE
  refine zg_iload_n ok dX4_hasFixed_4 rfl 3 rfl ?_
  refine zg_aload_n ok dX4_hasFixed_5 rfl 0 rfl ?_
  refine zg_callV (vs := []) (rest := [.int l3]) (rm := rm_X4_size) ok hRm lk_X4_37 dX4_hasFixed_6 hE (fun hE => mt_X4_size hl hE) rfl (Nat.le_of_ble_eq_true rfl) ⟨⟨Nat.le_of_ble_eq_true rfl, Nat.le_of_ble_eq_true rfl⟩, (by show kc + 0 ≤ 0; omega), (by show ks + 0 ≤ 0; omega)⟩ (zg_retI (fun v1 h1 hE => ?_)) (zg_xok ok tab fin ⟨(by show kc + 0 ≤ 0; omega), (by show ks + 0 ≤ 0; omega)⟩)
  refine zg_cost (kc2 := kc) (ks2 := ks) ⟨(by show kc + 0 = kc; omega), (by show ks + 0 = ks; omega)⟩ ?_
  refine zg_icmp_ge (tgt := 51) ok dX4_hasFixed_9 (by decide) hE (fun hE => ?_) (fun hE => ?_)
  · refine zg_sub (L' := [(2, .int l2)]) [2] rfl ?_
    exact hk51 _ _ hE
  · refine zg_iload_n ok dX4_hasFixed_12 rfl 2 rfl ?_
    refine zg_if_ne (tgt := 39) ok dX4_hasFixed_13 (by decide) hE (fun hE => ?_) (fun hE => ?_)
    · refine zg_sub (L' := [(0, va_rf l0), (1, .int l1), (3, .int l3)]) [0, 1, 3] rfl ?_
      exact gt_f_X4_hasFixed_J39 hl ok tab fin hRm hb hR hk51 hE
    · refine zg_aload_n ok dX4_hasFixed_16 rfl 0 rfl ?_
      refine zg_iload_n ok dX4_hasFixed_17 rfl 3 rfl ?_
      refine zg_callV (vs := [zI l3]) (rest := []) (rm := rm_X4_at) ok hRm lk_X4_41 dX4_hasFixed_18 hE (fun hE => mt_X4_at hl hE) rfl (Nat.le_of_ble_eq_true rfl) ⟨⟨Nat.le_of_ble_eq_true rfl, Nat.le_of_ble_eq_true rfl⟩, (by show kc + 0 ≤ 0; omega), (by show ks + 0 ≤ 0; omega)⟩ (zg_retA (fun v3 h2 hE => ?_)) (zg_xok ok tab fin ⟨(by show kc + 0 ≤ 0; omega), (by show ks + 0 ≤ 0; omega)⟩)
      refine zg_cost (kc2 := kc) (ks2 := ks) ⟨(by show kc + 0 = kc; omega), (by show ks + 0 = ks; omega)⟩ ?_
      refine zg_getI ok lf_X4_86 dX4_hasFixed_21 hE (fun v4 hE => ?_)
      refine zg_iload_n ok dX4_hasFixed_24 rfl 1 rfl ?_
      refine zg_icmp_ne (tgt := 43) ok dX4_hasFixed_25 (by decide) hE (fun hE => ?_) (fun hE => ?_)
      · refine zg_sub (L' := [(0, va_rf l0), (1, .int l1), (3, .int l3)]) [0, 1, 3] rfl ?_
        exact gt_f_X4_hasFixed_J43 hl ok tab fin hRm hb hR hk51 hE
      · refine zg_aload_n ok dX4_hasFixed_28 rfl 0 rfl ?_
        refine zg_iload_n ok dX4_hasFixed_29 rfl 3 rfl ?_
        refine zg_callV (vs := [zI l3]) (rest := []) (rm := rm_X4_at) ok hRm lk_X4_41 dX4_hasFixed_30 hE (fun hE => mt_X4_at hl hE) rfl (Nat.le_of_ble_eq_true rfl) ⟨⟨Nat.le_of_ble_eq_true rfl, Nat.le_of_ble_eq_true rfl⟩, (by show kc + 0 ≤ 0; omega), (by show ks + 0 ≤ 0; omega)⟩ (zg_retA (fun v5 h3 hE => ?_)) (zg_xok ok tab fin ⟨(by show kc + 0 ≤ 0; omega), (by show ks + 0 ≤ 0; omega)⟩)
        refine zg_cost (kc2 := kc) (ks2 := ks) ⟨(by show kc + 0 = kc; omega), (by show ks + 0 = ks; omega)⟩ ?_
        refine zg_getI ok lf_X4_78 dX4_hasFixed_33 hE (fun v6 hE => ?_)
        refine zg_if_ne (tgt := 43) ok dX4_hasFixed_36 (by decide) hE (fun hE => ?_) (fun hE => ?_)
        · refine zg_sub (L' := [(0, va_rf l0), (1, .int l1), (3, .int l3)]) [0, 1, 3] rfl ?_
          exact gt_f_X4_hasFixed_J43 hl ok tab fin hRm hb hR hk51 hE
        · refine zg_sub (L' := [(0, va_rf l0), (1, .int l1), (3, .int l3)]) [0, 1, 3] rfl ?_
          exact gt_f_X4_hasFixed_J39 hl ok tab fin hRm hb hR hk51 hE
theorem gt_f_X4_hasFixed_L4 {Xc : zw_X} {Q : Int32 → zw_H → Prop} {X : String → Nat → zw_H → Prop} (hl : (zw_l Xc).stackTraces = false) (ok : zw_ok Xc cX4_hasFixed "MultipoleLine$Line" yX4_hasFixed.name 4) (tab : zw_tab Xc []) (fin : zw_fin Xc (Option.some Jvm.ClassFile.FieldType.boolean) (zq_I Q) X 0 0) (hRm : zw_rm Xc = rm_X4_hasFixed) {kc ks : Nat} (hb : kc ≤ 0 ∧ ks ≤ 0) {l0 : Option Nat} {l1 : Int32} {k51 : Int32 → zw_H → Prop} (hk51 : ∀ (l2 : Int32) (h : zw_H), k51 l2 h → zw_G Xc kc ks 4 h 51 [(2, .int l2)] [])  : ∀ (n9 : Nat) (l2 : Int32) (l3 : Int32) (h : zw_H), zl3 (f_X4_hasFixed_B4 (zw_Zf Xc).2.2.2 Q X k51 l0 l1) n9 l2 l3 h → zw_G Xc kc ks 4 h 4 [(0, va_rf l0), (1, .int l1), (2, .int l2), (3, .int l3)] [] := by
  intro n9
  induction n9 with
  | zero => intro l2 l3 h hE; exact hE.elim
  | succ n9 ih => intro l2 l3 h hE; exact gt_f_X4_hasFixed_B4 hl ok tab fin hRm hb ih hk51 hE
set_option maxHeartbeats 8000000 in
theorem mt_X4_hasFixed {l : Launch} (hl : l.stackTraces = false) {Z : zw_Z} {a0 : Option Nat} {a1 : Int32} {h : zw_H} {Q : Int32 → zw_H → Prop} {X : String → Nat → zw_H → Prop} (hE : f_X4_hasFixed Z.2.2.2 a0 a1 h Q X) : zw_Met l Z yX4_hasFixed (ws_ yX4_hasFixed cX4_hasFixed 4 (Option.some Jvm.ClassFile.FieldType.boolean)) rm_X4_hasFixed [zA a0, zI a1] h (zq_I Q) X := by
  refine zg_start (own := "MultipoleLine$Line") (by decide +kernel) rfl (Nat.le_of_ble_eq_true rfl) hl (fun Xc ok tab fin hRm hXl hXZ => ?_)
  subst hXl
  subst hXZ
  unfold f_X4_hasFixed at hE
  refine zg_iconst (v := 0) ok dX4_hasFixed_0 (by decide) ?_
  refine zg_istore_n (L' := [(2, .int 0), (0, va_rf a0), (1, .int a1)]) ok dX4_hasFixed_1 rfl (by decide) rfl ?_
  refine zg_iconst (v := 0) ok dX4_hasFixed_2 (by decide) ?_
  refine zg_istore_n (L' := [(3, .int 0), (2, .int 0), (0, va_rf a0), (1, .int a1)]) ok dX4_hasFixed_3 rfl (by decide) rfl ?_
  refine zg_sub (L' := [(0, va_rf a0), (1, .int a1), (2, .int 0), (3, .int 0)]) [2, 3, 1, 0] rfl ?_
  refine gt_f_X4_hasFixed_L4 hl ok tab fin hRm ⟨Nat.le_of_ble_eq_true rfl, Nat.le_of_ble_eq_true rfl⟩ ?_ _ _ _ _ hE
  · intro v7 h4 hE
    refine zg_iload_n ok dX4_hasFixed_51 rfl 0 rfl ?_
    exact zg_zretE (ret := none) ok fin dX4_hasFixed_52 ⟨Nat.le_of_ble_eq_true rfl, Nat.le_of_ble_eq_true rfl⟩ hE
set_option maxHeartbeats 8000000 in
theorem mt_X7_init {l : Launch} (hl : l.stackTraces = false) {Z : zw_Z} {a0 : Option Nat} {h : zw_H} {Q : zw_H → Prop} {X : String → Nat → zw_H → Prop} (hE : f_X7_init Z.2.2.2 a0 h Q X) : zw_Met l Z yX7_init (ws_ yX7_init cX7_init 1 (Option.none : Option Jvm.ClassFile.FieldType)) rm_X7_init [zA a0] h (zq_V Q) X := by
  refine zg_start (own := "MultipoleLine$Body") (by decide +kernel) rfl (Nat.le_of_ble_eq_true rfl) hl (fun Xc ok tab fin hRm hXl hXZ => ?_)
  subst hXl
  subst hXZ
  unfold f_X7_init at hE
  refine zg_aload_n ok dX7_init_0 rfl 0 rfl ?_
  refine zg_objInitE (rest := []) ok hRm q947 ⟨Nat.le_of_ble_eq_true rfl, Nat.le_of_ble_eq_true rfl⟩ (Nat.le_of_ble_eq_true rfl) dX7_init_1 hE (fun hE => ?_)
  exact zg_vret ok fin dX7_init_4 ⟨Nat.le_of_ble_eq_true rfl, Nat.le_of_ble_eq_true rfl⟩ hE
set_option maxHeartbeats 8000000 in
theorem mt_X8_init {l : Launch} (hl : l.stackTraces = false) {Z : zw_Z} {a0 : Option Nat} {h : zw_H} {Q : zw_H → Prop} {X : String → Nat → zw_H → Prop} (hE : f_X8_init Z.2.2.2 a0 h Q X) : zw_Met l Z yX8_init (ws_ yX8_init cX8_init 1 (Option.none : Option Jvm.ClassFile.FieldType)) rm_X8_init [zA a0] h (zq_V Q) X := by
  refine zg_start (own := "MultipoleLine$Fixed") (by decide +kernel) rfl (Nat.le_of_ble_eq_true rfl) hl (fun Xc ok tab fin hRm hXl hXZ => ?_)
  subst hXl
  subst hXZ
  unfold f_X8_init at hE
  refine zg_aload_n ok dX8_init_0 rfl 0 rfl ?_
  refine zg_callIN (vs := []) (rest := []) (rm := rm_X7_init) ok hRm lk_X8_1 dX8_init_1 hE.1 hE.2 (fun hE => mt_X7_init hl hE) rfl (Nat.le_of_ble_eq_true rfl) ⟨⟨Nat.le_of_ble_eq_true rfl, Nat.le_of_ble_eq_true rfl⟩, Nat.le_of_ble_eq_true rfl, Nat.le_of_ble_eq_true rfl⟩ (zg_retV (fun h1 hE => ?_)) (zg_xok ok tab fin ⟨Nat.le_of_ble_eq_true rfl, Nat.le_of_ble_eq_true rfl⟩)
  refine zg_cost (kc2 := 0) (ks2 := 0) ⟨rfl, rfl⟩ ?_
  exact zg_vret ok fin dX8_init_4 ⟨Nat.le_of_ble_eq_true rfl, Nat.le_of_ble_eq_true rfl⟩ hE
set_option maxHeartbeats 8000000 in
theorem mt_X9_init {l : Launch} (hl : l.stackTraces = false) {Z : zw_Z} {a0 : Option Nat} {h : zw_H} {Q : zw_H → Prop} {X : String → Nat → zw_H → Prop} (hE : f_X9_init Z.2.2.2 a0 h Q X) : zw_Met l Z yX9_init (ws_ yX9_init cX9_init 1 (Option.none : Option Jvm.ClassFile.FieldType)) rm_X9_init [zA a0] h (zq_V Q) X := by
  refine zg_start (own := "MultipoleLine$Free") (by decide +kernel) rfl (Nat.le_of_ble_eq_true rfl) hl (fun Xc ok tab fin hRm hXl hXZ => ?_)
  subst hXl
  subst hXZ
  unfold f_X9_init at hE
  refine zg_aload_n ok dX9_init_0 rfl 0 rfl ?_
  refine zg_callIN (vs := []) (rest := []) (rm := rm_X7_init) ok hRm lk_X9_1 dX9_init_1 hE.1 hE.2 (fun hE => mt_X7_init hl hE) rfl (Nat.le_of_ble_eq_true rfl) ⟨⟨Nat.le_of_ble_eq_true rfl, Nat.le_of_ble_eq_true rfl⟩, Nat.le_of_ble_eq_true rfl, Nat.le_of_ble_eq_true rfl⟩ (zg_retV (fun h1 hE => ?_)) (zg_xok ok tab fin ⟨Nat.le_of_ble_eq_true rfl, Nat.le_of_ble_eq_true rfl⟩)
  refine zg_cost (kc2 := 0) (ks2 := 0) ⟨rfl, rfl⟩ ?_
  exact zg_vret ok fin dX9_init_4 ⟨Nat.le_of_ble_eq_true rfl, Nat.le_of_ble_eq_true rfl⟩ hE
set_option maxHeartbeats 8000000 in
theorem mt_X1_isFree {l : Launch} (hl : l.stackTraces = false) {Z : zw_Z} {a0 : Option Nat} {a1 : Option Nat} {h : zw_H} {Q : Int32 → zw_H → Prop} {X : String → Nat → zw_H → Prop} (hE : f_X1_isFree Z.2.2.2 a0 a1 h Q X) : zw_Met l Z yX1_isFree (wsW_ yX1_isFree cX1_isFree 3 (Option.some Jvm.ClassFile.FieldType.boolean) [((0 : Nat), (5 : Nat), (6 : Nat), (1 : Nat))]) rm_X1_isFree [zA a0, zA a1] h (zq_I Q) X := by
  refine zg_startW (own := "MultipoleLine") (by decide +kernel) rfl (Nat.le_of_ble_eq_true rfl) hl (fun Xc ok tab fin hRm hXl hXZ => ?_)
  subst hXl
  subst hXZ
  unfold f_X1_isFree at hE
  refine zg_aload_n ok dX1_isFree_0 rfl 1 rfl ?_
  refine zg_iconst (v := 0) ok dX1_isFree_1 (by decide) ?_
  refine zg_aload_n ok dX1_isFree_2 rfl 0 rfl ?_
  refine zg_aastW ok hRm dX1_isFree_3 hE ⟨Nat.le_of_ble_eq_true rfl, Nat.le_of_ble_eq_true rfl, Nat.le_of_ble_eq_true rfl, Nat.le_of_ble_eq_true rfl⟩ (Nat.le_of_ble_eq_true rfl) (fun h1 hE => ?_) (fun E9 q9 h9 hE => ?_)
  · refine zg_iconst (v := 1) ok dX1_isFree_4 (by decide) ?_
    exact zg_zret ok fin dX1_isFree_5 ⟨Nat.le_of_ble_eq_true rfl, Nat.le_of_ble_eq_true rfl⟩ rfl hE
  · by_cases c9 : E9 = "java/lang/ArrayStoreException"
    · rw [if_pos c9] at hE
      subst c9
      refine zg_catch ok tab ((tableOf [((0 : Nat), (5 : Nat), (6 : Nat), (1 : Nat))]).take 0) ((tableOf [((0 : Nat), (5 : Nat), (6 : Nat), (1 : Nat))])[0]) ((tableOf [((0 : Nat), (5 : Nat), (6 : Nat), (1 : Nat))]).drop 1) rfl (fun z hz => by cases hz) (by decide +kernel) (by decide) q984 q996 ?_
      refine zg_astore_nR (L' := [(2, va_rf (some q9)), (0, va_rf a0), (1, va_rf a1)]) ok dX1_isFree_6 rfl (by decide) 1 rfl rfl rfl ?_
      refine zg_iconst (v := 0) ok dX1_isFree_7 (by decide) ?_
      exact zg_zret ok fin dX1_isFree_8 ⟨Nat.le_of_ble_eq_true rfl, Nat.le_of_ble_eq_true rfl⟩ rfl hE
    rw [if_neg c9] at hE
    exact hE.elim
set_option maxHeartbeats 8000000 in
theorem gt_f_X1_body_J21 {Xc : zw_X} {Q : Option Nat → zw_H → Prop} {X : String → Nat → zw_H → Prop} (hl : (zw_l Xc).stackTraces = false) (ok : zw_ok Xc cX1_body "MultipoleLine" yX1_body.name 2) (tab : zw_tab Xc []) (fin : zw_fin Xc (Option.some (Jvm.ClassFile.FieldType.object "MultipoleLine$Body")) (zq_A Q) X 5 35) (hRm : zw_rm Xc = rm_X1_body)   {s0 : Option Nat} {h : zw_H} (hE : f_X1_body_J21 (zw_Zf Xc).2.2.2 Q X  s0 h) : zw_G Xc 1 4 2 h 21 [] [va_rf s0] := by
  unfold f_X1_body_J21 at hE
  refine zg_astore_n (L' := [(1, va_rf s0)]) ok dX1_body_21 rfl (by decide) rfl ?_
  refine zg_aload_n ok dX1_body_22 rfl 0 rfl ?_
  refine zg_aload_n ok dX1_body_23 rfl 0 rfl ?_
  refine zg_iconst (v := 1) ok dX1_body_24 (by decide) ?_
  refine zg_newFr (b := 1) ok q969 (by rw [hRm]; exact ⟨Nat.le_of_ble_eq_true rfl, Nat.le_of_ble_eq_true rfl⟩) (Nat.le_of_ble_eq_true rfl) dX1_body_25 hE (fun v2 h3 hE => ?_)
  refine zg_cost (kc2 := 2) (ks2 := 5) ⟨rfl, rfl⟩ ?_
  refine zg_callSX (vs := [zA s0, zA (some v2)]) (rest := [va_rf s0]) (rm := rm_X1_isFree) ok hRm lk_X1_12 dX1_body_28 hE (fun hE => mt_X1_isFree hl hE) rfl (Nat.le_of_ble_eq_true rfl) ⟨⟨Nat.le_of_ble_eq_true rfl, Nat.le_of_ble_eq_true rfl⟩, Nat.le_of_ble_eq_true rfl, Nat.le_of_ble_eq_true rfl⟩ (zg_retI (fun v3 h4 hE => ?_)) (zg_xok ok tab fin ⟨Nat.le_of_ble_eq_true rfl, Nat.le_of_ble_eq_true rfl⟩)
  refine zg_cost (kc2 := 5) (ks2 := 35) ⟨rfl, rfl⟩ ?_
  obtain ⟨hn9, hE⟩ := hE
  refine zg_put (ty := .boolean) ok lf_X1_18 (Or.inl rfl) (by decide) (by decide +kernel) hn9.1 hn9.2 dX1_body_31 hE (fun h5 hE => ?_)
  refine zg_aload_n ok dX1_body_34 rfl 0 rfl ?_
  exact zg_aret ok fin (Or.inl ⟨_, rfl⟩) dX1_body_35 ⟨Nat.le_of_ble_eq_true rfl, Nat.le_of_ble_eq_true rfl⟩ hE
set_option maxHeartbeats 8000000 in
theorem mt_X1_body {l : Launch} (hl : l.stackTraces = false) {Z : zw_Z} {a0 : Int32} {h : zw_H} {Q : Option Nat → zw_H → Prop} {X : String → Nat → zw_H → Prop} (hE : f_X1_body Z.2.2.2 a0 h Q X) : zw_Met l Z yX1_body (ws_ yX1_body cX1_body 2 (Option.some (Jvm.ClassFile.FieldType.object "MultipoleLine$Body"))) rm_X1_body [zI a0] h (zq_A Q) X := by
  refine zg_start (own := "MultipoleLine") (by decide +kernel) rfl (Nat.le_of_ble_eq_true rfl) hl (fun Xc ok tab fin hRm hXl hXZ => ?_)
  subst hXl
  subst hXZ
  unfold f_X1_body at hE
  refine zg_iload_n ok dX1_body_0 rfl 0 rfl ?_
  refine zg_if_eq (tgt := 14) ok dX1_body_1 (by decide) hE (fun hE => ?_) (fun hE => ?_)
  · refine zg_new ok ln_X1_9 (by rw [hRm]; exact ⟨Nat.le_of_ble_eq_true rfl, Nat.le_of_ble_eq_true rfl⟩) dX1_body_14 hE (fun v1 h1 hE => ?_)
    refine zg_cost (kc2 := 1) (ks2 := 4) ⟨rfl, rfl⟩ ?_
    refine zg_dup ok dX1_body_17 (zw_rfc _) ?_
    refine zg_callIN (vs := []) (rest := [va_rf (some v1)]) (rm := rm_X9_init) ok hRm lk_X1_11 dX1_body_18 (by simp) hE (fun hE => mt_X9_init hl hE) rfl (Nat.le_of_ble_eq_true rfl) ⟨⟨Nat.le_of_ble_eq_true rfl, Nat.le_of_ble_eq_true rfl⟩, Nat.le_of_ble_eq_true rfl, Nat.le_of_ble_eq_true rfl⟩ (zg_retV (fun h2 hE => ?_)) (zg_xok ok tab fin ⟨Nat.le_of_ble_eq_true rfl, Nat.le_of_ble_eq_true rfl⟩)
    refine zg_cost (kc2 := 1) (ks2 := 4) ⟨rfl, rfl⟩ ?_
    refine zg_sub (L' := []) [] rfl ?_
    exact gt_f_X1_body_J21 hl ok tab fin hRm  hE
  · refine zg_new ok ln_X1_3 (by rw [hRm]; exact ⟨Nat.le_of_ble_eq_true rfl, Nat.le_of_ble_eq_true rfl⟩) dX1_body_4 hE (fun v4 h6 hE => ?_)
    refine zg_cost (kc2 := 1) (ks2 := 4) ⟨rfl, rfl⟩ ?_
    refine zg_dup ok dX1_body_7 (zw_rfc _) ?_
    refine zg_callIN (vs := []) (rest := [va_rf (some v4)]) (rm := rm_X8_init) ok hRm lk_X1_5 dX1_body_8 (by simp) hE (fun hE => mt_X8_init hl hE) rfl (Nat.le_of_ble_eq_true rfl) ⟨⟨Nat.le_of_ble_eq_true rfl, Nat.le_of_ble_eq_true rfl⟩, Nat.le_of_ble_eq_true rfl, Nat.le_of_ble_eq_true rfl⟩ (zg_retV (fun h7 hE => ?_)) (zg_xok ok tab fin ⟨Nat.le_of_ble_eq_true rfl, Nat.le_of_ble_eq_true rfl⟩)
    refine zg_cost (kc2 := 1) (ks2 := 4) ⟨rfl, rfl⟩ ?_
    refine zg_goto (tgt := 21) ok dX1_body_11 (by decide) ?_
    refine zg_sub (L' := []) [] rfl ?_
    exact gt_f_X1_body_J21 hl ok tab fin hRm  hE
set_option maxHeartbeats 8000000 in
theorem mt_X7_be {l : Launch} (hl : l.stackTraces = false) {Z : zw_Z} {a0 : Option Nat} {a1 : Int32} {a2 : Int32} {a3 : Int32} {h : zw_H} {Q : Option Nat → zw_H → Prop} {X : String → Nat → zw_H → Prop} (hE : f_X7_be Z.2.2.2 a0 a1 a2 a3 h Q X) : zw_Met l Z yX7_be (ws_ yX7_be cX7_be 4 (Option.some (Jvm.ClassFile.FieldType.object "MultipoleLine$Body"))) rm_X7_be [zA a0, zI a1, zI a2, zI a3] h (zq_A Q) X := by
  refine zg_start (own := "MultipoleLine$Body") (by decide +kernel) rfl (Nat.le_of_ble_eq_true rfl) hl (fun Xc ok tab fin hRm hXl hXZ => ?_)
  subst hXl
  subst hXZ
  unfold f_X7_be at hE
  refine zg_aload_n ok dX7_be_0 rfl 0 rfl ?_
  refine zg_iload_n ok dX7_be_1 rfl 1 rfl ?_
  refine zg_put (ty := .int) ok lf_X7_7 (Or.inl rfl) (by decide) (by decide +kernel) rfl rfl dX7_be_2 hE (fun h1 hE => ?_)
  refine zg_aload_n ok dX7_be_5 rfl 0 rfl ?_
  refine zg_iload_n ok dX7_be_6 rfl 2 rfl ?_
  refine zg_put (ty := .int) ok lf_X7_13 (Or.inl rfl) (by decide) (by decide +kernel) rfl rfl dX7_be_7 hE (fun h2 hE => ?_)
  refine zg_aload_n ok dX7_be_10 rfl 0 rfl ?_
  refine zg_iload_n ok dX7_be_11 rfl 3 rfl ?_
  refine zg_put (ty := .int) ok lf_X7_16 (Or.inl rfl) (by decide) (by decide +kernel) rfl rfl dX7_be_12 hE (fun h3 hE => ?_)
  refine zg_aload_n ok dX7_be_15 rfl 0 rfl ?_
  exact zg_aret ok fin (Or.inl ⟨_, rfl⟩) dX7_be_16 ⟨Nat.le_of_ble_eq_true rfl, Nat.le_of_ble_eq_true rfl⟩ hE
set_option maxHeartbeats 8000000 in
theorem gt_f_J15_copyOf_3_J24 {Xc : zw_X} {Q : Option Nat → zw_H → Prop} {X : String → Nat → zw_H → Prop} (hl : (zw_l Xc).stackTraces = false) (ok : zw_ok Xc cJ15_copyOf_3 "java/util/Arrays" yJ15_copyOf_3.name 4) (tab : zw_tab Xc []) (fin : zw_fin Xc (Option.some (Jvm.ClassFile.FieldType.array (Jvm.ClassFile.FieldType.object "java/lang/Object"))) (zq_A Q) X 1 40) (hRm : zw_rm Xc = rm_J15_copyOf_3)  {l0 : Option Nat} {l1 : Int32} {s0 : Option Nat} {h : zw_H} (hE : f_J15_copyOf_3_J24 (zw_Zf Xc).2.2.2 Q X  l0 l1 s0 h) : zw_G Xc 1 40 4 h 24 [(0, va_rf l0), (1, .int l1)] [va_rf s0] := by
  unfold f_J15_copyOf_3_J24 at hE
  refine zg_astore_n (L' := [(3, va_rf s0), (0, va_rf l0), (1, .int l1)]) ok dJ15_copyOf_3_24 rfl (by decide) rfl ?_
  refine zg_aload_n ok dJ15_copyOf_3_25 rfl 1 rfl ?_
  refine zg_iconst (v := 0) ok dJ15_copyOf_3_26 (by decide) ?_
  refine zg_aload_n ok dJ15_copyOf_3_27 rfl 0 rfl ?_
  refine zg_iconst (v := 0) ok dJ15_copyOf_3_28 (by decide) ?_
  refine zg_aload_n ok dJ15_copyOf_3_29 rfl 1 rfl ?_
  refine zg_alen ok dJ15_copyOf_3_30 hE (fun v2 hE => ?_)
  refine zg_iload_n ok dJ15_copyOf_3_31 rfl 2 rfl ?_
  refine zg_callS (vs := [zI v2, zI l1]) (rest := [.int 0, va_rf s0, .int 0, va_rf l0]) (rm := rm_J14_min) ok hRm lk_J15_304 dJ15_copyOf_3_32 hE (fun hE => mt_J14_min hl hE) rfl (Nat.le_of_ble_eq_true rfl) ⟨⟨Nat.le_of_ble_eq_true rfl, Nat.le_of_ble_eq_true rfl⟩, Nat.le_of_ble_eq_true rfl, Nat.le_of_ble_eq_true rfl⟩ (zg_retI (fun v3 h2 hE => ?_)) (zg_xok ok tab fin ⟨Nat.le_of_ble_eq_true rfl, Nat.le_of_ble_eq_true rfl⟩)
  refine zg_cost (kc2 := 1) (ks2 := 40) ⟨rfl, rfl⟩ ?_
  refine zg_cpO ok hRm q559 lt_5 ⟨by decide, by decide⟩ (Nat.le_of_ble_eq_true rfl) dJ15_copyOf_3_35 hE (fun h3 hE => ?_)
  refine zg_aload_n ok dJ15_copyOf_3_38 rfl 0 rfl ?_
  exact zg_aret ok fin (Or.inr ⟨_, rfl⟩) dJ15_copyOf_3_39 ⟨Nat.le_of_ble_eq_true rfl, Nat.le_of_ble_eq_true rfl⟩ hE
set_option maxHeartbeats 8000000 in
theorem mt_J15_copyOf_3 {l : Launch} (hl : l.stackTraces = false) {Z : zw_Z} {a0 : Option Nat} {a1 : Int32} {a2 : Option Nat} {h : zw_H} {Q : Option Nat → zw_H → Prop} {X : String → Nat → zw_H → Prop} (hE : f_J15_copyOf_3 Z.2.2.2 a0 a1 a2 h Q X) : zw_Met l Z yJ15_copyOf_3 (ws_ yJ15_copyOf_3 cJ15_copyOf_3 4 (Option.some (Jvm.ClassFile.FieldType.array (Jvm.ClassFile.FieldType.object "java/lang/Object")))) rm_J15_copyOf_3 [zA a0, zI a1, zA a2] h (zq_A Q) X := by
  refine zg_start (own := "java/util/Arrays") (by decide +kernel) rfl (Nat.le_of_ble_eq_true rfl) hl (fun Xc ok tab fin hRm hXl hXZ => ?_)
  subst hXl
  subst hXZ
  unfold f_J15_copyOf_3 at hE
  refine zg_aload_n ok dJ15_copyOf_3_0 rfl 2 rfl ?_
  refine zg_ldcM ok q1062 dJ15_copyOf_3_1 ?_
  refine zg_acmp_ne (tgt := 13) ok dJ15_copyOf_3_3 (by decide) hE (fun hE => ?_) (fun hE => ?_)
  · exact hE.elim
  · refine zg_iload_n ok dJ15_copyOf_3_6 rfl 1 rfl ?_
    refine zg_newO (b := 40) ok q1063 (by rw [hRm]; exact ⟨Nat.le_of_ble_eq_true rfl, Nat.le_of_ble_eq_true rfl⟩) (Nat.le_of_ble_eq_true rfl) dJ15_copyOf_3_7 hE (fun v1 h1 hE => ?_)
    refine zg_cost (kc2 := 1) (ks2 := 40) ⟨rfl, rfl⟩ ?_
    refine zg_goto (tgt := 24) ok dJ15_copyOf_3_10 (by decide) ?_
    refine zg_sub (L' := [(0, va_rf a0), (1, .int a1)]) [0, 1] rfl ?_
    exact gt_f_J15_copyOf_3_J24 hl ok tab fin hRm  hE
set_option maxHeartbeats 8000000 in
theorem mt_J15_copyOf_2 {l : Launch} (hl : l.stackTraces = false) {Z : zw_Z} {a0 : Option Nat} {a1 : Int32} {h : zw_H} {Q : Option Nat → zw_H → Prop} {X : String → Nat → zw_H → Prop} (hE : f_J15_copyOf_2 Z.2.2.2 a0 a1 h Q X) : zw_Met l Z yJ15_copyOf_2 (ws_ yJ15_copyOf_2 cJ15_copyOf_2 2 (Option.some (Jvm.ClassFile.FieldType.array (Jvm.ClassFile.FieldType.object "java/lang/Object")))) rm_J15_copyOf_2 [zA a0, zI a1] h (zq_A Q) X := by
  refine zg_start (own := "java/util/Arrays") (by decide +kernel) rfl (Nat.le_of_ble_eq_true rfl) hl (fun Xc ok tab fin hRm hXl hXZ => ?_)
  subst hXl
  subst hXZ
  unfold f_J15_copyOf_2 at hE
  refine zg_aload_n ok dJ15_copyOf_2_0 rfl 0 rfl ?_
  refine zg_iload_n ok dJ15_copyOf_2_1 rfl 1 rfl ?_
  refine zg_aload_n ok dJ15_copyOf_2_2 rfl 0 rfl ?_
  refine zg_getC ok hRm q1029 ⟨by decide, by decide⟩ (Nat.le_of_ble_eq_true rfl) dJ15_copyOf_2_3 hE (fun hE => ?_)
  refine zg_callS (vs := [zA a0, zI a1, zA ((zw_Zf Xc).2.2.2 7)]) (rest := []) (rm := rm_J15_copyOf_3) ok hRm lk_J15_300 dJ15_copyOf_2_6 hE (fun hE => mt_J15_copyOf_3 hl hE) rfl (Nat.le_of_ble_eq_true rfl) ⟨⟨Nat.le_of_ble_eq_true rfl, Nat.le_of_ble_eq_true rfl⟩, Nat.le_of_ble_eq_true rfl, Nat.le_of_ble_eq_true rfl⟩ (zg_retA (fun v1 h1 hE => ?_)) (zg_xok ok tab fin ⟨Nat.le_of_ble_eq_true rfl, Nat.le_of_ble_eq_true rfl⟩)
  refine zg_cost (kc2 := 1) (ks2 := 40) ⟨rfl, rfl⟩ ?_
  exact zg_aret ok fin (Or.inr ⟨_, rfl⟩) dJ15_copyOf_2_9 ⟨Nat.le_of_ble_eq_true rfl, Nat.le_of_ble_eq_true rfl⟩ hE
set_option maxHeartbeats 8000000 in
theorem gt_f_J12_grow_2_J20 {Xc : zw_X} {Q : Option Nat → zw_H → Prop} {X : String → Nat → zw_H → Prop} (hl : (zw_l Xc).stackTraces = false) (ok : zw_ok Xc cJ12_grow_2 "java/util/ArrayList" yJ12_grow_2.name 4) (tab : zw_tab Xc []) (fin : zw_fin Xc (Option.some (Jvm.ClassFile.FieldType.array (Jvm.ClassFile.FieldType.object "java/lang/Object"))) (zq_A Q) X 1 40) (hRm : zw_rm Xc = rm_J12_grow_2)  {l0 : Option Nat} {l1 : Int32} {l2 : Int32}  {h : zw_H} (hE : f_J12_grow_2_J20 (zw_Zf Xc).2.2.2 Q X  l0 l1 l2 h) : zw_G Xc 0 0 4 h 20 [(0, va_rf l0), (1, .int l1), (2, .int l2)] [] := by
  unfold f_J12_grow_2_J20 at hE
  refine zg_iload_n ok dJ12_grow_2_20 rfl 2 rfl ?_
  refine zg_iload_n ok dJ12_grow_2_21 rfl 1 rfl ?_
  refine zg_iload_n ok dJ12_grow_2_22 rfl 2 rfl ?_
  refine zg_isub ok dJ12_grow_2_23 ?_
  refine zg_iload_n ok dJ12_grow_2_24 rfl 2 rfl ?_
  refine zg_iconst (v := 1) ok dJ12_grow_2_25 (by decide) ?_
  refine zg_ishr ok dJ12_grow_2_26 ?_
  refine zg_callS (vs := [zI l2, zI (l1 - l2), zI (l2 >>> (1 &&& 31))]) (rest := []) (rm := rm_J13_newLength) ok hRm lk_J12_73 dJ12_grow_2_27 hE (fun hE => mt_J13_newLength hl hE) rfl (Nat.le_of_ble_eq_true rfl) ⟨⟨Nat.le_of_ble_eq_true rfl, Nat.le_of_ble_eq_true rfl⟩, Nat.le_of_ble_eq_true rfl, Nat.le_of_ble_eq_true rfl⟩ (zg_retI (fun v3 h1 hE => ?_)) (zg_xok ok tab fin ⟨Nat.le_of_ble_eq_true rfl, Nat.le_of_ble_eq_true rfl⟩)
  refine zg_cost (kc2 := 0) (ks2 := 0) ⟨rfl, rfl⟩ ?_
  refine zg_istore_n (L' := [(3, .int v3), (0, va_rf l0), (1, .int l1), (2, .int l2)]) ok dJ12_grow_2_30 rfl (by decide) rfl ?_
  refine zg_aload_n ok dJ12_grow_2_31 rfl 1 rfl ?_
  refine zg_aload_n ok dJ12_grow_2_32 rfl 1 rfl ?_
  refine zg_getA ok lf_J12_9 dJ12_grow_2_33 hE (fun v4 hE => ?_)
  refine zg_iload_n ok dJ12_grow_2_36 rfl 0 rfl ?_
  refine zg_callS (vs := [zA v4, zI v3]) (rest := [va_rf l0]) (rm := rm_J15_copyOf_2) ok hRm lk_J12_66 dJ12_grow_2_37 hE (fun hE => mt_J15_copyOf_2 hl hE) rfl (Nat.le_of_ble_eq_true rfl) ⟨⟨Nat.le_of_ble_eq_true rfl, Nat.le_of_ble_eq_true rfl⟩, Nat.le_of_ble_eq_true rfl, Nat.le_of_ble_eq_true rfl⟩ (zg_retA (fun v5 h2 hE => ?_)) (zg_xok ok tab fin ⟨Nat.le_of_ble_eq_true rfl, Nat.le_of_ble_eq_true rfl⟩)
  refine zg_cost (kc2 := 1) (ks2 := 40) ⟨rfl, rfl⟩ ?_
  refine zg_dup_x1 ok dJ12_grow_2_40 (zw_rfc _) (zw_rfc _) ?_
  refine zg_put (ty := (.array (.object "java/lang/Object"))) ok lf_J12_9 (Or.inl rfl) (by decide) (by decide +kernel) (zw_nrA _ _) (zw_frA _ _) dJ12_grow_2_41 hE (fun h3 hE => ?_)
  exact zg_aret ok fin (Or.inr ⟨_, rfl⟩) dJ12_grow_2_44 ⟨Nat.le_of_ble_eq_true rfl, Nat.le_of_ble_eq_true rfl⟩ hE
set_option maxHeartbeats 8000000 in
theorem mt_J12_grow_2 {l : Launch} (hl : l.stackTraces = false) {Z : zw_Z} {a0 : Option Nat} {a1 : Int32} {h : zw_H} {Q : Option Nat → zw_H → Prop} {X : String → Nat → zw_H → Prop} (hE : f_J12_grow_2 Z.2.2.2 a0 a1 h Q X) : zw_Met l Z yJ12_grow_2 (ws_ yJ12_grow_2 cJ12_grow_2 4 (Option.some (Jvm.ClassFile.FieldType.array (Jvm.ClassFile.FieldType.object "java/lang/Object")))) rm_J12_grow_2 [zA a0, zI a1] h (zq_A Q) X := by
  refine zg_start (own := "java/util/ArrayList") (by decide +kernel) rfl (Nat.le_of_ble_eq_true rfl) hl (fun Xc ok tab fin hRm hXl hXZ => ?_)
  subst hXl
  subst hXZ
  unfold f_J12_grow_2 at hE
  refine zg_aload_n ok dJ12_grow_2_0 rfl 0 rfl ?_
  refine zg_getA ok lf_J12_9 dJ12_grow_2_1 hE (fun v1 hE => ?_)
  refine zg_alen ok dJ12_grow_2_4 hE (fun v2 hE => ?_)
  refine zg_istore_n (L' := [(2, .int v2), (0, va_rf a0), (1, .int a1)]) ok dJ12_grow_2_5 rfl (by decide) rfl ?_
  refine zg_iload_n ok dJ12_grow_2_6 rfl 0 rfl ?_
  refine zg_if_gt (tgt := 20) ok dJ12_grow_2_7 (by decide) hE (fun hE => ?_) (fun hE => ?_)
  · refine zg_sub (L' := [(0, va_rf a0), (1, .int a1), (2, .int v2)]) [1, 2, 0] rfl ?_
    exact gt_f_J12_grow_2_J20 hl ok tab fin hRm  hE
  · refine zg_aload_n ok dJ12_grow_2_10 rfl 1 rfl ?_
    refine zg_getA ok lf_J12_9 dJ12_grow_2_11 hE (fun v6 hE => ?_)
    refine zg_getsA (C := "java/util/ArrayList") (n := "DEFAULTCAPACITY_EMPTY_ELEMENTDATA") (d' := "[Ljava/lang/Object;") (k := 2) ok (List.mem_of_getElem? (i := 2) rfl) q408 dJ12_grow_2_14 ?_
    refine zg_acmp_eq (tgt := 45) ok dJ12_grow_2_17 (by decide) hE (fun hE => ?_) (fun hE => ?_)
    · refine zg_aload_n ok dJ12_grow_2_45 rfl 1 rfl ?_
      refine zg_bipush (v := 10) ok dJ12_grow_2_46 (by decide) ?_
      refine zg_iload_n ok dJ12_grow_2_48 rfl 2 rfl ?_
      refine zg_callS (vs := [zI 10, zI a1]) (rest := [va_rf a0]) (rm := rm_J14_max) ok hRm lk_J12_79 dJ12_grow_2_49 hE (fun hE => mt_J14_max hl hE) rfl (Nat.le_of_ble_eq_true rfl) ⟨⟨Nat.le_of_ble_eq_true rfl, Nat.le_of_ble_eq_true rfl⟩, Nat.le_of_ble_eq_true rfl, Nat.le_of_ble_eq_true rfl⟩ (zg_retI (fun v7 h4 hE => ?_)) (zg_xok ok tab fin ⟨Nat.le_of_ble_eq_true rfl, Nat.le_of_ble_eq_true rfl⟩)
      refine zg_cost (kc2 := 0) (ks2 := 0) ⟨rfl, rfl⟩ ?_
      refine zg_newO (b := 40) ok q1065 (by rw [hRm]; exact ⟨Nat.le_of_ble_eq_true rfl, Nat.le_of_ble_eq_true rfl⟩) (Nat.le_of_ble_eq_true rfl) dJ12_grow_2_52 hE (fun v8 h5 hE => ?_)
      refine zg_cost (kc2 := 1) (ks2 := 40) ⟨rfl, rfl⟩ ?_
      refine zg_dup_x1 ok dJ12_grow_2_55 (zw_rfc _) (zw_rfc _) ?_
      refine zg_put (ty := (.array (.object "java/lang/Object"))) ok lf_J12_9 (Or.inl rfl) (by decide) (by decide +kernel) (zw_nrA _ _) (zw_frA _ _) dJ12_grow_2_56 hE (fun h6 hE => ?_)
      exact zg_aret ok fin (Or.inr ⟨_, rfl⟩) dJ12_grow_2_59 ⟨Nat.le_of_ble_eq_true rfl, Nat.le_of_ble_eq_true rfl⟩ hE
    · refine zg_sub (L' := [(0, va_rf a0), (1, .int a1), (2, .int v2)]) [1, 2, 0] rfl ?_
      exact gt_f_J12_grow_2_J20 hl ok tab fin hRm  hE
set_option maxHeartbeats 8000000 in
theorem mt_J12_grow {l : Launch} (hl : l.stackTraces = false) {Z : zw_Z} {a0 : Option Nat} {h : zw_H} {Q : Option Nat → zw_H → Prop} {X : String → Nat → zw_H → Prop} (hE : f_J12_grow Z.2.2.2 a0 h Q X) : zw_Met l Z yJ12_grow (ws_ yJ12_grow cJ12_grow 1 (Option.some (Jvm.ClassFile.FieldType.array (Jvm.ClassFile.FieldType.object "java/lang/Object")))) rm_J12_grow [zA a0] h (zq_A Q) X := by
  refine zg_start (own := "java/util/ArrayList") (by decide +kernel) rfl (Nat.le_of_ble_eq_true rfl) hl (fun Xc ok tab fin hRm hXl hXZ => ?_)
  subst hXl
  subst hXZ
  unfold f_J12_grow at hE
  refine zg_aload_n ok dJ12_grow_0 rfl 0 rfl ?_
  refine zg_aload_n ok dJ12_grow_1 rfl 0 rfl ?_
  refine zg_getI ok lf_J12_48 dJ12_grow_2 hE (fun v1 hE => ?_)
  refine zg_iconst (v := 1) ok dJ12_grow_5 (by decide) ?_
  refine zg_iadd ok dJ12_grow_6 ?_
  refine zg_callV (vs := [zI (v1 + 1)]) (rest := []) (rm := rm_J12_grow_2) ok hRm lk_J12_69 dJ12_grow_7 hE (fun hE => mt_J12_grow_2 hl hE) rfl (Nat.le_of_ble_eq_true rfl) ⟨⟨Nat.le_of_ble_eq_true rfl, Nat.le_of_ble_eq_true rfl⟩, Nat.le_of_ble_eq_true rfl, Nat.le_of_ble_eq_true rfl⟩ (zg_retA (fun v2 h1 hE => ?_)) (zg_xok ok tab fin ⟨Nat.le_of_ble_eq_true rfl, Nat.le_of_ble_eq_true rfl⟩)
  refine zg_cost (kc2 := 1) (ks2 := 40) ⟨rfl, rfl⟩ ?_
  exact zg_aret ok fin (Or.inr ⟨_, rfl⟩) dJ12_grow_10 ⟨Nat.le_of_ble_eq_true rfl, Nat.le_of_ble_eq_true rfl⟩ hE
set_option maxHeartbeats 8000000 in
theorem gt_f_J12_add_2_J11 {Xc : zw_X} {Q : zw_H → Prop} {X : String → Nat → zw_H → Prop} (hl : (zw_l Xc).stackTraces = false) (ok : zw_ok Xc cJ12_add_2 "java/util/ArrayList" yJ12_add_2.name 4) (tab : zw_tab Xc []) (fin : zw_fin Xc (Option.none : Option Jvm.ClassFile.FieldType) (zq_V Q) X 1 40) (hRm : zw_rm Xc = rm_J12_add_2)  {l0 : Option Nat} {l1 : Option Nat} {l2 : Option Nat} {l3 : Int32}  {h : zw_H} (hE : f_J12_add_2_J11 (zw_Zf Xc).2.2.2 Q X  l0 l1 l2 l3 h) : zw_G Xc 1 40 4 h 11 [(0, va_rf l0), (1, va_rf l1), (2, va_rf l2), (3, .int l3)] [] := by
  unfold f_J12_add_2_J11 at hE
  refine zg_aload_n ok dJ12_add_2_11 rfl 2 rfl ?_
  refine zg_iload_n ok dJ12_add_2_12 rfl 3 rfl ?_
  refine zg_aload_n ok dJ12_add_2_13 rfl 1 rfl ?_
  refine zg_aastO ok lt_5 dJ12_add_2_14 hE (fun h1 hE => ?_)
  refine zg_aload_n ok dJ12_add_2_15 rfl 0 rfl ?_
  refine zg_iload_n ok dJ12_add_2_16 rfl 3 rfl ?_
  refine zg_iconst (v := 1) ok dJ12_add_2_17 (by decide) ?_
  refine zg_iadd ok dJ12_add_2_18 ?_
  refine zg_put (ty := .int) ok lf_J12_48 (Or.inl rfl) (by decide) (by decide +kernel) rfl rfl dJ12_add_2_19 hE (fun h2 hE => ?_)
  exact zg_vret ok fin dJ12_add_2_22 ⟨Nat.le_of_ble_eq_true rfl, Nat.le_of_ble_eq_true rfl⟩ hE
set_option maxHeartbeats 8000000 in
theorem mt_J12_add_2 {l : Launch} (hl : l.stackTraces = false) {Z : zw_Z} {a0 : Option Nat} {a1 : Option Nat} {a2 : Option Nat} {a3 : Int32} {h : zw_H} {Q : zw_H → Prop} {X : String → Nat → zw_H → Prop} (hE : f_J12_add_2 Z.2.2.2 a0 a1 a2 a3 h Q X) : zw_Met l Z yJ12_add_2 (ws_ yJ12_add_2 cJ12_add_2 4 (Option.none : Option Jvm.ClassFile.FieldType)) rm_J12_add_2 [zA a0, zA a1, zA a2, zI a3] h (zq_V Q) X := by
  refine zg_start (own := "java/util/ArrayList") (by decide +kernel) rfl (Nat.le_of_ble_eq_true rfl) hl (fun Xc ok tab fin hRm hXl hXZ => ?_)
  subst hXl
  subst hXZ
  unfold f_J12_add_2 at hE
  refine zg_iload_n ok dJ12_add_2_0 rfl 3 rfl ?_
  refine zg_aload_n ok dJ12_add_2_1 rfl 2 rfl ?_
  refine zg_alen ok dJ12_add_2_2 hE (fun v1 hE => ?_)
  refine zg_icmp_ne (tgt := 11) ok dJ12_add_2_3 (by decide) hE (fun hE => ?_) (fun hE => ?_)
  · refine zg_wide (kc2 := 1) (ks2 := 40) (Nat.le_of_ble_eq_true rfl) (Nat.le_of_ble_eq_true rfl) ?_
    exact gt_f_J12_add_2_J11 hl ok tab fin hRm  hE
  · refine zg_aload_n ok dJ12_add_2_6 rfl 0 rfl ?_
    refine zg_callV (vs := []) (rest := []) (rm := rm_J12_grow) ok hRm lk_J12_129 dJ12_add_2_7 hE (fun hE => mt_J12_grow hl hE) rfl (Nat.le_of_ble_eq_true rfl) ⟨⟨Nat.le_of_ble_eq_true rfl, Nat.le_of_ble_eq_true rfl⟩, Nat.le_of_ble_eq_true rfl, Nat.le_of_ble_eq_true rfl⟩ (zg_retA (fun v2 h3 hE => ?_)) (zg_xok ok tab fin ⟨Nat.le_of_ble_eq_true rfl, Nat.le_of_ble_eq_true rfl⟩)
    refine zg_cost (kc2 := 1) (ks2 := 40) ⟨rfl, rfl⟩ ?_
    refine zg_astore_nR (L' := [(2, va_rf v2), (0, va_rf a0), (1, va_rf a1), (3, .int a3)]) ok dJ12_add_2_10 rfl (by decide) 1 rfl rfl rfl ?_
    refine zg_sub (L' := [(0, va_rf a0), (1, va_rf a1), (2, va_rf v2), (3, .int a3)]) [1, 2, 0, 3] rfl ?_
    exact gt_f_J12_add_2_J11 hl ok tab fin hRm  hE
set_option maxHeartbeats 8000000 in
theorem mt_J12_add {l : Launch} (hl : l.stackTraces = false) {Z : zw_Z} {a0 : Option Nat} {a1 : Option Nat} {h : zw_H} {Q : Int32 → zw_H → Prop} {X : String → Nat → zw_H → Prop} (hE : f_J12_add Z.2.2.2 a0 a1 h Q X) : zw_Met l Z yJ12_add (ws_ yJ12_add cJ12_add 2 (Option.some Jvm.ClassFile.FieldType.boolean)) rm_J12_add [zA a0, zA a1] h (zq_I Q) X := by
  refine zg_start (own := "java/util/ArrayList") (by decide +kernel) rfl (Nat.le_of_ble_eq_true rfl) hl (fun Xc ok tab fin hRm hXl hXZ => ?_)
  subst hXl
  subst hXZ
  unfold f_J12_add at hE
  refine zg_aload_n ok dJ12_add_0 rfl 0 rfl ?_
  refine zg_dup ok dJ12_add_1 (zw_rfc _) ?_
  refine zg_getI ok lf_J12_63 dJ12_add_2 hE (fun v1 hE => ?_)
  refine zg_iconst (v := 1) ok dJ12_add_5 (by decide) ?_
  refine zg_iadd ok dJ12_add_6 ?_
  refine zg_put (ty := .int) ok lf_J12_63 (Or.inl rfl) (by decide) (by decide +kernel) rfl rfl dJ12_add_7 hE (fun h1 hE => ?_)
  refine zg_aload_n ok dJ12_add_10 rfl 0 rfl ?_
  refine zg_aload_n ok dJ12_add_11 rfl 1 rfl ?_
  refine zg_aload_n ok dJ12_add_12 rfl 0 rfl ?_
  refine zg_getA ok lf_J12_9 dJ12_add_13 hE (fun v2 hE => ?_)
  refine zg_aload_n ok dJ12_add_16 rfl 0 rfl ?_
  refine zg_getI ok lf_J12_48 dJ12_add_17 hE (fun v3 hE => ?_)
  refine zg_callV (vs := [zA a1, zA v2, zI v3]) (rest := []) (rm := rm_J12_add_2) ok hRm lk_J12_131 dJ12_add_20 hE (fun hE => mt_J12_add_2 hl hE) rfl (Nat.le_of_ble_eq_true rfl) ⟨⟨Nat.le_of_ble_eq_true rfl, Nat.le_of_ble_eq_true rfl⟩, Nat.le_of_ble_eq_true rfl, Nat.le_of_ble_eq_true rfl⟩ (zg_retV (fun h2 hE => ?_)) (zg_xok ok tab fin ⟨Nat.le_of_ble_eq_true rfl, Nat.le_of_ble_eq_true rfl⟩)
  refine zg_cost (kc2 := 1) (ks2 := 40) ⟨rfl, rfl⟩ ?_
  refine zg_iconst (v := 1) ok dJ12_add_23 (by decide) ?_
  exact zg_zret ok fin dJ12_add_24 ⟨Nat.le_of_ble_eq_true rfl, Nat.le_of_ble_eq_true rfl⟩ rfl hE
