set_option maxRecDepth 100000
set_option maxHeartbeats 8000000 in
theorem gt_f_X1_bestLevels_J29 {Xc : zw_X} {Q : Int32 → zw_H → Prop} {X : String → Nat → zw_H → Prop} (hl : (zw_l Xc).stackTraces = false) (ok : zw_ok Xc cX1_bestLevels "MultipoleLine" yX1_bestLevels.name 4) (tab : zw_tab Xc []) (fin : zw_fin Xc (Option.some Jvm.ClassFile.FieldType.int) (zq_I Q) X 1 6) (hRm : zw_rm Xc = rm_X1_bestLevels) {kc ks : Nat} (hb : kc ≤ 1 ∧ ks ≤ 6) {R : Int32 → Int32 → zw_H → Prop} {l0 : Option Nat} (hR : ∀ (l2 : Int32) (l3 : Int32) (h : zw_H), R l2 l3 h → zw_G Xc kc ks 4 h 9 [(0, va_rf l0), (2, .int l2), (3, .int l3)] []) {k35 : Int32 → zw_H → Prop} (hk35 : ∀ (l2 : Int32) (h : zw_H), k35 l2 h → zw_G Xc kc ks 4 h 35 [(2, .int l2)] [])  {l2 : Int32} {l3 : Int32}  {h : zw_H} (hE : f_X1_bestLevels_J29 (zw_Zf Xc).2.2.2 Q X R k35 l0 l2 l3 h) : zw_G Xc kc ks 4 h 29 [(0, va_rf l0), (2, .int l2), (3, .int l3)] [] := by
  unfold f_X1_bestLevels_J29 at hE
  refine zg_iincL (k := 2) (L' := fun v4 => [(3, .int v4), (0, va_rf l0), (2, .int l2)]) ok dX1_bestLevels_29 (by decide +kernel) hE rfl (by decide) (fun _ => rfl) (fun v4 hE => ?_)
  refine zg_goto (tgt := 9) ok dX1_bestLevels_32 (by decide) ?_
  refine zg_sub (L' := [(0, va_rf l0), (2, .int l2), (3, .int v4)]) [1, 2, 0] rfl ?_
  exact hR _ _ _ hE
set_option maxHeartbeats 8000000 in
theorem gt_f_X1_bestLevels_B9 {Xc : zw_X} {Q : Int32 → zw_H → Prop} {X : String → Nat → zw_H → Prop} (hl : (zw_l Xc).stackTraces = false) (ok : zw_ok Xc cX1_bestLevels "MultipoleLine" yX1_bestLevels.name 4) (tab : zw_tab Xc []) (fin : zw_fin Xc (Option.some Jvm.ClassFile.FieldType.int) (zq_I Q) X 1 6) (hRm : zw_rm Xc = rm_X1_bestLevels) {kc ks : Nat} (hb : kc ≤ 1 ∧ ks ≤ 6) {R : Int32 → Int32 → zw_H → Prop} {l0 : Option Nat} (hR : ∀ (l2 : Int32) (l3 : Int32) (h : zw_H), R l2 l3 h → zw_G Xc kc ks 4 h 9 [(0, va_rf l0), (2, .int l2), (3, .int l3)] []) {k35 : Int32 → zw_H → Prop} (hk35 : ∀ (l2 : Int32) (h : zw_H), k35 l2 h → zw_G Xc kc ks 4 h 35 [(2, .int l2)] [])  {l2 : Int32} {l3 : Int32} {h : zw_H} (hE : f_X1_bestLevels_B9 (zw_Zf Xc).2.2.2 Q X k35 l0 R l2 l3 h) : zw_G Xc kc ks 4 h 9 [(0, va_rf l0), (2, .int l2), (3, .int l3)] [] := by
  unfold f_X1_bestLevels_B9 at hE
  refine zg_iload_n ok dX1_bestLevels_9 rfl 2 rfl ?_
  refine zg_iconst (v := 5) ok dX1_bestLevels_10 (by decide) ?_
  refine zg_icmp_gt (tgt := 35) ok dX1_bestLevels_11 (by decide) hE (fun hE => ?_) (fun hE => ?_)
  · refine zg_sub (L' := [(2, .int l2)]) [1] rfl ?_
    exact hk35 _ _ hE
  · refine zg_aload_n ok dX1_bestLevels_14 rfl 0 rfl ?_
    refine zg_iload_n ok dX1_bestLevels_15 rfl 2 rfl ?_
    refine zg_callV (vs := [zI l3]) (rest := []) (rm := rm_X1_costOf) ok hRm lk_X1_362 dX1_bestLevels_16 hE (fun hE => mt_X1_costOf hl hE) rfl (Nat.le_of_ble_eq_true rfl) ⟨⟨Nat.le_of_ble_eq_true rfl, Nat.le_of_ble_eq_true rfl⟩, (by show kc + 0 ≤ 1; omega), (by show ks + 0 ≤ 6; omega)⟩ (zg_retI (fun v2 h2 hE => ?_)) (zg_xok ok tab fin ⟨(by show kc + 0 ≤ 1; omega), (by show ks + 0 ≤ 6; omega)⟩)
    refine zg_cost (kc2 := kc) (ks2 := ks) ⟨(by show kc + 0 = kc; omega), (by show ks + 0 = ks; omega)⟩ ?_
    refine zg_aload_n ok dX1_bestLevels_19 rfl 0 rfl ?_
    refine zg_iload_n ok dX1_bestLevels_20 rfl 1 rfl ?_
    refine zg_callV (vs := [zI l2]) (rest := [.int v2]) (rm := rm_X1_costOf) ok hRm lk_X1_362 dX1_bestLevels_21 hE (fun hE => mt_X1_costOf hl hE) rfl (Nat.le_of_ble_eq_true rfl) ⟨⟨Nat.le_of_ble_eq_true rfl, Nat.le_of_ble_eq_true rfl⟩, (by show kc + 0 ≤ 1; omega), (by show ks + 0 ≤ 6; omega)⟩ (zg_retI (fun v3 h3 hE => ?_)) (zg_xok ok tab fin ⟨(by show kc + 0 ≤ 1; omega), (by show ks + 0 ≤ 6; omega)⟩)
    refine zg_cost (kc2 := kc) (ks2 := ks) ⟨(by show kc + 0 = kc; omega), (by show ks + 0 = ks; omega)⟩ ?_
    refine zg_icmp_ge (tgt := 29) ok dX1_bestLevels_24 (by decide) hE (fun hE => ?_) (fun hE => ?_)
    · exact gt_f_X1_bestLevels_J29 hl ok tab fin hRm hb hR hk35 hE
    · refine zg_iload_n ok dX1_bestLevels_27 rfl 2 rfl ?_
      refine zg_istore_n (L' := [(2, .int l3), (0, va_rf l0), (3, .int l3)]) ok dX1_bestLevels_28 rfl (by decide) rfl ?_
      refine zg_sub (L' := [(0, va_rf l0), (2, .int l3), (3, .int l3)]) [1, 0, 2] rfl ?_
      exact gt_f_X1_bestLevels_J29 hl ok tab fin hRm hb hR hk35 hE
theorem gt_f_X1_bestLevels_L9 {Xc : zw_X} {Q : Int32 → zw_H → Prop} {X : String → Nat → zw_H → Prop} (hl : (zw_l Xc).stackTraces = false) (ok : zw_ok Xc cX1_bestLevels "MultipoleLine" yX1_bestLevels.name 4) (tab : zw_tab Xc []) (fin : zw_fin Xc (Option.some Jvm.ClassFile.FieldType.int) (zq_I Q) X 1 6) (hRm : zw_rm Xc = rm_X1_bestLevels) {kc ks : Nat} (hb : kc ≤ 1 ∧ ks ≤ 6) {l0 : Option Nat} {k35 : Int32 → zw_H → Prop} (hk35 : ∀ (l2 : Int32) (h : zw_H), k35 l2 h → zw_G Xc kc ks 4 h 35 [(2, .int l2)] [])  : ∀ (n9 : Nat) (l2 : Int32) (l3 : Int32) (h : zw_H), zl3 (f_X1_bestLevels_B9 (zw_Zf Xc).2.2.2 Q X k35 l0) n9 l2 l3 h → zw_G Xc kc ks 4 h 9 [(0, va_rf l0), (2, .int l2), (3, .int l3)] [] := by
  intro n9
  induction n9 with
  | zero => intro l2 l3 h hE; exact hE.elim
  | succ n9 ih => intro l2 l3 h hE; exact gt_f_X1_bestLevels_B9 hl ok tab fin hRm hb ih hk35 hE
set_option maxHeartbeats 8000000 in
theorem mt_X1_bestLevels {l : Launch} (hl : l.stackTraces = false) {Z : zw_Z} {a0 : Option Nat} {h : zw_H} {Q : Int32 → zw_H → Prop} {X : String → Nat → zw_H → Prop} (hE : f_X1_bestLevels Z.2.2.2 a0 h Q X) : zw_Met l Z yX1_bestLevels (ws_ yX1_bestLevels cX1_bestLevels 4 (Option.some Jvm.ClassFile.FieldType.int)) rm_X1_bestLevels [zA a0] h (zq_I Q) X := by
  refine zg_start (own := "MultipoleLine") (by decide +kernel) rfl (Nat.le_of_ble_eq_true rfl) hl (fun Xc ok tab fin hRm hXl hXZ => ?_)
  subst hXl
  subst hXZ
  unfold f_X1_bestLevels at hE
  refine zg_aload_n ok dX1_bestLevels_0 rfl 0 rfl ?_
  refine zg_callV (vs := []) (rest := []) (rm := rm_X1_loaded) ok hRm lk_X1_76 dX1_bestLevels_1 hE (fun hE => mt_X1_loaded hl hE) rfl (Nat.le_of_ble_eq_true rfl) ⟨⟨Nat.le_of_ble_eq_true rfl, Nat.le_of_ble_eq_true rfl⟩, Nat.le_of_ble_eq_true rfl, Nat.le_of_ble_eq_true rfl⟩ (zg_retA (fun v1 h1 hE => ?_)) (zg_xok ok tab fin ⟨Nat.le_of_ble_eq_true rfl, Nat.le_of_ble_eq_true rfl⟩)
  refine zg_cost (kc2 := 1) (ks2 := 6) ⟨rfl, rfl⟩ ?_
  refine zg_astore_nR (L' := [(1, va_rf v1), (0, va_rf a0)]) ok dX1_bestLevels_4 rfl (by decide) 0 rfl rfl rfl ?_
  refine zg_iconst (v := 2) ok dX1_bestLevels_5 (by decide) ?_
  refine zg_istore_nR (L' := [(2, .int 2), (1, va_rf v1), (0, va_rf a0)]) ok dX1_bestLevels_6 rfl (by decide) 0 rfl rfl rfl ?_
  refine zg_iconst (v := 3) ok dX1_bestLevels_7 (by decide) ?_
  refine zg_istore_n (L' := [(3, .int 3), (2, .int 2), (1, va_rf v1), (0, va_rf a0)]) ok dX1_bestLevels_8 rfl (by decide) rfl ?_
  refine zg_sub (L' := [(0, va_rf a0), (2, .int 2), (3, .int 3)]) [3, 1, 0] rfl ?_
  refine gt_f_X1_bestLevels_L9 hl ok tab fin hRm ⟨Nat.le_of_ble_eq_true rfl, Nat.le_of_ble_eq_true rfl⟩ ?_ _ _ _ _ hE
  · intro v5 h4 hE
    refine zg_iload_n ok dX1_bestLevels_35 rfl 0 rfl ?_
    exact zg_iret ok fin dX1_bestLevels_36 ⟨Nat.le_of_ble_eq_true rfl, Nat.le_of_ble_eq_true rfl⟩ hE
set_option maxHeartbeats 8000000 in
theorem mt_X1_without {l : Launch} (hl : l.stackTraces = false) {Z : zw_Z} {a0 : Option Nat} {a1 : Int32} {a2 : Int32} {h : zw_H} {Q : UInt64 → zw_H → Prop} {X : String → Nat → zw_H → Prop} (hE : f_X1_without Z.2.2.2 a0 a1 a2 h Q X) : zw_Met l Z yX1_without (ws_ yX1_without cX1_without 4 (Option.some Jvm.ClassFile.FieldType.double)) rm_X1_without [zA a0, zI a1, zI a2] h (zq_D Q) X := by
  refine zg_start (own := "MultipoleLine") (by decide +kernel) rfl (Nat.le_of_ble_eq_true rfl) hl (fun Xc ok tab fin hRm hXl hXZ => ?_)
  subst hXl
  subst hXZ
  unfold f_X1_without at hE
  refine zg_aload_n ok dX1_without_0 rfl 0 rfl ?_
  refine zg_iload_n ok dX1_without_1 rfl 1 rfl ?_
  refine zg_callV (vs := [zI a1]) (rest := []) (rm := rm_X1_bodyOf) ok hRm lk_X1_174 dX1_without_2 hE (fun hE => mt_X1_bodyOf hl hE) rfl (Nat.le_of_ble_eq_true rfl) ⟨⟨Nat.le_of_ble_eq_true rfl, Nat.le_of_ble_eq_true rfl⟩, Nat.le_of_ble_eq_true rfl, Nat.le_of_ble_eq_true rfl⟩ (zg_retA (fun v1 h1 hE => ?_)) (zg_xok ok tab fin ⟨Nat.le_of_ble_eq_true rfl, Nat.le_of_ble_eq_true rfl⟩)
  refine zg_cost (kc2 := 2) (ks2 := 12) ⟨rfl, rfl⟩ ?_
  refine zg_astore_n (L' := [(3, va_rf v1), (0, va_rf a0), (1, .int a1), (2, .int a2)]) ok dX1_without_5 rfl (by decide) rfl ?_
  refine zg_aload_n ok dX1_without_6 rfl 1 rfl ?_
  refine zg_iload_n ok dX1_without_7 rfl 3 rfl ?_
  refine zg_callV (vs := [zI a2]) (rest := []) (rm := rm_X1_at) ok hRm lk_X1_193 dX1_without_8 hE (fun hE => mt_X1_at hl hE) rfl (Nat.le_of_ble_eq_true rfl) ⟨⟨Nat.le_of_ble_eq_true rfl, Nat.le_of_ble_eq_true rfl⟩, Nat.le_of_ble_eq_true rfl, Nat.le_of_ble_eq_true rfl⟩ (zg_retA (fun v2 h2 hE => ?_)) (zg_xok ok tab fin ⟨Nat.le_of_ble_eq_true rfl, Nat.le_of_ble_eq_true rfl⟩)
  refine zg_cost (kc2 := 4) (ks2 := 24) ⟨rfl, rfl⟩ ?_
  refine zg_iload_n ok dX1_without_11 rfl 3 rfl ?_
  refine zg_iconst (v := 0) ok dX1_without_12 (by decide) ?_
  refine zg_iload_n ok dX1_without_13 rfl 2 rfl ?_
  refine zg_callV (vs := [zI a2, zI 0, zI a1]) (rest := []) (rm := rm_X4_sum) ok hRm lk_X1_291 dX1_without_14 hE (fun hE => mt_X4_sum hl hE) rfl (Nat.le_of_ble_eq_true rfl) ⟨⟨Nat.le_of_ble_eq_true rfl, Nat.le_of_ble_eq_true rfl⟩, Nat.le_of_ble_eq_true rfl, Nat.le_of_ble_eq_true rfl⟩ (zg_retD (fun v3 h3 hE => ?_)) (zg_xok ok tab fin ⟨Nat.le_of_ble_eq_true rfl, Nat.le_of_ble_eq_true rfl⟩)
  refine zg_cost (kc2 := 4) (ks2 := 24) ⟨rfl, rfl⟩ ?_
  exact zg_dret ok fin dX1_without_17 ⟨Nat.le_of_ble_eq_true rfl, Nat.le_of_ble_eq_true rfl⟩ hE
set_option maxHeartbeats 8000000 in
theorem gt_f_X1_quietest_J64 {Xc : zw_X} {Q : Int32 → zw_H → Prop} {X : String → Nat → zw_H → Prop} (hl : (zw_l Xc).stackTraces = false) (ok : zw_ok Xc cX1_quietest "MultipoleLine" yX1_quietest.name 8) (tab : zw_tab Xc []) (fin : zw_fin Xc (Option.some Jvm.ClassFile.FieldType.int) (zq_I Q) X 515 3090) (hRm : zw_rm Xc = rm_X1_quietest) {kb sb KE SE : Nat} (hk : kb + 2 ≤ KE ∧ sb + 12 ≤ SE) (hKE : KE ≤ 515 ∧ SE ≤ 3090) {R : Int32 → UInt64 → Int32 → zw_H → Prop} {l0 : Option Nat} {l1 : Option Nat} (hR : ∀ (l2 : Int32) (l3 : UInt64) (l5 : Int32) (h : zw_H), R l2 l3 l5 h → zw_G Xc (kb + 2) (sb + 12) 8 h 12 [(0, va_rf l0), (1, va_rf l1), (2, .int l2), (3, .double l3), (5, .int l5)] []) {k70 : Int32 → zw_H → Prop} (hk70 : ∀ (l2 : Int32) (h : zw_H), k70 l2 h → zw_G Xc KE SE 8 h 70 [(2, .int l2)] [])  {l2 : Int32} {l3 : UInt64} {l5 : Int32}  {h : zw_H} (hE : f_X1_quietest_J64 (zw_Zf Xc).2.2.2 Q X R k70 l0 l1 l2 l3 l5 h) : zw_G Xc (kb + 2) (sb + 12) 8 h 64 [(0, va_rf l0), (1, va_rf l1), (2, .int l2), (3, .double l3), (5, .int l5)] [] := by
  unfold f_X1_quietest_J64 at hE
  refine zg_iincL (k := 4) (L' := fun v5 => [(5, .int v5), (0, va_rf l0), (1, va_rf l1), (2, .int l2), (3, .double l3)]) ok dX1_quietest_64 (by decide +kernel) hE rfl (by decide) (fun _ => rfl) (fun v5 hE => ?_)
  refine zg_goto (tgt := 12) ok dX1_quietest_67 (by decide) ?_
  refine zg_sub (L' := [(0, va_rf l0), (1, va_rf l1), (2, .int l2), (3, .double l3), (5, .int v5)]) [1, 2, 3, 4, 0] rfl ?_
  exact hR _ _ _ _ hE
set_option maxHeartbeats 8000000 in
theorem gt_f_X1_quietest_J58 {Xc : zw_X} {Q : Int32 → zw_H → Prop} {X : String → Nat → zw_H → Prop} (hl : (zw_l Xc).stackTraces = false) (ok : zw_ok Xc cX1_quietest "MultipoleLine" yX1_quietest.name 8) (tab : zw_tab Xc []) (fin : zw_fin Xc (Option.some Jvm.ClassFile.FieldType.int) (zq_I Q) X 515 3090) (hRm : zw_rm Xc = rm_X1_quietest) {kb sb KE SE : Nat} (hk : kb + 2 ≤ KE ∧ sb + 12 ≤ SE) (hKE : KE ≤ 515 ∧ SE ≤ 3090) {R : Int32 → UInt64 → Int32 → zw_H → Prop} {l0 : Option Nat} {l1 : Option Nat} (hR : ∀ (l2 : Int32) (l3 : UInt64) (l5 : Int32) (h : zw_H), R l2 l3 l5 h → zw_G Xc (kb + 2) (sb + 12) 8 h 12 [(0, va_rf l0), (1, va_rf l1), (2, .int l2), (3, .double l3), (5, .int l5)] []) {k70 : Int32 → zw_H → Prop} (hk70 : ∀ (l2 : Int32) (h : zw_H), k70 l2 h → zw_G Xc KE SE 8 h 70 [(2, .int l2)] [])  {l5 : Int32} {l6 : UInt64}  {h : zw_H} (hE : f_X1_quietest_J58 (zw_Zf Xc).2.2.2 Q X R k70 l0 l1 l5 l6 h) : zw_G Xc (kb + 2) (sb + 12) 8 h 58 [(0, va_rf l0), (1, va_rf l1), (5, .int l5), (6, .double l6)] [] := by
  unfold f_X1_quietest_J58 at hE
  refine zg_iload ok dX1_quietest_58 2 rfl ?_
  refine zg_istore_nR (L' := [(2, .int l5), (0, va_rf l0), (1, va_rf l1), (5, .int l5), (6, .double l6)]) ok dX1_quietest_60 rfl (by decide) 1 rfl rfl rfl ?_
  refine zg_dload ok dX1_quietest_61 4 rfl ?_
  refine zg_dstore_n (L' := [(3, .double l6), (2, .int l5), (0, va_rf l0), (1, va_rf l1), (5, .int l5), (6, .double l6)]) ok dX1_quietest_63 rfl (by decide) rfl ?_
  refine zg_sub (L' := [(0, va_rf l0), (1, va_rf l1), (2, .int l5), (3, .double l6), (5, .int l5)]) [2, 3, 1, 0, 4] rfl ?_
  exact gt_f_X1_quietest_J64 hl ok tab fin hRm hk hKE hR hk70 hE
set_option maxHeartbeats 8000000 in
theorem gt_f_X1_quietest_B12 {Xc : zw_X} {Q : Int32 → zw_H → Prop} {X : String → Nat → zw_H → Prop} (hl : (zw_l Xc).stackTraces = false) (ok : zw_ok Xc cX1_quietest "MultipoleLine" yX1_quietest.name 8) (tab : zw_tab Xc []) (fin : zw_fin Xc (Option.some Jvm.ClassFile.FieldType.int) (zq_I Q) X 515 3090) (hRm : zw_rm Xc = rm_X1_quietest) {kb sb KE SE : Nat} (hk : kb + 2 ≤ KE ∧ sb + 12 ≤ SE) (hKE : KE ≤ 515 ∧ SE ≤ 3090) {R : Int32 → UInt64 → Int32 → zw_H → Prop} {l0 : Option Nat} {l1 : Option Nat} (hR : ∀ (l2 : Int32) (l3 : UInt64) (l5 : Int32) (h : zw_H), R l2 l3 l5 h → zw_G Xc (kb + 2) (sb + 12) 8 h 12 [(0, va_rf l0), (1, va_rf l1), (2, .int l2), (3, .double l3), (5, .int l5)] []) {k70 : Int32 → zw_H → Prop} (hk70 : ∀ (l2 : Int32) (h : zw_H), k70 l2 h → zw_G Xc KE SE 8 h 70 [(2, .int l2)] [])  {l2 : Int32} {l3 : UInt64} {l5 : Int32} {h : zw_H} (hE : f_X1_quietest_B12 (zw_Zf Xc).2.2.2 Q X k70 l0 l1 R l2 l3 l5 h) : zw_G Xc kb sb 8 h 12 [(0, va_rf l0), (1, va_rf l1), (2, .int l2), (3, .double l3), (5, .int l5)] [] := by
  unfold f_X1_quietest_B12 at hE
  refine zg_iload ok dX1_quietest_12 4 rfl ?_
  refine zg_sipush (v := 256) ok dX1_quietest_14 (by decide) ?_
  refine zg_icmp_ge (tgt := 70) ok dX1_quietest_17 (by decide) hE (fun hE => ?_) (fun hE => ?_)
  · refine zg_wide (kc2 := KE) (ks2 := SE) (by omega) (by omega) ?_
    refine zg_sub (L' := [(2, .int l2)]) [2] rfl ?_
    exact hk70 _ _ hE
  · refine zg_aload_n ok dX1_quietest_20 rfl 1 rfl ?_
    refine zg_iload ok dX1_quietest_21 4 rfl ?_
    refine zg_iconst (v := 0) ok dX1_quietest_23 (by decide) ?_
    refine zg_iconst (v := (-1)) ok dX1_quietest_24 (by decide) ?_
    refine zg_callV (vs := [zI l5, zI 0, zI (-1)]) (rest := []) (rm := rm_X4_sum) ok hRm lk_X1_291 dX1_quietest_25 hE (fun hE => mt_X4_sum hl hE) rfl (Nat.le_of_ble_eq_true rfl) ⟨⟨Nat.le_of_ble_eq_true rfl, Nat.le_of_ble_eq_true rfl⟩, (by show kb + 0 ≤ 515; omega), (by show sb + 0 ≤ 3090; omega)⟩ (zg_retD (fun v2 h2 hE => ?_)) (zg_xok ok tab fin ⟨(by show kb + 0 ≤ 515; omega), (by show sb + 0 ≤ 3090; omega)⟩)
    refine zg_cost (kc2 := kb) (ks2 := sb) ⟨(by show kb + 0 = kb; omega), (by show sb + 0 = sb; omega)⟩ ?_
    refine zg_callS (vs := [zD v2]) (rest := []) (rm := rm_X1_absolute) ok hRm lk_X1_365 dX1_quietest_28 hE (fun hE => mt_X1_absolute hl hE) rfl (Nat.le_of_ble_eq_true rfl) ⟨⟨Nat.le_of_ble_eq_true rfl, Nat.le_of_ble_eq_true rfl⟩, (by show kb + 0 ≤ 515; omega), (by show sb + 0 ≤ 3090; omega)⟩ (zg_retD (fun v3 h3 hE => ?_)) (zg_xok ok tab fin ⟨(by show kb + 0 ≤ 515; omega), (by show sb + 0 ≤ 3090; omega)⟩)
    refine zg_cost (kc2 := kb) (ks2 := sb) ⟨(by show kb + 0 = kb; omega), (by show sb + 0 = sb; omega)⟩ ?_
    refine zg_dstore (L' := [(6, .double v3), (0, va_rf l0), (1, va_rf l1), (2, .int l2), (3, .double l3), (5, .int l5)]) ok dX1_quietest_31 (by decide) rfl ?_
    refine zg_aload_n ok dX1_quietest_33 rfl 1 rfl ?_
    refine zg_iload ok dX1_quietest_34 5 rfl ?_
    refine zg_callV (vs := [zI l5]) (rest := []) (rm := rm_X1_bodyAt) ok hRm lk_X1_369 dX1_quietest_36 hE (fun hE => mt_X1_bodyAt hl hE) rfl (Nat.le_of_ble_eq_true rfl) ⟨⟨Nat.le_of_ble_eq_true rfl, Nat.le_of_ble_eq_true rfl⟩, (by show kb + 2 ≤ 515; omega), (by show sb + 12 ≤ 3090; omega)⟩ (zg_retI (fun v4 h4 hE => ?_)) (zg_xok ok tab fin ⟨(by show kb + 2 ≤ 515; omega), (by show sb + 12 ≤ 3090; omega)⟩)
    refine zg_cost (kc2 := kb + 2) (ks2 := sb + 12) ⟨(by show kb + 2 = kb + 2; omega), (by show sb + 12 = sb + 12; omega)⟩ ?_
    refine zg_iconst (v := (-1)) ok dX1_quietest_39 (by decide) ?_
    refine zg_icmp_ne (tgt := 64) ok dX1_quietest_40 (by decide) hE (fun hE => ?_) (fun hE => ?_)
    · refine zg_sub (L' := [(0, va_rf l0), (1, va_rf l1), (2, .int l2), (3, .double l3), (5, .int l5)]) [1, 2, 3, 4, 5] rfl ?_
      exact gt_f_X1_quietest_J64 hl ok tab fin hRm hk hKE hR hk70 hE
    · refine zg_iload_n ok dX1_quietest_43 rfl 3 rfl ?_
      refine zg_iconst (v := (-1)) ok dX1_quietest_44 (by decide) ?_
      refine zg_icmp_eq (tgt := 58) ok dX1_quietest_45 (by decide) hE (fun hE => ?_) (fun hE => ?_)
      · refine zg_sub (L' := [(0, va_rf l0), (1, va_rf l1), (5, .int l5), (6, .double v3)]) [1, 2, 5, 0] rfl ?_
        exact gt_f_X1_quietest_J58 hl ok tab fin hRm hk hKE hR hk70 hE
      · refine zg_dload ok dX1_quietest_48 0 rfl ?_
        refine zg_dload_n ok dX1_quietest_50 rfl 4 rfl ?_
        refine zg_dcmp ok dX1_quietest_51 ?_
        refine zg_if_lt (tgt := 58) ok dX1_quietest_52 (by decide) hE (fun hE => ?_) (fun hE => ?_)
        · refine zg_sub (L' := [(0, va_rf l0), (1, va_rf l1), (5, .int l5), (6, .double v3)]) [1, 2, 5, 0] rfl ?_
          exact gt_f_X1_quietest_J58 hl ok tab fin hRm hk hKE hR hk70 hE
        · refine zg_goto (tgt := 64) ok dX1_quietest_55 (by decide) ?_
          refine zg_sub (L' := [(0, va_rf l0), (1, va_rf l1), (2, .int l2), (3, .double l3), (5, .int l5)]) [1, 2, 3, 4, 5] rfl ?_
          exact gt_f_X1_quietest_J64 hl ok tab fin hRm hk hKE hR hk70 hE
theorem gt_f_X1_quietest_L12 {Xc : zw_X} {Q : Int32 → zw_H → Prop} {X : String → Nat → zw_H → Prop} (hl : (zw_l Xc).stackTraces = false) (ok : zw_ok Xc cX1_quietest "MultipoleLine" yX1_quietest.name 8) (tab : zw_tab Xc []) (fin : zw_fin Xc (Option.some Jvm.ClassFile.FieldType.int) (zq_I Q) X 515 3090) (hRm : zw_rm Xc = rm_X1_quietest) {KE SE : Nat} (hKE : KE ≤ 515 ∧ SE ≤ 3090) {l0 : Option Nat} {l1 : Option Nat} {k70 : Int32 → zw_H → Prop} (hk70 : ∀ (l2 : Int32) (h : zw_H), k70 l2 h → zw_G Xc KE SE 8 h 70 [(2, .int l2)] [])  : ∀ (n9 kb sb : Nat), kb + n9 * 2 ≤ KE ∧ sb + n9 * 12 ≤ SE → ∀ (l2 : Int32) (l3 : UInt64) (l5 : Int32) (h : zw_H), zl4 (f_X1_quietest_B12 (zw_Zf Xc).2.2.2 Q X k70 l0 l1) n9 l2 l3 l5 h → zw_G Xc kb sb 8 h 12 [(0, va_rf l0), (1, va_rf l1), (2, .int l2), (3, .double l3), (5, .int l5)] [] := by
  intro n9
  induction n9 with
  | zero => intro kb sb hk9 l2 l3 l5 h hE; exact hE.elim
  | succ n9 ih => intro kb sb hk9 l2 l3 l5 h hE; exact gt_f_X1_quietest_B12 hl ok tab fin hRm ⟨by omega, by omega⟩ hKE (ih (kb + 2) (sb + 12) ⟨by omega, by omega⟩) hk70 hE
set_option maxHeartbeats 8000000 in
theorem mt_X1_quietest {l : Launch} (hl : l.stackTraces = false) {Z : zw_Z} {a0 : Option Nat} {h : zw_H} {Q : Int32 → zw_H → Prop} {X : String → Nat → zw_H → Prop} (hE : f_X1_quietest Z.2.2.2 a0 h Q X) : zw_Met l Z yX1_quietest (ws_ yX1_quietest cX1_quietest 8 (Option.some Jvm.ClassFile.FieldType.int)) rm_X1_quietest [zA a0] h (zq_I Q) X := by
  refine zg_start (own := "MultipoleLine") (by decide +kernel) rfl (Nat.le_of_ble_eq_true rfl) hl (fun Xc ok tab fin hRm hXl hXZ => ?_)
  subst hXl
  subst hXZ
  unfold f_X1_quietest at hE
  refine zg_aload_n ok dX1_quietest_0 rfl 0 rfl ?_
  refine zg_callV (vs := []) (rest := []) (rm := rm_X1_loaded) ok hRm lk_X1_76 dX1_quietest_1 hE (fun hE => mt_X1_loaded hl hE) rfl (Nat.le_of_ble_eq_true rfl) ⟨⟨Nat.le_of_ble_eq_true rfl, Nat.le_of_ble_eq_true rfl⟩, Nat.le_of_ble_eq_true rfl, Nat.le_of_ble_eq_true rfl⟩ (zg_retA (fun v1 h1 hE => ?_)) (zg_xok ok tab fin ⟨Nat.le_of_ble_eq_true rfl, Nat.le_of_ble_eq_true rfl⟩)
  refine zg_cost (kc2 := 1) (ks2 := 6) ⟨rfl, rfl⟩ ?_
  refine zg_astore_nR (L' := [(1, va_rf v1), (0, va_rf a0)]) ok dX1_quietest_4 rfl (by decide) 0 rfl rfl rfl ?_
  refine zg_iconst (v := (-1)) ok dX1_quietest_5 (by decide) ?_
  refine zg_istore_nR (L' := [(2, .int (-1)), (1, va_rf v1), (0, va_rf a0)]) ok dX1_quietest_6 rfl (by decide) 0 rfl rfl rfl ?_
  refine zg_dconst0 ok dX1_quietest_7 ?_
  refine zg_dstore_n (L' := [(3, .double FP.dconst0), (2, .int (-1)), (1, va_rf v1), (0, va_rf a0)]) ok dX1_quietest_8 rfl (by decide) rfl ?_
  refine zg_iconst (v := 0) ok dX1_quietest_9 (by decide) ?_
  refine zg_istore (L' := [(5, .int 0), (3, .double FP.dconst0), (2, .int (-1)), (1, va_rf v1), (0, va_rf a0)]) ok dX1_quietest_10 (by decide) rfl ?_
  refine zg_sub (L' := [(0, va_rf a0), (1, va_rf v1), (2, .int (-1)), (3, .double FP.dconst0), (5, .int 0)]) [4, 3, 2, 1, 0] rfl ?_
  refine gt_f_X1_quietest_L12 (KE := 515) (SE := 3090) hl ok tab fin hRm ⟨Nat.le_of_ble_eq_true rfl, Nat.le_of_ble_eq_true rfl⟩ ?_ _ 1 6 ⟨Nat.le_of_ble_eq_true rfl, Nat.le_of_ble_eq_true rfl⟩ _ _ _ _ hE
  · intro v6 h5 hE
    refine zg_iload_n ok dX1_quietest_70 rfl 0 rfl ?_
    exact zg_iret ok fin dX1_quietest_71 ⟨Nat.le_of_ble_eq_true rfl, Nat.le_of_ble_eq_true rfl⟩ hE
set_option maxHeartbeats 8000000 in
theorem gt_f_X1_energy_B10 {Xc : zw_X} {Q : UInt64 → zw_H → Prop} {X : String → Nat → zw_H → Prop} (hl : (zw_l Xc).stackTraces = false) (ok : zw_ok Xc cX1_energy "MultipoleLine" yX1_energy.name 7) (tab : zw_tab Xc []) (fin : zw_fin Xc (Option.some Jvm.ClassFile.FieldType.double) (zq_D Q) X 1 6) (hRm : zw_rm Xc = rm_X1_energy) {kc ks : Nat} (hb : kc ≤ 1 ∧ ks ≤ 6) {R : UInt64 → Int32 → zw_H → Prop} {l1 : Int32} {l2 : Option Nat} (hR : ∀ (l3 : UInt64) (l5 : Int32) (h : zw_H), R l3 l5 h → zw_G Xc kc ks 7 h 10 [(1, .int l1), (2, va_rf l2), (3, .double l3), (5, .int l5)] []) {k53 : UInt64 → zw_H → Prop} (hk53 : ∀ (l3 : UInt64) (h : zw_H), k53 l3 h → zw_G Xc kc ks 7 h 53 [(3, .double l3)] [])  {l3 : UInt64} {l5 : Int32} {h : zw_H} (hE : f_X1_energy_B10 (zw_Zf Xc).2.2.2 Q X k53 l1 l2 R l3 l5 h) : zw_G Xc kc ks 7 h 10 [(1, .int l1), (2, va_rf l2), (3, .double l3), (5, .int l5)] [] := by
  unfold f_X1_energy_B10 at hE
  refine zg_iload ok dX1_energy_10 3 rfl ?_
  refine zg_aload_n ok dX1_energy_12 rfl 1 rfl ?_
  refine zg_callV (vs := []) (rest := [.int l5]) (rm := rm_X4_size) ok hRm lk_X1_80 dX1_energy_13 hE (fun hE => mt_X4_size hl hE) rfl (Nat.le_of_ble_eq_true rfl) ⟨⟨Nat.le_of_ble_eq_true rfl, Nat.le_of_ble_eq_true rfl⟩, (by show kc + 0 ≤ 1; omega), (by show ks + 0 ≤ 6; omega)⟩ (zg_retI (fun v2 h2 hE => ?_)) (zg_xok ok tab fin ⟨(by show kc + 0 ≤ 1; omega), (by show ks + 0 ≤ 6; omega)⟩)
  refine zg_cost (kc2 := kc) (ks2 := ks) ⟨(by show kc + 0 = kc; omega), (by show ks + 0 = ks; omega)⟩ ?_
  refine zg_icmp_ge (tgt := 53) ok dX1_energy_16 (by decide) hE (fun hE => ?_) (fun hE => ?_)
  · refine zg_sub (L' := [(3, .double l3)]) [2] rfl ?_
    exact hk53 _ _ hE
  · refine zg_aload_n ok dX1_energy_19 rfl 1 rfl ?_
    refine zg_iload ok dX1_energy_20 3 rfl ?_
    refine zg_callV (vs := [zI l5]) (rest := []) (rm := rm_X4_at) ok hRm lk_X1_88 dX1_energy_22 hE (fun hE => mt_X4_at hl hE) rfl (Nat.le_of_ble_eq_true rfl) ⟨⟨Nat.le_of_ble_eq_true rfl, Nat.le_of_ble_eq_true rfl⟩, (by show kc + 0 ≤ 1; omega), (by show ks + 0 ≤ 6; omega)⟩ (zg_retA (fun v3 h3 hE => ?_)) (zg_xok ok tab fin ⟨(by show kc + 0 ≤ 1; omega), (by show ks + 0 ≤ 6; omega)⟩)
    refine zg_cost (kc2 := kc) (ks2 := ks) ⟨(by show kc + 0 = kc; omega), (by show ks + 0 = ks; omega)⟩ ?_
    refine zg_astore (L' := [(6, va_rf v3), (1, .int l1), (2, va_rf l2), (3, .double l3), (5, .int l5)]) ok dX1_energy_25 (by decide) rfl ?_
    refine zg_dload_n ok dX1_energy_27 rfl 3 rfl ?_
    refine zg_aload ok dX1_energy_28 0 rfl ?_
    refine zg_getI ok lf_X1_177 dX1_energy_30 hE (fun v4 hE => ?_)
    refine zg_i2d ok dX1_energy_33 ?_
    refine zg_aload_n ok dX1_energy_34 rfl 2 rfl ?_
    refine zg_aload ok dX1_energy_35 0 rfl ?_
    refine zg_getI ok lf_X1_139 dX1_energy_37 hE (fun v5 hE => ?_)
    refine zg_iload_n ok dX1_energy_40 rfl 1 rfl ?_
    refine zg_callV (vs := [zI v5, zI l1]) (rest := [.double (FP.i2d v4), .double l3]) (rm := rm_X4_sumBy) ok hRm lk_X1_287 dX1_energy_41 hE (fun hE => mt_X4_sumBy hl hE) rfl (Nat.le_of_ble_eq_true rfl) ⟨⟨Nat.le_of_ble_eq_true rfl, Nat.le_of_ble_eq_true rfl⟩, (by show kc + 0 ≤ 1; omega), (by show ks + 0 ≤ 6; omega)⟩ (zg_retD (fun v6 h4 hE => ?_)) (zg_xok ok tab fin ⟨(by show kc + 0 ≤ 1; omega), (by show ks + 0 ≤ 6; omega)⟩)
    refine zg_cost (kc2 := kc) (ks2 := ks) ⟨(by show kc + 0 = kc; omega), (by show ks + 0 = ks; omega)⟩ ?_
    refine zg_dmulE ok dX1_energy_44 hE (fun hE => ?_)
    refine zg_letD hE (fun v7 hE => ?_)
    refine zg_daddE ok dX1_energy_45 hE (fun hE => ?_)
    refine zg_letD hE (fun v8 hE => ?_)
    refine zg_dstore_nR (L' := [(3, .double v8), (6, va_rf v3), (1, .int l1), (2, va_rf l2), (5, .int l5)]) ok dX1_energy_46 rfl (by decide) 2 rfl rfl rfl ?_
    refine zg_iincL (k := 4) (L' := fun v9 => [(5, .int v9), (3, .double v8), (6, va_rf v3), (1, .int l1), (2, va_rf l2)]) ok dX1_energy_47 (by decide +kernel) hE rfl (by decide) (fun _ => rfl) (fun v9 hE => ?_)
    refine zg_goto (tgt := 10) ok dX1_energy_50 (by decide) ?_
    refine zg_sub (L' := [(1, .int l1), (2, va_rf l2), (3, .double v8), (5, .int v9)]) [3, 4, 1, 0] rfl ?_
    exact hR _ _ _ hE
theorem gt_f_X1_energy_L10 {Xc : zw_X} {Q : UInt64 → zw_H → Prop} {X : String → Nat → zw_H → Prop} (hl : (zw_l Xc).stackTraces = false) (ok : zw_ok Xc cX1_energy "MultipoleLine" yX1_energy.name 7) (tab : zw_tab Xc []) (fin : zw_fin Xc (Option.some Jvm.ClassFile.FieldType.double) (zq_D Q) X 1 6) (hRm : zw_rm Xc = rm_X1_energy) {kc ks : Nat} (hb : kc ≤ 1 ∧ ks ≤ 6) {l1 : Int32} {l2 : Option Nat} {k53 : UInt64 → zw_H → Prop} (hk53 : ∀ (l3 : UInt64) (h : zw_H), k53 l3 h → zw_G Xc kc ks 7 h 53 [(3, .double l3)] [])  : ∀ (n9 : Nat) (l3 : UInt64) (l5 : Int32) (h : zw_H), zl3 (f_X1_energy_B10 (zw_Zf Xc).2.2.2 Q X k53 l1 l2) n9 l3 l5 h → zw_G Xc kc ks 7 h 10 [(1, .int l1), (2, va_rf l2), (3, .double l3), (5, .int l5)] [] := by
  intro n9
  induction n9 with
  | zero => intro l3 l5 h hE; exact hE.elim
  | succ n9 ih => intro l3 l5 h hE; exact gt_f_X1_energy_B10 hl ok tab fin hRm hb ih hk53 hE
set_option maxHeartbeats 8000000 in
theorem mt_X1_energy {l : Launch} (hl : l.stackTraces = false) {Z : zw_Z} {a0 : Option Nat} {a1 : Int32} {h : zw_H} {Q : UInt64 → zw_H → Prop} {X : String → Nat → zw_H → Prop} (hE : f_X1_energy Z.2.2.2 a0 a1 h Q X) : zw_Met l Z yX1_energy (ws_ yX1_energy cX1_energy 7 (Option.some Jvm.ClassFile.FieldType.double)) rm_X1_energy [zA a0, zI a1] h (zq_D Q) X := by
  refine zg_start (own := "MultipoleLine") (by decide +kernel) rfl (Nat.le_of_ble_eq_true rfl) hl (fun Xc ok tab fin hRm hXl hXZ => ?_)
  subst hXl
  subst hXZ
  unfold f_X1_energy at hE
  refine zg_aload_n ok dX1_energy_0 rfl 0 rfl ?_
  refine zg_callV (vs := []) (rest := []) (rm := rm_X1_loaded) ok hRm lk_X1_76 dX1_energy_1 hE (fun hE => mt_X1_loaded hl hE) rfl (Nat.le_of_ble_eq_true rfl) ⟨⟨Nat.le_of_ble_eq_true rfl, Nat.le_of_ble_eq_true rfl⟩, Nat.le_of_ble_eq_true rfl, Nat.le_of_ble_eq_true rfl⟩ (zg_retA (fun v1 h1 hE => ?_)) (zg_xok ok tab fin ⟨Nat.le_of_ble_eq_true rfl, Nat.le_of_ble_eq_true rfl⟩)
  refine zg_cost (kc2 := 1) (ks2 := 6) ⟨rfl, rfl⟩ ?_
  refine zg_astore_n (L' := [(2, va_rf v1), (0, va_rf a0), (1, .int a1)]) ok dX1_energy_4 rfl (by decide) rfl ?_
  refine zg_dconst0 ok dX1_energy_5 ?_
  refine zg_dstore_nR (L' := [(3, .double FP.dconst0), (2, va_rf v1), (0, va_rf a0), (1, .int a1)]) ok dX1_energy_6 rfl (by decide) 0 rfl rfl rfl ?_
  refine zg_iconst (v := 0) ok dX1_energy_7 (by decide) ?_
  refine zg_istore (L' := [(5, .int 0), (3, .double FP.dconst0), (2, va_rf v1), (0, va_rf a0), (1, .int a1)]) ok dX1_energy_8 (by decide) rfl ?_
  refine zg_sub (L' := [(1, .int a1), (2, va_rf v1), (3, .double FP.dconst0), (5, .int 0)]) [4, 2, 1, 0] rfl ?_
  refine gt_f_X1_energy_L10 hl ok tab fin hRm ⟨Nat.le_of_ble_eq_true rfl, Nat.le_of_ble_eq_true rfl⟩ ?_ _ _ _ _ hE
  · intro v10 h5 hE
    refine zg_dload_n ok dX1_energy_53 rfl 0 rfl ?_
    refine zg_ldc2d (v := (4611686018427387904 : UInt64)) ok q2071 dX1_energy_54 ?_
    refine zg_ddivE ok dX1_energy_57 hE (fun hE => ?_)
    refine zg_letD hE (fun v11 hE => ?_)
    exact zg_dret ok fin dX1_energy_58 ⟨Nat.le_of_ble_eq_true rfl, Nat.le_of_ble_eq_true rfl⟩ hE
set_option maxHeartbeats 8000000 in
theorem gt_f_X1_isZero_J30 {Xc : zw_X} {Q : Int32 → zw_H → Prop} {X : String → Nat → zw_H → Prop} (hl : (zw_l Xc).stackTraces = false) (ok : zw_ok Xc cX1_isZero "MultipoleLine" yX1_isZero.name 6) (tab : zw_tab Xc []) (fin : zw_fin Xc (Option.some Jvm.ClassFile.FieldType.boolean) (zq_I Q) X 0 0) (hRm : zw_rm Xc = rm_X1_isZero)  {l2 : UInt64} {l4 : UInt64}  {h : zw_H} (hE : f_X1_isZero_J30 (zw_Zf Xc).2.2.2 Q X  l2 l4 h) : zw_G Xc 0 0 6 h 30 [(2, .double l2), (4, .double l4)] [] := by
  unfold f_X1_isZero_J30 at hE
  refine zg_dload_n ok dX1_isZero_30 rfl 0 rfl ?_
  refine zg_dconst0 ok dX1_isZero_31 ?_
  refine zg_dcmp ok dX1_isZero_32 ?_
  refine zg_if_gt (tgt := 47) ok dX1_isZero_33 (by decide) hE (fun hE => ?_) (fun hE => ?_)
  · refine zg_iconst (v := 0) ok dX1_isZero_47 (by decide) ?_
    exact zg_zret ok fin dX1_isZero_48 ⟨Nat.le_of_ble_eq_true rfl, Nat.le_of_ble_eq_true rfl⟩ rfl hE
  · refine zg_dload ok dX1_isZero_36 1 rfl ?_
    refine zg_dconst0 ok dX1_isZero_38 ?_
    refine zg_dcmp ok dX1_isZero_39 ?_
    refine zg_if_le (tgt := 47) ok dX1_isZero_40 (by decide) hE (fun hE => ?_) (fun hE => ?_)
    · refine zg_iconst (v := 0) ok dX1_isZero_47 (by decide) ?_
      exact zg_zret ok fin dX1_isZero_48 ⟨Nat.le_of_ble_eq_true rfl, Nat.le_of_ble_eq_true rfl⟩ rfl hE
    · refine zg_iconst (v := 1) ok dX1_isZero_43 (by decide) ?_
      refine zg_goto (tgt := 48) ok dX1_isZero_44 (by decide) ?_
      exact zg_zret ok fin dX1_isZero_48 ⟨Nat.le_of_ble_eq_true rfl, Nat.le_of_ble_eq_true rfl⟩ rfl hE
set_option maxHeartbeats 8000000 in
theorem mt_X1_isZero {l : Launch} (hl : l.stackTraces = false) {Z : zw_Z} {a0 : Option Nat} {a1 : Int32} {h : zw_H} {Q : Int32 → zw_H → Prop} {X : String → Nat → zw_H → Prop} (hE : f_X1_isZero Z.2.2.2 a0 a1 h Q X) : zw_Met l Z yX1_isZero (ws_ yX1_isZero cX1_isZero 6 (Option.some Jvm.ClassFile.FieldType.boolean)) rm_X1_isZero [zA a0, zI a1] h (zq_I Q) X := by
  refine zg_start (own := "MultipoleLine") (by decide +kernel) rfl (Nat.le_of_ble_eq_true rfl) hl (fun Xc ok tab fin hRm hXl hXZ => ?_)
  subst hXl
  subst hXZ
  unfold f_X1_isZero at hE
  refine zg_aload_n ok dX1_isZero_0 rfl 0 rfl ?_
  refine zg_iload_n ok dX1_isZero_1 rfl 1 rfl ?_
  refine zg_iconst (v := 0) ok dX1_isZero_2 (by decide) ?_
  refine zg_callV (vs := [zI a1, zI 0]) (rest := []) (rm := rm_X4_pull) ok hRm lk_X1_334 dX1_isZero_3 hE (fun hE => mt_X4_pull hl hE) rfl (Nat.le_of_ble_eq_true rfl) ⟨⟨Nat.le_of_ble_eq_true rfl, Nat.le_of_ble_eq_true rfl⟩, Nat.le_of_ble_eq_true rfl, Nat.le_of_ble_eq_true rfl⟩ (zg_retD (fun v1 h1 hE => ?_)) (zg_xok ok tab fin ⟨Nat.le_of_ble_eq_true rfl, Nat.le_of_ble_eq_true rfl⟩)
  refine zg_cost (kc2 := 0) (ks2 := 0) ⟨rfl, rfl⟩ ?_
  refine zg_dstore_n (L' := [(2, .double v1), (0, va_rf a0), (1, .int a1)]) ok dX1_isZero_6 rfl (by decide) rfl ?_
  refine zg_aload_n ok dX1_isZero_7 rfl 1 rfl ?_
  refine zg_iload_n ok dX1_isZero_8 rfl 2 rfl ?_
  refine zg_iconst (v := 1) ok dX1_isZero_9 (by decide) ?_
  refine zg_iadd ok dX1_isZero_10 ?_
  refine zg_iconst (v := 0) ok dX1_isZero_11 (by decide) ?_
  refine zg_callV (vs := [zI (a1 + 1), zI 0]) (rest := []) (rm := rm_X4_pull) ok hRm lk_X1_334 dX1_isZero_12 hE (fun hE => mt_X4_pull hl hE) rfl (Nat.le_of_ble_eq_true rfl) ⟨⟨Nat.le_of_ble_eq_true rfl, Nat.le_of_ble_eq_true rfl⟩, Nat.le_of_ble_eq_true rfl, Nat.le_of_ble_eq_true rfl⟩ (zg_retD (fun v2 h2 hE => ?_)) (zg_xok ok tab fin ⟨Nat.le_of_ble_eq_true rfl, Nat.le_of_ble_eq_true rfl⟩)
  refine zg_cost (kc2 := 0) (ks2 := 0) ⟨rfl, rfl⟩ ?_
  refine zg_dstore (L' := [(4, .double v2), (2, .double v1), (0, va_rf a0), (1, .int a1)]) ok dX1_isZero_15 (by decide) rfl ?_
  refine zg_dload_n ok dX1_isZero_17 rfl 1 rfl ?_
  refine zg_dconst0 ok dX1_isZero_18 ?_
  refine zg_dcmp ok dX1_isZero_19 ?_
  refine zg_if_le (tgt := 30) ok dX1_isZero_20 (by decide) hE (fun hE => ?_) (fun hE => ?_)
  · refine zg_sub (L' := [(2, .double v1), (4, .double v2)]) [1, 0] rfl ?_
    exact gt_f_X1_isZero_J30 hl ok tab fin hRm  hE
  · refine zg_dload ok dX1_isZero_23 0 rfl ?_
    refine zg_dconst0 ok dX1_isZero_25 ?_
    refine zg_dcmp ok dX1_isZero_26 ?_
    refine zg_if_le (tgt := 43) ok dX1_isZero_27 (by decide) hE (fun hE => ?_) (fun hE => ?_)
    · refine zg_iconst (v := 1) ok dX1_isZero_43 (by decide) ?_
      refine zg_goto (tgt := 48) ok dX1_isZero_44 (by decide) ?_
      exact zg_zret ok fin dX1_isZero_48 ⟨Nat.le_of_ble_eq_true rfl, Nat.le_of_ble_eq_true rfl⟩ rfl hE
    · refine zg_sub (L' := [(2, .double v1), (4, .double v2)]) [1, 0] rfl ?_
      exact gt_f_X1_isZero_J30 hl ok tab fin hRm  hE
set_option maxHeartbeats 8000000 in
theorem gt_f_X1_nearestZero_J71 {Xc : zw_X} {Q : Int32 → zw_H → Prop} {X : String → Nat → zw_H → Prop} (hl : (zw_l Xc).stackTraces = false) (ok : zw_ok Xc cX1_nearestZero "MultipoleLine" yX1_nearestZero.name 4) (tab : zw_tab Xc []) (fin : zw_fin Xc (Option.some Jvm.ClassFile.FieldType.int) (zq_I Q) X 2 12) (hRm : zw_rm Xc = rm_X1_nearestZero) {kc ks : Nat} (hb : kc ≤ 2 ∧ ks ≤ 12) {R : Int32 → zw_H → Prop} {l1 : Int32} {l2 : Option Nat} (hR : ∀ (l3 : Int32) (h : zw_H), R l3 h → zw_G Xc kc ks 4 h 8 [(1, .int l1), (2, va_rf l2), (3, .int l3)] []) {k39 : Int32 → zw_H → Prop} (hk39 : ∀ (l3 : Int32) (h : zw_H), k39 l3 h → zw_G Xc kc ks 4 h 39 [(1, .int l1), (3, .int l3)] []) {k67 : Int32 → zw_H → Prop} (hk67 : ∀ (l3 : Int32) (h : zw_H), k67 l3 h → zw_G Xc kc ks 4 h 67 [(1, .int l1), (3, .int l3)] []) {k77 : zw_H → Prop} (hk77 : ∀  (h : zw_H), k77  h → zw_G Xc kc ks 4 h 77 [] [])  {l3 : Int32}  {h : zw_H} (hE : f_X1_nearestZero_J71 (zw_Zf Xc).2.2.2 Q X R k39 k67 k77 l1 l2 l3 h) : zw_G Xc kc ks 4 h 71 [(1, .int l1), (2, va_rf l2), (3, .int l3)] [] := by
  unfold f_X1_nearestZero_J71 at hE
  refine zg_iincLR (k := 2) (L' := fun v4 => [(3, .int v4), (1, .int l1), (2, va_rf l2)]) ok dX1_nearestZero_71 (by decide +kernel) hE rfl (by decide) rfl (k9 := 1) rfl (fun _ => rfl) (fun v4 hE => ?_)
  refine zg_goto (tgt := 8) ok dX1_nearestZero_74 (by decide) ?_
  refine zg_sub (L' := [(1, .int l1), (2, va_rf l2), (3, .int v4)]) [1, 2, 0] rfl ?_
  exact hR _ _ hE
set_option maxHeartbeats 8000000 in
theorem gt_f_X1_nearestZero_J43 {Xc : zw_X} {Q : Int32 → zw_H → Prop} {X : String → Nat → zw_H → Prop} (hl : (zw_l Xc).stackTraces = false) (ok : zw_ok Xc cX1_nearestZero "MultipoleLine" yX1_nearestZero.name 4) (tab : zw_tab Xc []) (fin : zw_fin Xc (Option.some Jvm.ClassFile.FieldType.int) (zq_I Q) X 2 12) (hRm : zw_rm Xc = rm_X1_nearestZero) {kc ks : Nat} (hb : kc ≤ 2 ∧ ks ≤ 12) {R : Int32 → zw_H → Prop} {l1 : Int32} {l2 : Option Nat} (hR : ∀ (l3 : Int32) (h : zw_H), R l3 h → zw_G Xc kc ks 4 h 8 [(1, .int l1), (2, va_rf l2), (3, .int l3)] []) {k39 : Int32 → zw_H → Prop} (hk39 : ∀ (l3 : Int32) (h : zw_H), k39 l3 h → zw_G Xc kc ks 4 h 39 [(1, .int l1), (3, .int l3)] []) {k67 : Int32 → zw_H → Prop} (hk67 : ∀ (l3 : Int32) (h : zw_H), k67 l3 h → zw_G Xc kc ks 4 h 67 [(1, .int l1), (3, .int l3)] []) {k77 : zw_H → Prop} (hk77 : ∀  (h : zw_H), k77  h → zw_G Xc kc ks 4 h 77 [] [])  {l3 : Int32}  {h : zw_H} (hE : f_X1_nearestZero_J43 (zw_Zf Xc).2.2.2 Q X R k39 k67 k77 l1 l2 l3 h) : zw_G Xc kc ks 4 h 43 [(1, .int l1), (2, va_rf l2), (3, .int l3)] [] := by
  unfold f_X1_nearestZero_J43 at hE
  refine zg_iload_n ok dX1_nearestZero_43 rfl 0 rfl ?_
  refine zg_iload_n ok dX1_nearestZero_44 rfl 2 rfl ?_
  refine zg_iadd ok dX1_nearestZero_45 ?_
  refine zg_i2l ok dX1_nearestZero_46 ?_
  refine zg_lconst (v := 0) ok dX1_nearestZero_47 (by decide) ?_
  refine zg_ldc2 (v := (254 : Int64)) ok q2079 dX1_nearestZero_48 ?_
  refine zg_callS (vs := [zJ ((l1 + l3).toInt64), zJ 0, zJ (254 : Int64)]) (rest := []) (rm := rm_X1_in) ok hRm lk_X1_58 dX1_nearestZero_51 hE (fun hE => mt_X1_in hl hE) rfl (Nat.le_of_ble_eq_true rfl) ⟨⟨Nat.le_of_ble_eq_true rfl, Nat.le_of_ble_eq_true rfl⟩, (by show kc + 0 ≤ 2; omega), (by show ks + 0 ≤ 12; omega)⟩ (zg_retI (fun v3 h3 hE => ?_)) (zg_xok ok tab fin ⟨(by show kc + 0 ≤ 2; omega), (by show ks + 0 ≤ 12; omega)⟩)
  refine zg_cost (kc2 := kc) (ks2 := ks) ⟨(by show kc + 0 = kc; omega), (by show ks + 0 = ks; omega)⟩ ?_
  refine zg_if_eq (tgt := 71) ok dX1_nearestZero_54 (by decide) hE (fun hE => ?_) (fun hE => ?_)
  · exact gt_f_X1_nearestZero_J71 hl ok tab fin hRm hb hR hk39 hk67 hk77 hE
  · refine zg_aload_n ok dX1_nearestZero_57 rfl 1 rfl ?_
    refine zg_iload_n ok dX1_nearestZero_58 rfl 0 rfl ?_
    refine zg_iload_n ok dX1_nearestZero_59 rfl 2 rfl ?_
    refine zg_iadd ok dX1_nearestZero_60 ?_
    refine zg_callS (vs := [zA l2, zI (l1 + l3)]) (rest := []) (rm := rm_X1_isZero) ok hRm lk_X1_376 dX1_nearestZero_61 hE (fun hE => mt_X1_isZero hl hE) rfl (Nat.le_of_ble_eq_true rfl) ⟨⟨Nat.le_of_ble_eq_true rfl, Nat.le_of_ble_eq_true rfl⟩, (by show kc + 0 ≤ 2; omega), (by show ks + 0 ≤ 12; omega)⟩ (zg_retI (fun v5 h4 hE => ?_)) (zg_xok ok tab fin ⟨(by show kc + 0 ≤ 2; omega), (by show ks + 0 ≤ 12; omega)⟩)
    refine zg_cost (kc2 := kc) (ks2 := ks) ⟨(by show kc + 0 = kc; omega), (by show ks + 0 = ks; omega)⟩ ?_
    refine zg_if_eq (tgt := 71) ok dX1_nearestZero_64 (by decide) hE (fun hE => ?_) (fun hE => ?_)
    · exact gt_f_X1_nearestZero_J71 hl ok tab fin hRm hb hR hk39 hk67 hk77 hE
    · refine zg_sub (L' := [(1, .int l1), (3, .int l3)]) [0, 2] rfl ?_
      exact hk67 _ _ hE
set_option maxHeartbeats 8000000 in
theorem gt_f_X1_nearestZero_B8 {Xc : zw_X} {Q : Int32 → zw_H → Prop} {X : String → Nat → zw_H → Prop} (hl : (zw_l Xc).stackTraces = false) (ok : zw_ok Xc cX1_nearestZero "MultipoleLine" yX1_nearestZero.name 4) (tab : zw_tab Xc []) (fin : zw_fin Xc (Option.some Jvm.ClassFile.FieldType.int) (zq_I Q) X 2 12) (hRm : zw_rm Xc = rm_X1_nearestZero) {kc ks : Nat} (hb : kc ≤ 2 ∧ ks ≤ 12) {R : Int32 → zw_H → Prop} {l1 : Int32} {l2 : Option Nat} (hR : ∀ (l3 : Int32) (h : zw_H), R l3 h → zw_G Xc kc ks 4 h 8 [(1, .int l1), (2, va_rf l2), (3, .int l3)] []) {k39 : Int32 → zw_H → Prop} (hk39 : ∀ (l3 : Int32) (h : zw_H), k39 l3 h → zw_G Xc kc ks 4 h 39 [(1, .int l1), (3, .int l3)] []) {k67 : Int32 → zw_H → Prop} (hk67 : ∀ (l3 : Int32) (h : zw_H), k67 l3 h → zw_G Xc kc ks 4 h 67 [(1, .int l1), (3, .int l3)] []) {k77 : zw_H → Prop} (hk77 : ∀  (h : zw_H), k77  h → zw_G Xc kc ks 4 h 77 [] [])  {l3 : Int32} {h : zw_H} (hE : f_X1_nearestZero_B8 (zw_Zf Xc).2.2.2 Q X k39 k67 k77 l1 l2 R l3 h) : zw_G Xc kc ks 4 h 8 [(1, .int l1), (2, va_rf l2), (3, .int l3)] [] := by
  unfold f_X1_nearestZero_B8 at hE
  refine zg_iload_n ok dX1_nearestZero_8 rfl 2 rfl ?_
  refine zg_sipush (v := 256) ok dX1_nearestZero_9 (by decide) ?_
  refine zg_icmp_ge (tgt := 77) ok dX1_nearestZero_12 (by decide) hE (fun hE => ?_) (fun hE => ?_)
  · refine zg_sub (L' := []) [] rfl ?_
    exact hk77 _ hE
  · refine zg_iload_n ok dX1_nearestZero_15 rfl 0 rfl ?_
    refine zg_iload_n ok dX1_nearestZero_16 rfl 2 rfl ?_
    refine zg_isub ok dX1_nearestZero_17 ?_
    refine zg_i2l ok dX1_nearestZero_18 ?_
    refine zg_lconst (v := 0) ok dX1_nearestZero_19 (by decide) ?_
    refine zg_ldc2 (v := (254 : Int64)) ok q2079 dX1_nearestZero_20 ?_
    refine zg_callS (vs := [zJ ((l1 - l3).toInt64), zJ 0, zJ (254 : Int64)]) (rest := []) (rm := rm_X1_in) ok hRm lk_X1_58 dX1_nearestZero_23 hE (fun hE => mt_X1_in hl hE) rfl (Nat.le_of_ble_eq_true rfl) ⟨⟨Nat.le_of_ble_eq_true rfl, Nat.le_of_ble_eq_true rfl⟩, (by show kc + 0 ≤ 2; omega), (by show ks + 0 ≤ 12; omega)⟩ (zg_retI (fun v2 h2 hE => ?_)) (zg_xok ok tab fin ⟨(by show kc + 0 ≤ 2; omega), (by show ks + 0 ≤ 12; omega)⟩)
    refine zg_cost (kc2 := kc) (ks2 := ks) ⟨(by show kc + 0 = kc; omega), (by show ks + 0 = ks; omega)⟩ ?_
    refine zg_if_eq (tgt := 43) ok dX1_nearestZero_26 (by decide) hE (fun hE => ?_) (fun hE => ?_)
    · exact gt_f_X1_nearestZero_J43 hl ok tab fin hRm hb hR hk39 hk67 hk77 hE
    · refine zg_aload_n ok dX1_nearestZero_29 rfl 1 rfl ?_
      refine zg_iload_n ok dX1_nearestZero_30 rfl 0 rfl ?_
      refine zg_iload_n ok dX1_nearestZero_31 rfl 2 rfl ?_
      refine zg_isub ok dX1_nearestZero_32 ?_
      refine zg_callS (vs := [zA l2, zI (l1 - l3)]) (rest := []) (rm := rm_X1_isZero) ok hRm lk_X1_376 dX1_nearestZero_33 hE (fun hE => mt_X1_isZero hl hE) rfl (Nat.le_of_ble_eq_true rfl) ⟨⟨Nat.le_of_ble_eq_true rfl, Nat.le_of_ble_eq_true rfl⟩, (by show kc + 0 ≤ 2; omega), (by show ks + 0 ≤ 12; omega)⟩ (zg_retI (fun v6 h5 hE => ?_)) (zg_xok ok tab fin ⟨(by show kc + 0 ≤ 2; omega), (by show ks + 0 ≤ 12; omega)⟩)
      refine zg_cost (kc2 := kc) (ks2 := ks) ⟨(by show kc + 0 = kc; omega), (by show ks + 0 = ks; omega)⟩ ?_
      refine zg_if_eq (tgt := 43) ok dX1_nearestZero_36 (by decide) hE (fun hE => ?_) (fun hE => ?_)
      · exact gt_f_X1_nearestZero_J43 hl ok tab fin hRm hb hR hk39 hk67 hk77 hE
      · refine zg_sub (L' := [(1, .int l1), (3, .int l3)]) [0, 2] rfl ?_
        exact hk39 _ _ hE
theorem gt_f_X1_nearestZero_L8 {Xc : zw_X} {Q : Int32 → zw_H → Prop} {X : String → Nat → zw_H → Prop} (hl : (zw_l Xc).stackTraces = false) (ok : zw_ok Xc cX1_nearestZero "MultipoleLine" yX1_nearestZero.name 4) (tab : zw_tab Xc []) (fin : zw_fin Xc (Option.some Jvm.ClassFile.FieldType.int) (zq_I Q) X 2 12) (hRm : zw_rm Xc = rm_X1_nearestZero) {kc ks : Nat} (hb : kc ≤ 2 ∧ ks ≤ 12) {l1 : Int32} {l2 : Option Nat} {k39 : Int32 → zw_H → Prop} (hk39 : ∀ (l3 : Int32) (h : zw_H), k39 l3 h → zw_G Xc kc ks 4 h 39 [(1, .int l1), (3, .int l3)] []) {k67 : Int32 → zw_H → Prop} (hk67 : ∀ (l3 : Int32) (h : zw_H), k67 l3 h → zw_G Xc kc ks 4 h 67 [(1, .int l1), (3, .int l3)] []) {k77 : zw_H → Prop} (hk77 : ∀  (h : zw_H), k77  h → zw_G Xc kc ks 4 h 77 [] [])  : ∀ (n9 : Nat) (l3 : Int32) (h : zw_H), zl2 (f_X1_nearestZero_B8 (zw_Zf Xc).2.2.2 Q X k39 k67 k77 l1 l2) n9 l3 h → zw_G Xc kc ks 4 h 8 [(1, .int l1), (2, va_rf l2), (3, .int l3)] [] := by
  intro n9
  induction n9 with
  | zero => intro l3 h hE; exact hE.elim
  | succ n9 ih => intro l3 h hE; exact gt_f_X1_nearestZero_B8 hl ok tab fin hRm hb ih hk39 hk67 hk77 hE
set_option maxHeartbeats 8000000 in
theorem mt_X1_nearestZero {l : Launch} (hl : l.stackTraces = false) {Z : zw_Z} {a0 : Option Nat} {a1 : Int32} {h : zw_H} {Q : Int32 → zw_H → Prop} {X : String → Nat → zw_H → Prop} (hE : f_X1_nearestZero Z.2.2.2 a0 a1 h Q X) : zw_Met l Z yX1_nearestZero (ws_ yX1_nearestZero cX1_nearestZero 4 (Option.some Jvm.ClassFile.FieldType.int)) rm_X1_nearestZero [zA a0, zI a1] h (zq_I Q) X := by
  refine zg_start (own := "MultipoleLine") (by decide +kernel) rfl (Nat.le_of_ble_eq_true rfl) hl (fun Xc ok tab fin hRm hXl hXZ => ?_)
  subst hXl
  subst hXZ
  unfold f_X1_nearestZero at hE
  refine zg_aload_n ok dX1_nearestZero_0 rfl 0 rfl ?_
  refine zg_iload_n ok dX1_nearestZero_1 rfl 1 rfl ?_
  refine zg_callV (vs := [zI a1]) (rest := []) (rm := rm_X1_at) ok hRm lk_X1_193 dX1_nearestZero_2 hE (fun hE => mt_X1_at hl hE) rfl (Nat.le_of_ble_eq_true rfl) ⟨⟨Nat.le_of_ble_eq_true rfl, Nat.le_of_ble_eq_true rfl⟩, Nat.le_of_ble_eq_true rfl, Nat.le_of_ble_eq_true rfl⟩ (zg_retA (fun v1 h1 hE => ?_)) (zg_xok ok tab fin ⟨Nat.le_of_ble_eq_true rfl, Nat.le_of_ble_eq_true rfl⟩)
  refine zg_cost (kc2 := 2) (ks2 := 12) ⟨rfl, rfl⟩ ?_
  refine zg_astore_n (L' := [(2, va_rf v1), (0, va_rf a0), (1, .int a1)]) ok dX1_nearestZero_5 rfl (by decide) rfl ?_
  refine zg_iconst (v := 0) ok dX1_nearestZero_6 (by decide) ?_
  refine zg_istore_nR (L' := [(3, .int 0), (2, va_rf v1), (0, va_rf a0), (1, .int a1)]) ok dX1_nearestZero_7 rfl (by decide) 0 rfl rfl rfl ?_
  refine zg_sub (L' := [(1, .int a1), (2, va_rf v1), (3, .int 0)]) [3, 1, 0] rfl ?_
  refine gt_f_X1_nearestZero_L8 hl ok tab fin hRm ⟨Nat.le_of_ble_eq_true rfl, Nat.le_of_ble_eq_true rfl⟩ ?_ ?_ ?_ _ _ _ hE
  · intro v7 h6 hE
    refine zg_iload_n ok dX1_nearestZero_39 rfl 0 rfl ?_
    refine zg_iload_n ok dX1_nearestZero_40 rfl 1 rfl ?_
    refine zg_isub ok dX1_nearestZero_41 ?_
    exact zg_iret ok fin dX1_nearestZero_42 ⟨Nat.le_of_ble_eq_true rfl, Nat.le_of_ble_eq_true rfl⟩ hE
  · intro v8 h7 hE
    refine zg_iload_n ok dX1_nearestZero_67 rfl 0 rfl ?_
    refine zg_iload_n ok dX1_nearestZero_68 rfl 1 rfl ?_
    refine zg_iadd ok dX1_nearestZero_69 ?_
    exact zg_iret ok fin dX1_nearestZero_70 ⟨Nat.le_of_ble_eq_true rfl, Nat.le_of_ble_eq_true rfl⟩ hE
  · intro h8 hE
    refine zg_iconst (v := (-1)) ok dX1_nearestZero_77 (by decide) ?_
    exact zg_iret ok fin dX1_nearestZero_78 ⟨Nat.le_of_ble_eq_true rfl, Nat.le_of_ble_eq_true rfl⟩ hE
set_option maxHeartbeats 8000000 in
theorem gt_f_X1_isPair_J52 {Xc : zw_X} {Q : Int32 → zw_H → Prop} {X : String → Nat → zw_H → Prop} (hl : (zw_l Xc).stackTraces = false) (ok : zw_ok Xc cX1_isPair "MultipoleLine" yX1_isPair.name 4) (tab : zw_tab Xc []) (fin : zw_fin Xc (Option.some Jvm.ClassFile.FieldType.boolean) (zq_I Q) X 0 0) (hRm : zw_rm Xc = rm_X1_isPair)   {s0 : Int32} {s1 : Int32} {h : zw_H} (hE : f_X1_isPair_J52 (zw_Zf Xc).2.2.2 Q X  s0 s1 h) : zw_G Xc 0 0 4 h 52 [] [.int s0, .int s1] := by
  unfold f_X1_isPair_J52 at hE
  refine zg_icmp_ne (tgt := 59) ok dX1_isPair_52 (by decide) hE (fun hE => ?_) (fun hE => ?_)
  · refine zg_iconst (v := 0) ok dX1_isPair_59 (by decide) ?_
    refine zg_goto (tgt := 134) ok dX1_isPair_60 (by decide) ?_
    exact zg_zret ok fin dX1_isPair_134 ⟨Nat.le_of_ble_eq_true rfl, Nat.le_of_ble_eq_true rfl⟩ rfl hE
  · refine zg_iconst (v := 1) ok dX1_isPair_55 (by decide) ?_
    refine zg_goto (tgt := 134) ok dX1_isPair_56 (by decide) ?_
    exact zg_zret ok fin dX1_isPair_134 ⟨Nat.le_of_ble_eq_true rfl, Nat.le_of_ble_eq_true rfl⟩ rfl hE
set_option maxHeartbeats 8000000 in
theorem gt_f_X1_isPair_J40 {Xc : zw_X} {Q : Int32 → zw_H → Prop} {X : String → Nat → zw_H → Prop} (hl : (zw_l Xc).stackTraces = false) (ok : zw_ok Xc cX1_isPair "MultipoleLine" yX1_isPair.name 4) (tab : zw_tab Xc []) (fin : zw_fin Xc (Option.some Jvm.ClassFile.FieldType.boolean) (zq_I Q) X 0 0) (hRm : zw_rm Xc = rm_X1_isPair)  {l2 : Option Nat} {s0 : Int32} {h : zw_H} (hE : f_X1_isPair_J40 (zw_Zf Xc).2.2.2 Q X  l2 s0 h) : zw_G Xc 0 0 4 h 40 [(2, va_rf l2)] [.int s0] := by
  unfold f_X1_isPair_J40 at hE
  refine zg_aload_n ok dX1_isPair_40 rfl 0 rfl ?_
  refine zg_getI ok lf_X1_177 dX1_isPair_41 hE (fun v2 hE => ?_)
  refine zg_if_ge (tgt := 51) ok dX1_isPair_44 (by decide) hE (fun hE => ?_) (fun hE => ?_)
  · refine zg_iconst (v := 0) ok dX1_isPair_51 (by decide) ?_
    refine zg_sub (L' := []) [] rfl ?_
    exact gt_f_X1_isPair_J52 hl ok tab fin hRm  hE
  · refine zg_iconst (v := 1) ok dX1_isPair_47 (by decide) ?_
    refine zg_goto (tgt := 52) ok dX1_isPair_48 (by decide) ?_
    refine zg_sub (L' := []) [] rfl ?_
    exact gt_f_X1_isPair_J52 hl ok tab fin hRm  hE
set_option maxHeartbeats 8000000 in
theorem gt_f_X1_isPair_J87 {Xc : zw_X} {Q : Int32 → zw_H → Prop} {X : String → Nat → zw_H → Prop} (hl : (zw_l Xc).stackTraces = false) (ok : zw_ok Xc cX1_isPair "MultipoleLine" yX1_isPair.name 4) (tab : zw_tab Xc []) (fin : zw_fin Xc (Option.some Jvm.ClassFile.FieldType.boolean) (zq_I Q) X 0 0) (hRm : zw_rm Xc = rm_X1_isPair)   {s0 : Int32} {s1 : Int32} {h : zw_H} (hE : f_X1_isPair_J87 (zw_Zf Xc).2.2.2 Q X  s0 s1 h) : zw_G Xc 0 0 4 h 87 [] [.int s0, .int s1] := by
  unfold f_X1_isPair_J87 at hE
  refine zg_icmp_eq (tgt := 94) ok dX1_isPair_87 (by decide) hE (fun hE => ?_) (fun hE => ?_)
  · refine zg_iconst (v := 0) ok dX1_isPair_94 (by decide) ?_
    refine zg_goto (tgt := 134) ok dX1_isPair_95 (by decide) ?_
    exact zg_zret ok fin dX1_isPair_134 ⟨Nat.le_of_ble_eq_true rfl, Nat.le_of_ble_eq_true rfl⟩ rfl hE
  · refine zg_iconst (v := 1) ok dX1_isPair_90 (by decide) ?_
    refine zg_goto (tgt := 134) ok dX1_isPair_91 (by decide) ?_
    exact zg_zret ok fin dX1_isPair_134 ⟨Nat.le_of_ble_eq_true rfl, Nat.le_of_ble_eq_true rfl⟩ rfl hE
set_option maxHeartbeats 8000000 in
theorem gt_f_X1_isPair_J75 {Xc : zw_X} {Q : Int32 → zw_H → Prop} {X : String → Nat → zw_H → Prop} (hl : (zw_l Xc).stackTraces = false) (ok : zw_ok Xc cX1_isPair "MultipoleLine" yX1_isPair.name 4) (tab : zw_tab Xc []) (fin : zw_fin Xc (Option.some Jvm.ClassFile.FieldType.boolean) (zq_I Q) X 0 0) (hRm : zw_rm Xc = rm_X1_isPair)  {l2 : Option Nat} {s0 : Int32} {h : zw_H} (hE : f_X1_isPair_J75 (zw_Zf Xc).2.2.2 Q X  l2 s0 h) : zw_G Xc 0 0 4 h 75 [(2, va_rf l2)] [.int s0] := by
  unfold f_X1_isPair_J75 at hE
  refine zg_aload_n ok dX1_isPair_75 rfl 0 rfl ?_
  refine zg_getI ok lf_X1_177 dX1_isPair_76 hE (fun v4 hE => ?_)
  refine zg_if_ge (tgt := 86) ok dX1_isPair_79 (by decide) hE (fun hE => ?_) (fun hE => ?_)
  · refine zg_iconst (v := 0) ok dX1_isPair_86 (by decide) ?_
    refine zg_sub (L' := []) [] rfl ?_
    exact gt_f_X1_isPair_J87 hl ok tab fin hRm  hE
  · refine zg_iconst (v := 1) ok dX1_isPair_82 (by decide) ?_
    refine zg_goto (tgt := 87) ok dX1_isPair_83 (by decide) ?_
    refine zg_sub (L' := []) [] rfl ?_
    exact gt_f_X1_isPair_J87 hl ok tab fin hRm  hE
set_option maxHeartbeats 8000000 in
theorem mt_X1_isPair {l : Launch} (hl : l.stackTraces = false) {Z : zw_Z} {a0 : Option Nat} {a1 : Option Nat} {a2 : Option Nat} {a3 : Int32} {h : zw_H} {Q : Int32 → zw_H → Prop} {X : String → Nat → zw_H → Prop} (hE : f_X1_isPair Z.2.2.2 a0 a1 a2 a3 h Q X) : zw_Met l Z yX1_isPair (ws_ yX1_isPair cX1_isPair 4 (Option.some Jvm.ClassFile.FieldType.boolean)) rm_X1_isPair [zA a0, zA a1, zA a2, zI a3] h (zq_I Q) X := by
  refine zg_start (own := "MultipoleLine") (by decide +kernel) rfl (Nat.le_of_ble_eq_true rfl) hl (fun Xc ok tab fin hRm hXl hXZ => ?_)
  subst hXl
  subst hXZ
  unfold f_X1_isPair at hE
  refine zg_iload_n ok dX1_isPair_0 rfl 3 rfl ?_
  by_cases c9 : a3 = 0
  · rw [if_pos c9] at hE
    refine zg_tabIn (tgt := 28) ok dX1_isPair_1 (by rw [c9] <;> decide) (by rw [c9] <;> decide) (by rw [c9]; rfl) (by decide) ?_
    refine zg_aload_n ok dX1_isPair_28 rfl 1 rfl ?_
    refine zg_getI ok lf_X1_177 dX1_isPair_29 hE (fun v1 hE => ?_)
    refine zg_if_ge (tgt := 39) ok dX1_isPair_32 (by decide) hE (fun hE => ?_) (fun hE => ?_)
    · refine zg_iconst (v := 0) ok dX1_isPair_39 (by decide) ?_
      refine zg_sub (L' := [(2, va_rf a2)]) [2] rfl ?_
      exact gt_f_X1_isPair_J40 hl ok tab fin hRm  hE
    · refine zg_iconst (v := 1) ok dX1_isPair_35 (by decide) ?_
      refine zg_goto (tgt := 40) ok dX1_isPair_36 (by decide) ?_
      refine zg_sub (L' := [(2, va_rf a2)]) [2] rfl ?_
      exact gt_f_X1_isPair_J40 hl ok tab fin hRm  hE
  rw [if_neg c9] at hE
  by_cases c9 : a3 = 1
  · rw [if_pos c9] at hE
    refine zg_tabIn (tgt := 63) ok dX1_isPair_1 (by rw [c9] <;> decide) (by rw [c9] <;> decide) (by rw [c9]; rfl) (by decide) ?_
    refine zg_aload_n ok dX1_isPair_63 rfl 1 rfl ?_
    refine zg_getI ok lf_X1_177 dX1_isPair_64 hE (fun v3 hE => ?_)
    refine zg_if_ge (tgt := 74) ok dX1_isPair_67 (by decide) hE (fun hE => ?_) (fun hE => ?_)
    · refine zg_iconst (v := 0) ok dX1_isPair_74 (by decide) ?_
      refine zg_sub (L' := [(2, va_rf a2)]) [2] rfl ?_
      exact gt_f_X1_isPair_J75 hl ok tab fin hRm  hE
    · refine zg_iconst (v := 1) ok dX1_isPair_70 (by decide) ?_
      refine zg_goto (tgt := 75) ok dX1_isPair_71 (by decide) ?_
      refine zg_sub (L' := [(2, va_rf a2)]) [2] rfl ?_
      exact gt_f_X1_isPair_J75 hl ok tab fin hRm  hE
  rw [if_neg c9] at hE
  by_cases c9 : a3 = 2
  · rw [if_pos c9] at hE
    refine zg_tabIn (tgt := 98) ok dX1_isPair_1 (by rw [c9] <;> decide) (by rw [c9] <;> decide) (by rw [c9]; rfl) (by decide) ?_
    refine zg_aload_n ok dX1_isPair_98 rfl 0 rfl ?_
    refine zg_aload_n ok dX1_isPair_99 rfl 1 rfl ?_
    refine zg_aload_n ok dX1_isPair_100 rfl 2 rfl ?_
    refine zg_getI ok lf_X1_139 dX1_isPair_101 hE (fun v5 hE => ?_)
    refine zg_callV (vs := [zA a1, zI v5]) (rest := []) (rm := rm_X4_isNear) ok hRm lk_X1_380 dX1_isPair_104 hE (fun hE => mt_X4_isNear hl hE) rfl (Nat.le_of_ble_eq_true rfl) ⟨⟨Nat.le_of_ble_eq_true rfl, Nat.le_of_ble_eq_true rfl⟩, Nat.le_of_ble_eq_true rfl, Nat.le_of_ble_eq_true rfl⟩ (zg_retI (fun v6 h1 hE => ?_)) (zg_xok ok tab fin ⟨Nat.le_of_ble_eq_true rfl, Nat.le_of_ble_eq_true rfl⟩)
    refine zg_cost (kc2 := 0) (ks2 := 0) ⟨rfl, rfl⟩ ?_
    refine zg_goto (tgt := 134) ok dX1_isPair_107 (by decide) ?_
    exact zg_zretE (ret := none) ok fin dX1_isPair_134 ⟨Nat.le_of_ble_eq_true rfl, Nat.le_of_ble_eq_true rfl⟩ hE
  rw [if_neg c9] at hE
  obtain ⟨hd9, hE⟩ := hE
  refine zg_tabOut (tgt := 110) ok dX1_isPair_1 hd9 (by decide) ?_
  refine zg_aload_n ok dX1_isPair_110 rfl 0 rfl ?_
  refine zg_aload_n ok dX1_isPair_111 rfl 1 rfl ?_
  refine zg_getI ok lf_X1_139 dX1_isPair_112 hE (fun v7 hE => ?_)
  refine zg_callV (vs := [zI v7]) (rest := []) (rm := rm_X4_leaf) ok hRm lk_X1_184 dX1_isPair_115 hE (fun hE => mt_X4_leaf hl hE) rfl (Nat.le_of_ble_eq_true rfl) ⟨⟨Nat.le_of_ble_eq_true rfl, Nat.le_of_ble_eq_true rfl⟩, Nat.le_of_ble_eq_true rfl, Nat.le_of_ble_eq_true rfl⟩ (zg_retA (fun v8 h2 hE => ?_)) (zg_xok ok tab fin ⟨Nat.le_of_ble_eq_true rfl, Nat.le_of_ble_eq_true rfl⟩)
  refine zg_cost (kc2 := 0) (ks2 := 0) ⟨rfl, rfl⟩ ?_
  refine zg_aload_n ok dX1_isPair_118 rfl 0 rfl ?_
  refine zg_aload_n ok dX1_isPair_119 rfl 2 rfl ?_
  refine zg_getI ok lf_X1_139 dX1_isPair_120 hE (fun v9 hE => ?_)
  refine zg_callV (vs := [zI v9]) (rest := [va_rf v8]) (rm := rm_X4_leaf) ok hRm lk_X1_184 dX1_isPair_123 hE (fun hE => mt_X4_leaf hl hE) rfl (Nat.le_of_ble_eq_true rfl) ⟨⟨Nat.le_of_ble_eq_true rfl, Nat.le_of_ble_eq_true rfl⟩, Nat.le_of_ble_eq_true rfl, Nat.le_of_ble_eq_true rfl⟩ (zg_retA (fun v10 h3 hE => ?_)) (zg_xok ok tab fin ⟨Nat.le_of_ble_eq_true rfl, Nat.le_of_ble_eq_true rfl⟩)
  refine zg_cost (kc2 := 0) (ks2 := 0) ⟨rfl, rfl⟩ ?_
  refine zg_acmp_ne (tgt := 133) ok dX1_isPair_126 (by decide) hE (fun hE => ?_) (fun hE => ?_)
  · refine zg_iconst (v := 0) ok dX1_isPair_133 (by decide) ?_
    exact zg_zret ok fin dX1_isPair_134 ⟨Nat.le_of_ble_eq_true rfl, Nat.le_of_ble_eq_true rfl⟩ rfl hE
  · refine zg_iconst (v := 1) ok dX1_isPair_129 (by decide) ?_
    refine zg_goto (tgt := 134) ok dX1_isPair_130 (by decide) ?_
    exact zg_zret ok fin dX1_isPair_134 ⟨Nat.le_of_ble_eq_true rfl, Nat.le_of_ble_eq_true rfl⟩ rfl hE
set_option maxHeartbeats 8000000 in
theorem gt_f_X1_pairs_J88 {Xc : zw_X} {Q : Int32 → zw_H → Prop} {X : String → Nat → zw_H → Prop} (hl : (zw_l Xc).stackTraces = false) (ok : zw_ok Xc cX1_pairs "MultipoleLine" yX1_pairs.name 8) (tab : zw_tab Xc []) (fin : zw_fin Xc (Option.some Jvm.ClassFile.FieldType.int) (zq_I Q) X 2 12) (hRm : zw_rm Xc = rm_X1_pairs) {kc ks : Nat} (hb : kc ≤ 2 ∧ ks ≤ 12) {R : Int32 → Int32 → zw_H → Prop} {l1 : Int32} {l2 : Option Nat} {l4 : Int32} (hR : ∀ (l3 : Int32) (l5 : Int32) (h : zw_H), R l3 l5 h → zw_G Xc kc ks 8 h 34 [(1, .int l1), (2, va_rf l2), (4, .int l4), (3, .int l3), (5, .int l5)] []) {k99 : Int32 → zw_H → Prop} (hk99 : ∀ (l3 : Int32) (h : zw_H), k99 l3 h → zw_G Xc kc ks 8 h 99 [(1, .int l1), (2, va_rf l2), (3, .int l3), (4, .int l4)] [])  {l5 : Int32} {s0 : Int32} {s1 : Int32} {h : zw_H} (hE : f_X1_pairs_J88 (zw_Zf Xc).2.2.2 Q X R k99 l1 l2 l4 l5 s0 s1 h) : zw_G Xc kc ks 8 h 88 [(1, .int l1), (2, va_rf l2), (4, .int l4), (5, .int l5)] [.int s0, .int s1] := by
  unfold f_X1_pairs_J88 at hE
  refine zg_callS (vs := [zI s0]) (rest := [.int s1]) (rm := rm_X1_flag) ok hRm lk_X1_180 dX1_pairs_88 hE (fun hE => mt_X1_flag hl hE) rfl (Nat.le_of_ble_eq_true rfl) ⟨⟨Nat.le_of_ble_eq_true rfl, Nat.le_of_ble_eq_true rfl⟩, (by show kc + 0 ≤ 2; omega), (by show ks + 0 ≤ 12; omega)⟩ (zg_retI (fun v8 h7 hE => ?_)) (zg_xok ok tab fin ⟨(by show kc + 0 ≤ 2; omega), (by show ks + 0 ≤ 12; omega)⟩)
  refine zg_cost (kc2 := kc) (ks2 := ks) ⟨(by show kc + 0 = kc; omega), (by show ks + 0 = ks; omega)⟩ ?_
  refine zg_iadd ok dX1_pairs_91 ?_
  refine zg_letI hE (fun v9 hE => ?_)
  refine zg_istore_nR (L' := [(3, .int v9), (1, .int l1), (2, va_rf l2), (4, .int l4), (5, .int l5)]) ok dX1_pairs_92 rfl (by decide) 1 rfl rfl rfl ?_
  refine zg_iincL (k := 4) (L' := fun v10 => [(5, .int v10), (3, .int v9), (1, .int l1), (2, va_rf l2), (4, .int l4)]) ok dX1_pairs_93 (by decide +kernel) hE rfl (by decide) (fun _ => rfl) (fun v10 hE => ?_)
  refine zg_goto (tgt := 34) ok dX1_pairs_96 (by decide) ?_
  refine zg_sub (L' := [(1, .int l1), (2, va_rf l2), (4, .int l4), (3, .int v9), (5, .int v10)]) [2, 3, 4, 1, 0] rfl ?_
  exact hR _ _ _ hE
set_option maxHeartbeats 8000000 in
theorem gt_f_X1_pairs_J87 {Xc : zw_X} {Q : Int32 → zw_H → Prop} {X : String → Nat → zw_H → Prop} (hl : (zw_l Xc).stackTraces = false) (ok : zw_ok Xc cX1_pairs "MultipoleLine" yX1_pairs.name 8) (tab : zw_tab Xc []) (fin : zw_fin Xc (Option.some Jvm.ClassFile.FieldType.int) (zq_I Q) X 2 12) (hRm : zw_rm Xc = rm_X1_pairs) {kc ks : Nat} (hb : kc ≤ 2 ∧ ks ≤ 12) {R : Int32 → Int32 → zw_H → Prop} {l1 : Int32} {l2 : Option Nat} {l4 : Int32} (hR : ∀ (l3 : Int32) (l5 : Int32) (h : zw_H), R l3 l5 h → zw_G Xc kc ks 8 h 34 [(1, .int l1), (2, va_rf l2), (4, .int l4), (3, .int l3), (5, .int l5)] []) {k99 : Int32 → zw_H → Prop} (hk99 : ∀ (l3 : Int32) (h : zw_H), k99 l3 h → zw_G Xc kc ks 8 h 99 [(1, .int l1), (2, va_rf l2), (3, .int l3), (4, .int l4)] [])  {l5 : Int32} {s0 : Int32} {h : zw_H} (hE : f_X1_pairs_J87 (zw_Zf Xc).2.2.2 Q X R k99 l1 l2 l4 l5 s0 h) : zw_G Xc kc ks 8 h 87 [(1, .int l1), (2, va_rf l2), (4, .int l4), (5, .int l5)] [.int s0] := by
  unfold f_X1_pairs_J87 at hE
  refine zg_iconst (v := 0) ok dX1_pairs_87 (by decide) ?_
  exact gt_f_X1_pairs_J88 hl ok tab fin hRm hb hR hk99 hE
set_option maxHeartbeats 8000000 in
theorem gt_f_X1_pairs_B34 {Xc : zw_X} {Q : Int32 → zw_H → Prop} {X : String → Nat → zw_H → Prop} (hl : (zw_l Xc).stackTraces = false) (ok : zw_ok Xc cX1_pairs "MultipoleLine" yX1_pairs.name 8) (tab : zw_tab Xc []) (fin : zw_fin Xc (Option.some Jvm.ClassFile.FieldType.int) (zq_I Q) X 2 12) (hRm : zw_rm Xc = rm_X1_pairs) {kc ks : Nat} (hb : kc ≤ 2 ∧ ks ≤ 12) {R : Int32 → Int32 → zw_H → Prop} {l1 : Int32} {l2 : Option Nat} {l4 : Int32} (hR : ∀ (l3 : Int32) (l5 : Int32) (h : zw_H), R l3 l5 h → zw_G Xc kc ks 8 h 34 [(1, .int l1), (2, va_rf l2), (4, .int l4), (3, .int l3), (5, .int l5)] []) {k99 : Int32 → zw_H → Prop} (hk99 : ∀ (l3 : Int32) (h : zw_H), k99 l3 h → zw_G Xc kc ks 8 h 99 [(1, .int l1), (2, va_rf l2), (3, .int l3), (4, .int l4)] [])  {l3 : Int32} {l5 : Int32} {h : zw_H} (hE : f_X1_pairs_B34 (zw_Zf Xc).2.2.2 Q X k99 l1 l2 l4 R l3 l5 h) : zw_G Xc kc ks 8 h 34 [(1, .int l1), (2, va_rf l2), (4, .int l4), (3, .int l3), (5, .int l5)] [] := by
  unfold f_X1_pairs_B34 at hE
  refine zg_iload ok dX1_pairs_34 4 rfl ?_
  refine zg_iload ok dX1_pairs_36 2 rfl ?_
  refine zg_icmp_ge (tgt := 99) ok dX1_pairs_38 (by decide) hE (fun hE => ?_) (fun hE => ?_)
  · refine zg_sub (L' := [(1, .int l1), (2, va_rf l2), (3, .int l3), (4, .int l4)]) [0, 1, 3, 2] rfl ?_
    exact hk99 _ _ hE
  · refine zg_aload_n ok dX1_pairs_41 rfl 1 rfl ?_
    refine zg_iload ok dX1_pairs_42 2 rfl ?_
    refine zg_callV (vs := [zI l4]) (rest := []) (rm := rm_X4_at) ok hRm lk_X1_88 dX1_pairs_44 hE (fun hE => mt_X4_at hl hE) rfl (Nat.le_of_ble_eq_true rfl) ⟨⟨Nat.le_of_ble_eq_true rfl, Nat.le_of_ble_eq_true rfl⟩, (by show kc + 0 ≤ 2; omega), (by show ks + 0 ≤ 12; omega)⟩ (zg_retA (fun v4 h5 hE => ?_)) (zg_xok ok tab fin ⟨(by show kc + 0 ≤ 2; omega), (by show ks + 0 ≤ 12; omega)⟩)
    refine zg_cost (kc2 := kc) (ks2 := ks) ⟨(by show kc + 0 = kc; omega), (by show ks + 0 = ks; omega)⟩ ?_
    refine zg_astore (L' := [(6, va_rf v4), (1, .int l1), (2, va_rf l2), (4, .int l4), (3, .int l3), (5, .int l5)]) ok dX1_pairs_47 (by decide) rfl ?_
    refine zg_aload_n ok dX1_pairs_49 rfl 2 rfl ?_
    refine zg_iload ok dX1_pairs_50 5 rfl ?_
    refine zg_callV (vs := [zI l5]) (rest := []) (rm := rm_X4_at) ok hRm lk_X1_88 dX1_pairs_52 hE (fun hE => mt_X4_at hl hE) rfl (Nat.le_of_ble_eq_true rfl) ⟨⟨Nat.le_of_ble_eq_true rfl, Nat.le_of_ble_eq_true rfl⟩, (by show kc + 0 ≤ 2; omega), (by show ks + 0 ≤ 12; omega)⟩ (zg_retA (fun v5 h6 hE => ?_)) (zg_xok ok tab fin ⟨(by show kc + 0 ≤ 2; omega), (by show ks + 0 ≤ 12; omega)⟩)
    refine zg_cost (kc2 := kc) (ks2 := ks) ⟨(by show kc + 0 = kc; omega), (by show ks + 0 = ks; omega)⟩ ?_
    refine zg_astoreR (L' := [(7, va_rf v5), (6, va_rf v4), (1, .int l1), (2, va_rf l2), (4, .int l4), (3, .int l3), (5, .int l5)]) ok dX1_pairs_55 (by decide) 0 rfl rfl rfl ?_
    refine zg_iload_n ok dX1_pairs_57 rfl 5 rfl ?_
    refine zg_aload ok dX1_pairs_58 1 rfl ?_
    refine zg_getI ok lf_X1_139 dX1_pairs_60 hE (fun v6 hE => ?_)
    refine zg_aload ok dX1_pairs_63 0 rfl ?_
    refine zg_getI ok lf_X1_139 dX1_pairs_65 hE (fun v7 hE => ?_)
    refine zg_icmp_eq (tgt := 87) ok dX1_pairs_68 (by decide) hE (fun hE => ?_) (fun hE => ?_)
    · refine zg_sub (L' := [(1, .int l1), (2, va_rf l2), (4, .int l4), (5, .int l5)]) [2, 3, 4, 6] rfl ?_
      exact gt_f_X1_pairs_J87 hl ok tab fin hRm hb hR hk99 hE
    · refine zg_aload_n ok dX1_pairs_71 rfl 3 rfl ?_
      refine zg_aload ok dX1_pairs_72 1 rfl ?_
      refine zg_aload ok dX1_pairs_74 0 rfl ?_
      refine zg_iload_n ok dX1_pairs_76 rfl 2 rfl ?_
      refine zg_callS (vs := [zA l2, zA v4, zA v5, zI l1]) (rest := [.int l3]) (rm := rm_X1_isPair) ok hRm lk_X1_386 dX1_pairs_77 hE (fun hE => mt_X1_isPair hl hE) rfl (Nat.le_of_ble_eq_true rfl) ⟨⟨Nat.le_of_ble_eq_true rfl, Nat.le_of_ble_eq_true rfl⟩, (by show kc + 0 ≤ 2; omega), (by show ks + 0 ≤ 12; omega)⟩ (zg_retI (fun v11 h8 hE => ?_)) (zg_xok ok tab fin ⟨(by show kc + 0 ≤ 2; omega), (by show ks + 0 ≤ 12; omega)⟩)
      refine zg_cost (kc2 := kc) (ks2 := ks) ⟨(by show kc + 0 = kc; omega), (by show ks + 0 = ks; omega)⟩ ?_
      refine zg_if_eq (tgt := 87) ok dX1_pairs_80 (by decide) hE (fun hE => ?_) (fun hE => ?_)
      · refine zg_sub (L' := [(1, .int l1), (2, va_rf l2), (4, .int l4), (5, .int l5)]) [2, 3, 4, 6] rfl ?_
        exact gt_f_X1_pairs_J87 hl ok tab fin hRm hb hR hk99 hE
      · refine zg_iconst (v := 1) ok dX1_pairs_83 (by decide) ?_
        refine zg_goto (tgt := 88) ok dX1_pairs_84 (by decide) ?_
        refine zg_sub (L' := [(1, .int l1), (2, va_rf l2), (4, .int l4), (5, .int l5)]) [2, 3, 4, 6] rfl ?_
        exact gt_f_X1_pairs_J88 hl ok tab fin hRm hb hR hk99 hE
theorem gt_f_X1_pairs_L34 {Xc : zw_X} {Q : Int32 → zw_H → Prop} {X : String → Nat → zw_H → Prop} (hl : (zw_l Xc).stackTraces = false) (ok : zw_ok Xc cX1_pairs "MultipoleLine" yX1_pairs.name 8) (tab : zw_tab Xc []) (fin : zw_fin Xc (Option.some Jvm.ClassFile.FieldType.int) (zq_I Q) X 2 12) (hRm : zw_rm Xc = rm_X1_pairs) {kc ks : Nat} (hb : kc ≤ 2 ∧ ks ≤ 12) {l1 : Int32} {l2 : Option Nat} {l4 : Int32} {k99 : Int32 → zw_H → Prop} (hk99 : ∀ (l3 : Int32) (h : zw_H), k99 l3 h → zw_G Xc kc ks 8 h 99 [(1, .int l1), (2, va_rf l2), (3, .int l3), (4, .int l4)] [])  : ∀ (n9 : Nat) (l3 : Int32) (l5 : Int32) (h : zw_H), zl3 (f_X1_pairs_B34 (zw_Zf Xc).2.2.2 Q X k99 l1 l2 l4) n9 l3 l5 h → zw_G Xc kc ks 8 h 34 [(1, .int l1), (2, va_rf l2), (4, .int l4), (3, .int l3), (5, .int l5)] [] := by
  intro n9
  induction n9 with
  | zero => intro l3 l5 h hE; exact hE.elim
  | succ n9 ih => intro l3 l5 h hE; exact gt_f_X1_pairs_B34 hl ok tab fin hRm hb ih hk99 hE
set_option maxHeartbeats 8000000 in
theorem gt_f_X1_pairs_B22 {Xc : zw_X} {Q : Int32 → zw_H → Prop} {X : String → Nat → zw_H → Prop} (hl : (zw_l Xc).stackTraces = false) (ok : zw_ok Xc cX1_pairs "MultipoleLine" yX1_pairs.name 8) (tab : zw_tab Xc []) (fin : zw_fin Xc (Option.some Jvm.ClassFile.FieldType.int) (zq_I Q) X 2 12) (hRm : zw_rm Xc = rm_X1_pairs) {kc ks : Nat} (hb : kc ≤ 2 ∧ ks ≤ 12) {R : Int32 → Int32 → zw_H → Prop} {l1 : Int32} {l2 : Option Nat} (hR : ∀ (l3 : Int32) (l4 : Int32) (h : zw_H), R l3 l4 h → zw_G Xc kc ks 8 h 22 [(1, .int l1), (2, va_rf l2), (3, .int l3), (4, .int l4)] []) {k105 : Int32 → zw_H → Prop} (hk105 : ∀ (l3 : Int32) (h : zw_H), k105 l3 h → zw_G Xc kc ks 8 h 105 [(3, .int l3)] [])  {l3 : Int32} {l4 : Int32} {h : zw_H} (hE : f_X1_pairs_B22 (zw_Zf Xc).2.2.2 Q X k105 l1 l2 R l3 l4 h) : zw_G Xc kc ks 8 h 22 [(1, .int l1), (2, va_rf l2), (3, .int l3), (4, .int l4)] [] := by
  unfold f_X1_pairs_B22 at hE
  refine zg_iload ok dX1_pairs_22 3 rfl ?_
  refine zg_aload_n ok dX1_pairs_24 rfl 1 rfl ?_
  refine zg_callV (vs := []) (rest := [.int l4]) (rm := rm_X4_size) ok hRm lk_X1_80 dX1_pairs_25 hE (fun hE => mt_X4_size hl hE) rfl (Nat.le_of_ble_eq_true rfl) ⟨⟨Nat.le_of_ble_eq_true rfl, Nat.le_of_ble_eq_true rfl⟩, (by show kc + 0 ≤ 2; omega), (by show ks + 0 ≤ 12; omega)⟩ (zg_retI (fun v3 h4 hE => ?_)) (zg_xok ok tab fin ⟨(by show kc + 0 ≤ 2; omega), (by show ks + 0 ≤ 12; omega)⟩)
  refine zg_cost (kc2 := kc) (ks2 := ks) ⟨(by show kc + 0 = kc; omega), (by show ks + 0 = ks; omega)⟩ ?_
  refine zg_icmp_ge (tgt := 105) ok dX1_pairs_28 (by decide) hE (fun hE => ?_) (fun hE => ?_)
  · refine zg_sub (L' := [(3, .int l3)]) [2] rfl ?_
    exact hk105 _ _ hE
  · refine zg_iconst (v := 0) ok dX1_pairs_31 (by decide) ?_
    refine zg_istore (L' := [(5, .int 0), (1, .int l1), (2, va_rf l2), (3, .int l3), (4, .int l4)]) ok dX1_pairs_32 (by decide) rfl ?_
    refine zg_sub (L' := [(1, .int l1), (2, va_rf l2), (4, .int l4), (3, .int l3), (5, .int 0)]) [1, 2, 4, 3, 0] rfl ?_
    refine gt_f_X1_pairs_L34 hl ok tab fin hRm ⟨(by omega), (by omega)⟩ ?_ _ _ _ _ hE
    · intro v12 h9 hE
      refine zg_iincL (k := 3) (L' := fun v13 => [(4, .int v13), (1, .int l1), (2, va_rf l2), (3, .int v12)]) ok dX1_pairs_99 (by decide +kernel) hE rfl (by decide) (fun _ => rfl) (fun v13 hE => ?_)
      refine zg_goto (tgt := 22) ok dX1_pairs_102 (by decide) ?_
      refine zg_sub (L' := [(1, .int l1), (2, va_rf l2), (3, .int v12), (4, .int v13)]) [1, 2, 3, 0] rfl ?_
      exact hR _ _ _ hE
theorem gt_f_X1_pairs_L22 {Xc : zw_X} {Q : Int32 → zw_H → Prop} {X : String → Nat → zw_H → Prop} (hl : (zw_l Xc).stackTraces = false) (ok : zw_ok Xc cX1_pairs "MultipoleLine" yX1_pairs.name 8) (tab : zw_tab Xc []) (fin : zw_fin Xc (Option.some Jvm.ClassFile.FieldType.int) (zq_I Q) X 2 12) (hRm : zw_rm Xc = rm_X1_pairs) {kc ks : Nat} (hb : kc ≤ 2 ∧ ks ≤ 12) {l1 : Int32} {l2 : Option Nat} {k105 : Int32 → zw_H → Prop} (hk105 : ∀ (l3 : Int32) (h : zw_H), k105 l3 h → zw_G Xc kc ks 8 h 105 [(3, .int l3)] [])  : ∀ (n9 : Nat) (l3 : Int32) (l4 : Int32) (h : zw_H), zl3 (f_X1_pairs_B22 (zw_Zf Xc).2.2.2 Q X k105 l1 l2) n9 l3 l4 h → zw_G Xc kc ks 8 h 22 [(1, .int l1), (2, va_rf l2), (3, .int l3), (4, .int l4)] [] := by
  intro n9
  induction n9 with
  | zero => intro l3 l4 h hE; exact hE.elim
  | succ n9 ih => intro l3 l4 h hE; exact gt_f_X1_pairs_B22 hl ok tab fin hRm hb ih hk105 hE
set_option maxHeartbeats 8000000 in
theorem mt_X1_pairs {l : Launch} (hl : l.stackTraces = false) {Z : zw_Z} {a0 : Option Nat} {a1 : Int32} {h : zw_H} {Q : Int32 → zw_H → Prop} {X : String → Nat → zw_H → Prop} (hE : f_X1_pairs Z.2.2.2 a0 a1 h Q X) : zw_Met l Z yX1_pairs (ws_ yX1_pairs cX1_pairs 8 (Option.some Jvm.ClassFile.FieldType.int)) rm_X1_pairs [zA a0, zI a1] h (zq_I Q) X := by
  refine zg_start (own := "MultipoleLine") (by decide +kernel) rfl (Nat.le_of_ble_eq_true rfl) hl (fun Xc ok tab fin hRm hXl hXZ => ?_)
  subst hXl
  subst hXZ
  unfold f_X1_pairs at hE
  refine zg_aload_n ok dX1_pairs_0 rfl 0 rfl ?_
  refine zg_callV (vs := []) (rest := []) (rm := rm_X1_loaded) ok hRm lk_X1_76 dX1_pairs_1 hE (fun hE => mt_X1_loaded hl hE) rfl (Nat.le_of_ble_eq_true rfl) ⟨⟨Nat.le_of_ble_eq_true rfl, Nat.le_of_ble_eq_true rfl⟩, Nat.le_of_ble_eq_true rfl, Nat.le_of_ble_eq_true rfl⟩ (zg_retA (fun v1 h1 hE => ?_)) (zg_xok ok tab fin ⟨Nat.le_of_ble_eq_true rfl, Nat.le_of_ble_eq_true rfl⟩)
  refine zg_cost (kc2 := 1) (ks2 := 6) ⟨rfl, rfl⟩ ?_
  refine zg_astore_n (L' := [(2, va_rf v1), (0, va_rf a0), (1, .int a1)]) ok dX1_pairs_4 rfl (by decide) rfl ?_
  refine zg_iload_n ok dX1_pairs_5 rfl 2 rfl ?_
  refine zg_i2l ok dX1_pairs_6 ?_
  refine zg_lconst (v := 0) ok dX1_pairs_7 (by decide) ?_
  refine zg_ldc2 (v := (3 : Int64)) ok q2090 dX1_pairs_8 ?_
  refine zg_callS (vs := [zJ a1.toInt64, zJ 0, zJ (3 : Int64)]) (rest := []) (rm := rm_X1_in) ok hRm lk_X1_58 dX1_pairs_11 hE (fun hE => mt_X1_in hl hE) rfl (Nat.le_of_ble_eq_true rfl) ⟨⟨Nat.le_of_ble_eq_true rfl, Nat.le_of_ble_eq_true rfl⟩, Nat.le_of_ble_eq_true rfl, Nat.le_of_ble_eq_true rfl⟩ (zg_retI (fun v2 h2 hE => ?_)) (zg_xok ok tab fin ⟨Nat.le_of_ble_eq_true rfl, Nat.le_of_ble_eq_true rfl⟩)
  refine zg_cost (kc2 := 1) (ks2 := 6) ⟨rfl, rfl⟩ ?_
  refine zg_callS (vs := [zI v2]) (rest := []) (rm := rm_X1_checkArgument) ok hRm lk_X1_98 dX1_pairs_14 hE (fun hE => mt_X1_checkArgument hl hE) rfl (Nat.le_of_ble_eq_true rfl) ⟨⟨Nat.le_of_ble_eq_true rfl, Nat.le_of_ble_eq_true rfl⟩, Nat.le_of_ble_eq_true rfl, Nat.le_of_ble_eq_true rfl⟩ (zg_retV (fun h3 hE => ?_)) (zg_xok ok tab fin ⟨Nat.le_of_ble_eq_true rfl, Nat.le_of_ble_eq_true rfl⟩)
  refine zg_cost (kc2 := 2) (ks2 := 12) ⟨rfl, rfl⟩ ?_
  refine zg_iconst (v := 0) ok dX1_pairs_17 (by decide) ?_
  refine zg_istore_nR (L' := [(3, .int 0), (2, va_rf v1), (0, va_rf a0), (1, .int a1)]) ok dX1_pairs_18 rfl (by decide) 0 rfl rfl rfl ?_
  refine zg_iconst (v := 0) ok dX1_pairs_19 (by decide) ?_
  refine zg_istore (L' := [(4, .int 0), (3, .int 0), (2, va_rf v1), (0, va_rf a0), (1, .int a1)]) ok dX1_pairs_20 (by decide) rfl ?_
  refine zg_sub (L' := [(1, .int a1), (2, va_rf v1), (3, .int 0), (4, .int 0)]) [4, 2, 1, 0] rfl ?_
  refine gt_f_X1_pairs_L22 hl ok tab fin hRm ⟨Nat.le_of_ble_eq_true rfl, Nat.le_of_ble_eq_true rfl⟩ ?_ _ _ _ _ hE
  · intro v14 h10 hE
    refine zg_iload_n ok dX1_pairs_105 rfl 0 rfl ?_
    exact zg_iret ok fin dX1_pairs_106 ⟨Nat.le_of_ble_eq_true rfl, Nat.le_of_ble_eq_true rfl⟩ hE
set_option maxHeartbeats 8000000 in
theorem mt_X1_balance {l : Launch} (hl : l.stackTraces = false) {Z : zw_Z} {a0 : Option Nat} {h : zw_H} {Q : UInt32 → zw_H → Prop} {X : String → Nat → zw_H → Prop} (hE : f_X1_balance Z.2.2.2 a0 h Q X) : zw_Met l Z yX1_balance (ws_ yX1_balance cX1_balance 2 (Option.some Jvm.ClassFile.FieldType.float)) rm_X1_balance [zA a0] h (zq_F Q) X := by
  refine zg_start (own := "MultipoleLine") (by decide +kernel) rfl (Nat.le_of_ble_eq_true rfl) hl (fun Xc ok tab fin hRm hXl hXZ => ?_)
  subst hXl
  subst hXZ
  unfold f_X1_balance at hE
  refine zg_aload_n ok dX1_balance_0 rfl 0 rfl ?_
  refine zg_callV (vs := []) (rest := []) (rm := rm_X1_loaded) ok hRm lk_X1_76 dX1_balance_1 hE (fun hE => mt_X1_loaded hl hE) rfl (Nat.le_of_ble_eq_true rfl) ⟨⟨Nat.le_of_ble_eq_true rfl, Nat.le_of_ble_eq_true rfl⟩, Nat.le_of_ble_eq_true rfl, Nat.le_of_ble_eq_true rfl⟩ (zg_retA (fun v1 h1 hE => ?_)) (zg_xok ok tab fin ⟨Nat.le_of_ble_eq_true rfl, Nat.le_of_ble_eq_true rfl⟩)
  refine zg_cost (kc2 := 1) (ks2 := 6) ⟨rfl, rfl⟩ ?_
  refine zg_astore_nR (L' := [(1, va_rf v1), (0, va_rf a0)]) ok dX1_balance_4 rfl (by decide) 0 rfl rfl rfl ?_
  refine zg_aload_n ok dX1_balance_5 rfl 0 rfl ?_
  refine zg_callV (vs := []) (rest := []) (rm := rm_X4_size) ok hRm lk_X1_80 dX1_balance_6 hE (fun hE => mt_X4_size hl hE) rfl (Nat.le_of_ble_eq_true rfl) ⟨⟨Nat.le_of_ble_eq_true rfl, Nat.le_of_ble_eq_true rfl⟩, Nat.le_of_ble_eq_true rfl, Nat.le_of_ble_eq_true rfl⟩ (zg_retI (fun v2 h2 hE => ?_)) (zg_xok ok tab fin ⟨Nat.le_of_ble_eq_true rfl, Nat.le_of_ble_eq_true rfl⟩)
  refine zg_cost (kc2 := 1) (ks2 := 6) ⟨rfl, rfl⟩ ?_
  refine zg_if_ne (tgt := 16) ok dX1_balance_9 (by decide) hE (fun hE => ?_) (fun hE => ?_)
  · refine zg_aload_n ok dX1_balance_16 rfl 0 rfl ?_
    refine zg_callV (vs := []) (rest := []) (rm := rm_X4_charges) ok hRm lk_X1_152 dX1_balance_17 hE (fun hE => mt_X4_charges hl hE) rfl (Nat.le_of_ble_eq_true rfl) ⟨⟨Nat.le_of_ble_eq_true rfl, Nat.le_of_ble_eq_true rfl⟩, Nat.le_of_ble_eq_true rfl, Nat.le_of_ble_eq_true rfl⟩ (zg_retI (fun v3 h3 hE => ?_)) (zg_xok ok tab fin ⟨Nat.le_of_ble_eq_true rfl, Nat.le_of_ble_eq_true rfl⟩)
    refine zg_cost (kc2 := 1) (ks2 := 6) ⟨rfl, rfl⟩ ?_
    refine zg_i2f ok dX1_balance_20 ?_
    refine zg_aload_n ok dX1_balance_21 rfl 0 rfl ?_
    refine zg_callV (vs := []) (rest := [.float (FP.i2f v3)]) (rm := rm_X4_weights) ok hRm lk_X1_155 dX1_balance_22 hE (fun hE => mt_X4_weights hl hE) rfl (Nat.le_of_ble_eq_true rfl) ⟨⟨Nat.le_of_ble_eq_true rfl, Nat.le_of_ble_eq_true rfl⟩, Nat.le_of_ble_eq_true rfl, Nat.le_of_ble_eq_true rfl⟩ (zg_retI (fun v4 h4 hE => ?_)) (zg_xok ok tab fin ⟨Nat.le_of_ble_eq_true rfl, Nat.le_of_ble_eq_true rfl⟩)
    refine zg_cost (kc2 := 1) (ks2 := 6) ⟨rfl, rfl⟩ ?_
    refine zg_i2f ok dX1_balance_25 ?_
    refine zg_fdivE ok dX1_balance_26 hE (fun hE => ?_)
    refine zg_letF hE (fun v5 hE => ?_)
    exact zg_fret ok fin dX1_balance_27 ⟨Nat.le_of_ble_eq_true rfl, Nat.le_of_ble_eq_true rfl⟩ hE
  · refine zg_fconst0 ok dX1_balance_12 ?_
    refine zg_goto (tgt := 27) ok dX1_balance_13 (by decide) ?_
    exact zg_fret ok fin dX1_balance_27 ⟨Nat.le_of_ble_eq_true rfl, Nat.le_of_ble_eq_true rfl⟩ hE
set_option maxHeartbeats 8000000 in
theorem mt_X1_balanceBits {l : Launch} (hl : l.stackTraces = false) {Z : zw_Z} {a0 : Option Nat} {h : zw_H} {Q : Int32 → zw_H → Prop} {X : String → Nat → zw_H → Prop} (hE : f_X1_balanceBits Z.2.2.2 a0 h Q X) : zw_Met l Z yX1_balanceBits (ws_ yX1_balanceBits cX1_balanceBits 1 (Option.some Jvm.ClassFile.FieldType.int)) rm_X1_balanceBits [zA a0] h (zq_I Q) X := by
  refine zg_start (own := "MultipoleLine") (by decide +kernel) rfl (Nat.le_of_ble_eq_true rfl) hl (fun Xc ok tab fin hRm hXl hXZ => ?_)
  subst hXl
  subst hXZ
  unfold f_X1_balanceBits at hE
  refine zg_aload_n ok dX1_balanceBits_0 rfl 0 rfl ?_
  refine zg_callV (vs := []) (rest := []) (rm := rm_X1_balance) ok hRm lk_X1_390 dX1_balanceBits_1 hE (fun hE => mt_X1_balance hl hE) rfl (Nat.le_of_ble_eq_true rfl) ⟨⟨Nat.le_of_ble_eq_true rfl, Nat.le_of_ble_eq_true rfl⟩, Nat.le_of_ble_eq_true rfl, Nat.le_of_ble_eq_true rfl⟩ (zg_retF (fun v1 h1 hE => ?_)) (zg_xok ok tab fin ⟨Nat.le_of_ble_eq_true rfl, Nat.le_of_ble_eq_true rfl⟩)
  refine zg_cost (kc2 := 1) (ks2 := 6) ⟨rfl, rfl⟩ ?_
  refine zg_callS (vs := [zF v1]) (rest := []) (rm := rm_J35_floatToIntBits) ok hRm lk_X1_394 dX1_balanceBits_4 hE (fun hE => mt_J35_floatToIntBits hl hE) rfl (Nat.le_of_ble_eq_true rfl) ⟨⟨Nat.le_of_ble_eq_true rfl, Nat.le_of_ble_eq_true rfl⟩, Nat.le_of_ble_eq_true rfl, Nat.le_of_ble_eq_true rfl⟩ (zg_retI (fun v2 h2 hE => ?_)) (zg_xok ok tab fin ⟨Nat.le_of_ble_eq_true rfl, Nat.le_of_ble_eq_true rfl⟩)
  refine zg_cost (kc2 := 1) (ks2 := 6) ⟨rfl, rfl⟩ ?_
  exact zg_iret ok fin dX1_balanceBits_7 ⟨Nat.le_of_ble_eq_true rfl, Nat.le_of_ble_eq_true rfl⟩ hE
set_option maxHeartbeats 8000000 in
theorem gt_f_X1_meanX_B9 {Xc : zw_X} {Q : UInt64 → zw_H → Prop} {X : String → Nat → zw_H → Prop} (hl : (zw_l Xc).stackTraces = false) (ok : zw_ok Xc cX1_meanX "MultipoleLine" yX1_meanX.name 4) (tab : zw_tab Xc []) (fin : zw_fin Xc (Option.some Jvm.ClassFile.FieldType.double) (zq_D Q) X 1 6) (hRm : zw_rm Xc = rm_X1_meanX) {kc ks : Nat} (hb : kc ≤ 1 ∧ ks ≤ 6) {R : Int32 → Int32 → zw_H → Prop} {l1 : Option Nat} (hR : ∀ (l2 : Int32) (l3 : Int32) (h : zw_H), R l2 l3 h → zw_G Xc kc ks 4 h 9 [(1, va_rf l1), (2, .int l2), (3, .int l3)] []) {k34 : Int32 → zw_H → Prop} (hk34 : ∀ (l2 : Int32) (h : zw_H), k34 l2 h → zw_G Xc kc ks 4 h 34 [(1, va_rf l1), (2, .int l2)] [])  {l2 : Int32} {l3 : Int32} {h : zw_H} (hE : f_X1_meanX_B9 (zw_Zf Xc).2.2.2 Q X k34 l1 R l2 l3 h) : zw_G Xc kc ks 4 h 9 [(1, va_rf l1), (2, .int l2), (3, .int l3)] [] := by
  unfold f_X1_meanX_B9 at hE
  refine zg_iload_n ok dX1_meanX_9 rfl 2 rfl ?_
  refine zg_aload_n ok dX1_meanX_10 rfl 0 rfl ?_
  refine zg_callV (vs := []) (rest := [.int l3]) (rm := rm_X4_size) ok hRm lk_X1_80 dX1_meanX_11 hE (fun hE => mt_X4_size hl hE) rfl (Nat.le_of_ble_eq_true rfl) ⟨⟨Nat.le_of_ble_eq_true rfl, Nat.le_of_ble_eq_true rfl⟩, (by show kc + 0 ≤ 1; omega), (by show ks + 0 ≤ 6; omega)⟩ (zg_retI (fun v2 h2 hE => ?_)) (zg_xok ok tab fin ⟨(by show kc + 0 ≤ 1; omega), (by show ks + 0 ≤ 6; omega)⟩)
  refine zg_cost (kc2 := kc) (ks2 := ks) ⟨(by show kc + 0 = kc; omega), (by show ks + 0 = ks; omega)⟩ ?_
  refine zg_icmp_ge (tgt := 34) ok dX1_meanX_14 (by decide) hE (fun hE => ?_) (fun hE => ?_)
  · refine zg_sub (L' := [(1, va_rf l1), (2, .int l2)]) [0, 1] rfl ?_
    exact hk34 _ _ hE
  · refine zg_iload_n ok dX1_meanX_17 rfl 1 rfl ?_
    refine zg_aload_n ok dX1_meanX_18 rfl 0 rfl ?_
    refine zg_iload_n ok dX1_meanX_19 rfl 2 rfl ?_
    refine zg_callV (vs := [zI l3]) (rest := [.int l2]) (rm := rm_X4_at) ok hRm lk_X1_88 dX1_meanX_20 hE (fun hE => mt_X4_at hl hE) rfl (Nat.le_of_ble_eq_true rfl) ⟨⟨Nat.le_of_ble_eq_true rfl, Nat.le_of_ble_eq_true rfl⟩, (by show kc + 0 ≤ 1; omega), (by show ks + 0 ≤ 6; omega)⟩ (zg_retA (fun v3 h3 hE => ?_)) (zg_xok ok tab fin ⟨(by show kc + 0 ≤ 1; omega), (by show ks + 0 ≤ 6; omega)⟩)
    refine zg_cost (kc2 := kc) (ks2 := ks) ⟨(by show kc + 0 = kc; omega), (by show ks + 0 = ks; omega)⟩ ?_
    refine zg_getI ok lf_X1_139 dX1_meanX_23 hE (fun v4 hE => ?_)
    refine zg_iadd ok dX1_meanX_26 ?_
    refine zg_letI hE (fun v5 hE => ?_)
    refine zg_istore_nR (L' := [(2, .int v5), (1, va_rf l1), (3, .int l3)]) ok dX1_meanX_27 rfl (by decide) 0 rfl rfl rfl ?_
    refine zg_iincL (k := 2) (L' := fun v6 => [(3, .int v6), (2, .int v5), (1, va_rf l1)]) ok dX1_meanX_28 (by decide +kernel) hE rfl (by decide) (fun _ => rfl) (fun v6 hE => ?_)
    refine zg_goto (tgt := 9) ok dX1_meanX_31 (by decide) ?_
    refine zg_sub (L' := [(1, va_rf l1), (2, .int v5), (3, .int v6)]) [2, 1, 0] rfl ?_
    exact hR _ _ _ hE
theorem gt_f_X1_meanX_L9 {Xc : zw_X} {Q : UInt64 → zw_H → Prop} {X : String → Nat → zw_H → Prop} (hl : (zw_l Xc).stackTraces = false) (ok : zw_ok Xc cX1_meanX "MultipoleLine" yX1_meanX.name 4) (tab : zw_tab Xc []) (fin : zw_fin Xc (Option.some Jvm.ClassFile.FieldType.double) (zq_D Q) X 1 6) (hRm : zw_rm Xc = rm_X1_meanX) {kc ks : Nat} (hb : kc ≤ 1 ∧ ks ≤ 6) {l1 : Option Nat} {k34 : Int32 → zw_H → Prop} (hk34 : ∀ (l2 : Int32) (h : zw_H), k34 l2 h → zw_G Xc kc ks 4 h 34 [(1, va_rf l1), (2, .int l2)] [])  : ∀ (n9 : Nat) (l2 : Int32) (l3 : Int32) (h : zw_H), zl3 (f_X1_meanX_B9 (zw_Zf Xc).2.2.2 Q X k34 l1) n9 l2 l3 h → zw_G Xc kc ks 4 h 9 [(1, va_rf l1), (2, .int l2), (3, .int l3)] [] := by
  intro n9
  induction n9 with
  | zero => intro l2 l3 h hE; exact hE.elim
  | succ n9 ih => intro l2 l3 h hE; exact gt_f_X1_meanX_B9 hl ok tab fin hRm hb ih hk34 hE
set_option maxHeartbeats 8000000 in
theorem mt_X1_meanX {l : Launch} (hl : l.stackTraces = false) {Z : zw_Z} {a0 : Option Nat} {h : zw_H} {Q : UInt64 → zw_H → Prop} {X : String → Nat → zw_H → Prop} (hE : f_X1_meanX Z.2.2.2 a0 h Q X) : zw_Met l Z yX1_meanX (ws_ yX1_meanX cX1_meanX 4 (Option.some Jvm.ClassFile.FieldType.double)) rm_X1_meanX [zA a0] h (zq_D Q) X := by
  refine zg_start (own := "MultipoleLine") (by decide +kernel) rfl (Nat.le_of_ble_eq_true rfl) hl (fun Xc ok tab fin hRm hXl hXZ => ?_)
  subst hXl
  subst hXZ
  unfold f_X1_meanX at hE
  refine zg_aload_n ok dX1_meanX_0 rfl 0 rfl ?_
  refine zg_callV (vs := []) (rest := []) (rm := rm_X1_loaded) ok hRm lk_X1_76 dX1_meanX_1 hE (fun hE => mt_X1_loaded hl hE) rfl (Nat.le_of_ble_eq_true rfl) ⟨⟨Nat.le_of_ble_eq_true rfl, Nat.le_of_ble_eq_true rfl⟩, Nat.le_of_ble_eq_true rfl, Nat.le_of_ble_eq_true rfl⟩ (zg_retA (fun v1 h1 hE => ?_)) (zg_xok ok tab fin ⟨Nat.le_of_ble_eq_true rfl, Nat.le_of_ble_eq_true rfl⟩)
  refine zg_cost (kc2 := 1) (ks2 := 6) ⟨rfl, rfl⟩ ?_
  refine zg_astore_nR (L' := [(1, va_rf v1), (0, va_rf a0)]) ok dX1_meanX_4 rfl (by decide) 0 rfl rfl rfl ?_
  refine zg_iconst (v := 0) ok dX1_meanX_5 (by decide) ?_
  refine zg_istore_nR (L' := [(2, .int 0), (1, va_rf v1), (0, va_rf a0)]) ok dX1_meanX_6 rfl (by decide) 0 rfl rfl rfl ?_
  refine zg_iconst (v := 0) ok dX1_meanX_7 (by decide) ?_
  refine zg_istore_n (L' := [(3, .int 0), (2, .int 0), (1, va_rf v1), (0, va_rf a0)]) ok dX1_meanX_8 rfl (by decide) rfl ?_
  refine zg_sub (L' := [(1, va_rf v1), (2, .int 0), (3, .int 0)]) [2, 1, 0] rfl ?_
  refine gt_f_X1_meanX_L9 hl ok tab fin hRm ⟨Nat.le_of_ble_eq_true rfl, Nat.le_of_ble_eq_true rfl⟩ ?_ _ _ _ _ hE
  · intro v7 h4 hE
    refine zg_aload_n ok dX1_meanX_34 rfl 0 rfl ?_
    refine zg_callV (vs := []) (rest := []) (rm := rm_X4_size) ok hRm lk_X1_80 dX1_meanX_35 hE (fun hE => mt_X4_size hl hE) rfl (Nat.le_of_ble_eq_true rfl) ⟨⟨Nat.le_of_ble_eq_true rfl, Nat.le_of_ble_eq_true rfl⟩, Nat.le_of_ble_eq_true rfl, Nat.le_of_ble_eq_true rfl⟩ (zg_retI (fun v8 h5 hE => ?_)) (zg_xok ok tab fin ⟨Nat.le_of_ble_eq_true rfl, Nat.le_of_ble_eq_true rfl⟩)
    refine zg_cost (kc2 := 1) (ks2 := 6) ⟨rfl, rfl⟩ ?_
    refine zg_if_ne (tgt := 45) ok dX1_meanX_38 (by decide) hE (fun hE => ?_) (fun hE => ?_)
    · refine zg_iload_n ok dX1_meanX_45 rfl 1 rfl ?_
      refine zg_i2d ok dX1_meanX_46 ?_
      refine zg_aload_n ok dX1_meanX_47 rfl 0 rfl ?_
      refine zg_callV (vs := []) (rest := [.double (FP.i2d v7)]) (rm := rm_X4_size) ok hRm lk_X1_80 dX1_meanX_48 hE (fun hE => mt_X4_size hl hE) rfl (Nat.le_of_ble_eq_true rfl) ⟨⟨Nat.le_of_ble_eq_true rfl, Nat.le_of_ble_eq_true rfl⟩, Nat.le_of_ble_eq_true rfl, Nat.le_of_ble_eq_true rfl⟩ (zg_retI (fun v9 h6 hE => ?_)) (zg_xok ok tab fin ⟨Nat.le_of_ble_eq_true rfl, Nat.le_of_ble_eq_true rfl⟩)
      refine zg_cost (kc2 := 1) (ks2 := 6) ⟨rfl, rfl⟩ ?_
      refine zg_i2d ok dX1_meanX_51 ?_
      refine zg_ddivE ok dX1_meanX_52 hE (fun hE => ?_)
      refine zg_letD hE (fun v10 hE => ?_)
      exact zg_dret ok fin dX1_meanX_53 ⟨Nat.le_of_ble_eq_true rfl, Nat.le_of_ble_eq_true rfl⟩ hE
    · refine zg_dconst0 ok dX1_meanX_41 ?_
      refine zg_goto (tgt := 53) ok dX1_meanX_42 (by decide) ?_
      exact zg_dret ok fin dX1_meanX_53 ⟨Nat.le_of_ble_eq_true rfl, Nat.le_of_ble_eq_true rfl⟩ hE
set_option maxHeartbeats 8000000 in
theorem mt_J36_init {l : Launch} (hl : l.stackTraces = false) {Z : zw_Z} {a0 : Option Nat} {a1 : Int32} {h : zw_H} {Q : zw_H → Prop} {X : String → Nat → zw_H → Prop} (hE : f_J36_init Z.2.2.2 a0 a1 h Q X) : zw_Met l Z yJ36_init (ws_ yJ36_init cJ36_init 2 (Option.none : Option Jvm.ClassFile.FieldType)) rm_J36_init [zA a0, zI a1] h (zq_V Q) X := by
  refine zg_start (own := "java/lang/StringIndexOutOfBoundsException") (by decide +kernel) rfl (Nat.le_of_ble_eq_true rfl) hl (fun Xc ok tab fin hRm hXl hXZ => ?_)
  subst hXl
  subst hXZ
  unfold f_J36_init at hE
  exact hE.elim
set_option maxHeartbeats 8000000 in
theorem mt_J10_init_2 {l : Launch} (hl : l.stackTraces = false) {Z : zw_Z} {a0 : Option Nat} {a1 : Int32} {h : zw_H} {Q : zw_H → Prop} {X : String → Nat → zw_H → Prop} (hE : f_J10_init_2 Z.2.2.2 a0 a1 h Q X) : zw_Met l Z yJ10_init_2 (ws_ yJ10_init_2 cJ10_init_2 2 (Option.none : Option Jvm.ClassFile.FieldType)) rm_J10_init_2 [zA a0, zI a1] h (zq_V Q) X := by
  refine zg_start (own := "java/lang/ArrayIndexOutOfBoundsException") (by decide +kernel) rfl (Nat.le_of_ble_eq_true rfl) hl (fun Xc ok tab fin hRm hXl hXZ => ?_)
  subst hXl
  subst hXZ
  unfold f_J10_init_2 at hE
  exact hE.elim
set_option maxHeartbeats 8000000 in
theorem mt_J15_rangeCheck {l : Launch} (hl : l.stackTraces = false) {Z : zw_Z} {a0 : Int32} {a1 : Int32} {a2 : Int32} {h : zw_H} {Q : zw_H → Prop} {X : String → Nat → zw_H → Prop} (hE : f_J15_rangeCheck Z.2.2.2 a0 a1 a2 h Q X) : zw_Met l Z yJ15_rangeCheck (ws_ yJ15_rangeCheck cJ15_rangeCheck 3 (Option.none : Option Jvm.ClassFile.FieldType)) rm_J15_rangeCheck [zI a0, zI a1, zI a2] h (zq_V Q) X := by
  refine zg_start (own := "java/util/Arrays") (by decide +kernel) rfl (Nat.le_of_ble_eq_true rfl) hl (fun Xc ok tab fin hRm hXl hXZ => ?_)
  subst hXl
  subst hXZ
  unfold f_J15_rangeCheck at hE
  refine zg_iload_n ok dJ15_rangeCheck_0 rfl 1 rfl ?_
  refine zg_iload_n ok dJ15_rangeCheck_1 rfl 2 rfl ?_
  refine zg_icmp_le (tgt := 46) ok dJ15_rangeCheck_2 (by decide) hE (fun hE => ?_) (fun hE => ?_)
  · refine zg_iload_n ok dJ15_rangeCheck_46 rfl 1 rfl ?_
    refine zg_if_ge (tgt := 59) ok dJ15_rangeCheck_47 (by decide) hE (fun hE => ?_) (fun hE => ?_)
    · refine zg_iload_n ok dJ15_rangeCheck_59 rfl 2 rfl ?_
      refine zg_iload_n ok dJ15_rangeCheck_60 rfl 0 rfl ?_
      refine zg_icmp_le (tgt := 73) ok dJ15_rangeCheck_61 (by decide) hE (fun hE => ?_) (fun hE => ?_)
      · exact zg_vret ok fin dJ15_rangeCheck_73 ⟨Nat.le_of_ble_eq_true rfl, Nat.le_of_ble_eq_true rfl⟩ hE
      · exact hE.elim
    · exact hE.elim
  · exact hE.elim
set_option maxHeartbeats 8000000 in
theorem gt_f_J15_fill_B10 {Xc : zw_X} {Q : zw_H → Prop} {X : String → Nat → zw_H → Prop} (hl : (zw_l Xc).stackTraces = false) (ok : zw_ok Xc cJ15_fill "java/util/Arrays" yJ15_fill.name 5) (tab : zw_tab Xc []) (fin : zw_fin Xc (Option.none : Option Jvm.ClassFile.FieldType) (zq_V Q) X 0 0) (hRm : zw_rm Xc = rm_J15_fill) {kc ks : Nat} (hb : kc ≤ 0 ∧ ks ≤ 0) {R : Int32 → zw_H → Prop} {l0 : Option Nat} {l2 : Int32} {l3 : Int32} (hR : ∀ (l4 : Int32) (h : zw_H), R l4 h → zw_G Xc kc ks 5 h 10 [(0, va_rf l0), (2, .int l2), (3, .int l3), (4, .int l4)] []) {k27 : zw_H → Prop} (hk27 : ∀  (h : zw_H), k27  h → zw_G Xc kc ks 5 h 27 [] [])  {l4 : Int32} {h : zw_H} (hE : f_J15_fill_B10 (zw_Zf Xc).2.2.2 Q X k27 l0 l2 l3 R l4 h) : zw_G Xc kc ks 5 h 10 [(0, va_rf l0), (2, .int l2), (3, .int l3), (4, .int l4)] [] := by
  unfold f_J15_fill_B10 at hE
  refine zg_iload ok dJ15_fill_10 3 rfl ?_
  refine zg_iload_n ok dJ15_fill_12 rfl 1 rfl ?_
  refine zg_icmp_ge (tgt := 27) ok dJ15_fill_13 (by decide) hE (fun hE => ?_) (fun hE => ?_)
  · refine zg_sub (L' := []) [] rfl ?_
    exact hk27 _ hE
  · refine zg_aload_n ok dJ15_fill_16 rfl 0 rfl ?_
    refine zg_iload ok dJ15_fill_17 3 rfl ?_
    refine zg_iload_n ok dJ15_fill_19 rfl 2 rfl ?_
    refine zg_bast ok dJ15_fill_20 hE (fun h2 hE => ?_)
    refine zg_iincL (k := 3) (L' := fun v2 => [(4, .int v2), (0, va_rf l0), (2, .int l2), (3, .int l3)]) ok dJ15_fill_21 (by decide +kernel) hE rfl (by decide) (fun _ => rfl) (fun v2 hE => ?_)
    refine zg_goto (tgt := 10) ok dJ15_fill_24 (by decide) ?_
    refine zg_sub (L' := [(0, va_rf l0), (2, .int l2), (3, .int l3), (4, .int v2)]) [1, 2, 3, 0] rfl ?_
    exact hR _ _ hE
theorem gt_f_J15_fill_L10 {Xc : zw_X} {Q : zw_H → Prop} {X : String → Nat → zw_H → Prop} (hl : (zw_l Xc).stackTraces = false) (ok : zw_ok Xc cJ15_fill "java/util/Arrays" yJ15_fill.name 5) (tab : zw_tab Xc []) (fin : zw_fin Xc (Option.none : Option Jvm.ClassFile.FieldType) (zq_V Q) X 0 0) (hRm : zw_rm Xc = rm_J15_fill) {kc ks : Nat} (hb : kc ≤ 0 ∧ ks ≤ 0) {l0 : Option Nat} {l2 : Int32} {l3 : Int32} {k27 : zw_H → Prop} (hk27 : ∀  (h : zw_H), k27  h → zw_G Xc kc ks 5 h 27 [] [])  : ∀ (n9 : Nat) (l4 : Int32) (h : zw_H), zl2 (f_J15_fill_B10 (zw_Zf Xc).2.2.2 Q X k27 l0 l2 l3) n9 l4 h → zw_G Xc kc ks 5 h 10 [(0, va_rf l0), (2, .int l2), (3, .int l3), (4, .int l4)] [] := by
  intro n9
  induction n9 with
  | zero => intro l4 h hE; exact hE.elim
  | succ n9 ih => intro l4 h hE; exact gt_f_J15_fill_B10 hl ok tab fin hRm hb ih hk27 hE
set_option maxHeartbeats 8000000 in
theorem mt_J15_fill {l : Launch} (hl : l.stackTraces = false) {Z : zw_Z} {a0 : Option Nat} {a1 : Int32} {a2 : Int32} {a3 : Int32} {h : zw_H} {Q : zw_H → Prop} {X : String → Nat → zw_H → Prop} (hE : f_J15_fill Z.2.2.2 a0 a1 a2 a3 h Q X) : zw_Met l Z yJ15_fill (ws_ yJ15_fill cJ15_fill 5 (Option.none : Option Jvm.ClassFile.FieldType)) rm_J15_fill [zA a0, zI a1, zI a2, zI a3] h (zq_V Q) X := by
  refine zg_start (own := "java/util/Arrays") (by decide +kernel) rfl (Nat.le_of_ble_eq_true rfl) hl (fun Xc ok tab fin hRm hXl hXZ => ?_)
  subst hXl
  subst hXZ
  unfold f_J15_fill at hE
  refine zg_aload_n ok dJ15_fill_0 rfl 0 rfl ?_
  refine zg_alen ok dJ15_fill_1 hE (fun v1 hE => ?_)
  refine zg_iload_n ok dJ15_fill_2 rfl 1 rfl ?_
  refine zg_iload_n ok dJ15_fill_3 rfl 2 rfl ?_
  refine zg_callS (vs := [zI v1, zI a1, zI a2]) (rest := []) (rm := rm_J15_rangeCheck) ok hRm lk_J15_13 dJ15_fill_4 hE (fun hE => mt_J15_rangeCheck hl hE) rfl (Nat.le_of_ble_eq_true rfl) ⟨⟨Nat.le_of_ble_eq_true rfl, Nat.le_of_ble_eq_true rfl⟩, Nat.le_of_ble_eq_true rfl, Nat.le_of_ble_eq_true rfl⟩ (zg_retV (fun h1 hE => ?_)) (zg_xok ok tab fin ⟨Nat.le_of_ble_eq_true rfl, Nat.le_of_ble_eq_true rfl⟩)
  refine zg_cost (kc2 := 0) (ks2 := 0) ⟨rfl, rfl⟩ ?_
  refine zg_iload_n ok dJ15_fill_7 rfl 1 rfl ?_
  refine zg_istore (L' := [(4, .int a1), (0, va_rf a0), (1, .int a1), (2, .int a2), (3, .int a3)]) ok dJ15_fill_8 (by decide) rfl ?_
  refine zg_sub (L' := [(0, va_rf a0), (2, .int a2), (3, .int a3), (4, .int a1)]) [1, 3, 4, 0] rfl ?_
  refine gt_f_J15_fill_L10 hl ok tab fin hRm ⟨Nat.le_of_ble_eq_true rfl, Nat.le_of_ble_eq_true rfl⟩ ?_ _ _ _ hE
  · intro h3 hE
    exact zg_vret ok fin dJ15_fill_27 ⟨Nat.le_of_ble_eq_true rfl, Nat.le_of_ble_eq_true rfl⟩ hE
set_option maxHeartbeats 8000000 in
theorem mt_J16_fillNull {l : Launch} (hl : l.stackTraces = false) {Z : zw_Z} {a0 : Option Nat} {a1 : Int32} {a2 : Int32} {h : zw_H} {Q : zw_H → Prop} {X : String → Nat → zw_H → Prop} (hE : f_J16_fillNull Z.2.2.2 a0 a1 a2 h Q X) : zw_Met l Z yJ16_fillNull (ws_ yJ16_fillNull cJ16_fillNull 3 (Option.none : Option Jvm.ClassFile.FieldType)) rm_J16_fillNull [zA a0, zI a1, zI a2] h (zq_V Q) X := by
  refine zg_start (own := "java/lang/StringLatin1") (by decide +kernel) rfl (Nat.le_of_ble_eq_true rfl) hl (fun Xc ok tab fin hRm hXl hXZ => ?_)
  subst hXl
  subst hXZ
  unfold f_J16_fillNull at hE
  refine zg_aload_n ok dJ16_fillNull_0 rfl 0 rfl ?_
  refine zg_iload_n ok dJ16_fillNull_1 rfl 1 rfl ?_
  refine zg_iload_n ok dJ16_fillNull_2 rfl 2 rfl ?_
  refine zg_iconst (v := 0) ok dJ16_fillNull_3 (by decide) ?_
  refine zg_callS (vs := [zA a0, zI a1, zI a2, zI 0]) (rest := []) (rm := rm_J15_fill) ok hRm lk_J16_236 dJ16_fillNull_4 hE (fun hE => mt_J15_fill hl hE) rfl (Nat.le_of_ble_eq_true rfl) ⟨⟨Nat.le_of_ble_eq_true rfl, Nat.le_of_ble_eq_true rfl⟩, Nat.le_of_ble_eq_true rfl, Nat.le_of_ble_eq_true rfl⟩ (zg_retV (fun h1 hE => ?_)) (zg_xok ok tab fin ⟨Nat.le_of_ble_eq_true rfl, Nat.le_of_ble_eq_true rfl⟩)
  refine zg_cost (kc2 := 0) (ks2 := 0) ⟨rfl, rfl⟩ ?_
  exact zg_vret ok fin dJ16_fillNull_7 ⟨Nat.le_of_ble_eq_true rfl, Nat.le_of_ble_eq_true rfl⟩ hE
set_option maxHeartbeats 8000000 in
theorem mt_J5_fillNull {l : Launch} (hl : l.stackTraces = false) {Z : zw_Z} {a0 : Option Nat} {a1 : Int32} {a2 : Int32} {h : zw_H} {Q : zw_H → Prop} {X : String → Nat → zw_H → Prop} (hE : f_J5_fillNull Z.2.2.2 a0 a1 a2 h Q X) : zw_Met l Z yJ5_fillNull (ws_ yJ5_fillNull cJ5_fillNull 3 (Option.none : Option Jvm.ClassFile.FieldType)) rm_J5_fillNull [zA a0, zI a1, zI a2] h (zq_V Q) X := by
  refine zg_start (own := "java/lang/StringUTF16") (by decide +kernel) rfl (Nat.le_of_ble_eq_true rfl) hl (fun Xc ok tab fin hRm hXl hXZ => ?_)
  subst hXl
  subst hXZ
  unfold f_J5_fillNull at hE
  refine zg_aload_n ok dJ5_fillNull_0 rfl 0 rfl ?_
  refine zg_iload_n ok dJ5_fillNull_1 rfl 1 rfl ?_
  refine zg_iconst (v := 1) ok dJ5_fillNull_2 (by decide) ?_
  refine zg_ishl ok dJ5_fillNull_3 ?_
  refine zg_iload_n ok dJ5_fillNull_4 rfl 2 rfl ?_
  refine zg_iconst (v := 1) ok dJ5_fillNull_5 (by decide) ?_
  refine zg_ishl ok dJ5_fillNull_6 ?_
  refine zg_iconst (v := 0) ok dJ5_fillNull_7 (by decide) ?_
  refine zg_callS (vs := [zA a0, zI (a1 <<< (1 &&& 31)), zI (a2 <<< (1 &&& 31)), zI 0]) (rest := []) (rm := rm_J15_fill) ok hRm lk_J5_380 dJ5_fillNull_8 hE (fun hE => mt_J15_fill hl hE) rfl (Nat.le_of_ble_eq_true rfl) ⟨⟨Nat.le_of_ble_eq_true rfl, Nat.le_of_ble_eq_true rfl⟩, Nat.le_of_ble_eq_true rfl, Nat.le_of_ble_eq_true rfl⟩ (zg_retV (fun h1 hE => ?_)) (zg_xok ok tab fin ⟨Nat.le_of_ble_eq_true rfl, Nat.le_of_ble_eq_true rfl⟩)
  refine zg_cost (kc2 := 0) (ks2 := 0) ⟨rfl, rfl⟩ ?_
  exact zg_vret ok fin dJ5_fillNull_11 ⟨Nat.le_of_ble_eq_true rfl, Nat.le_of_ble_eq_true rfl⟩ hE
set_option maxHeartbeats 8000000 in
theorem mt_J2_setLength {l : Launch} (hl : l.stackTraces = false) {Z : zw_Z} {a0 : Option Nat} {a1 : Int32} {h : zw_H} {Q : zw_H → Prop} {X : String → Nat → zw_H → Prop} (hE : f_J2_setLength Z.2.2.2 a0 a1 h Q X) : zw_Met l Z yJ2_setLength (ws_ yJ2_setLength cJ2_setLength 2 (Option.none : Option Jvm.ClassFile.FieldType)) rm_J2_setLength [zA a0, zI a1] h (zq_V Q) X := by
  refine zg_start (own := "java/lang/AbstractStringBuilder") (by decide +kernel) rfl (Nat.le_of_ble_eq_true rfl) hl (fun Xc ok tab fin hRm hXl hXZ => ?_)
  subst hXl
  subst hXZ
  unfold f_J2_setLength at hE
  refine zg_iload_n ok dJ2_setLength_0 rfl 1 rfl ?_
  refine zg_if_ge (tgt := 13) ok dJ2_setLength_1 (by decide) hE (fun hE => ?_) (fun hE => ?_)
  · refine zg_aload_n ok dJ2_setLength_13 rfl 0 rfl ?_
    refine zg_iload_n ok dJ2_setLength_14 rfl 1 rfl ?_
    refine zg_callU (vs := [zI a1]) (rest := []) (rm := rm_J2_ensureCapacityInternal) ok hRm lk_J2_100 dJ2_setLength_15 hE (fun hE => mt_J2_ensureCapacityInternal hl hE) rfl (Nat.le_of_ble_eq_true rfl) ⟨⟨Nat.le_of_ble_eq_true rfl, Nat.le_of_ble_eq_true rfl⟩, Nat.le_of_ble_eq_true rfl, Nat.le_of_ble_eq_true rfl⟩ (zg_retV (fun h1 hE => ?_)) (zg_xok ok tab fin ⟨Nat.le_of_ble_eq_true rfl, Nat.le_of_ble_eq_true rfl⟩)
    refine zg_cost (kc2 := 1) (ks2 := 576) ⟨rfl, rfl⟩ ?_
    refine zg_aload_n ok dJ2_setLength_18 rfl 0 rfl ?_
    refine zg_getI ok lf_J2_79 dJ2_setLength_19 hE (fun v1 hE => ?_)
    refine zg_iload_n ok dJ2_setLength_22 rfl 1 rfl ?_
    refine zg_icmp_ge (tgt := 63) ok dJ2_setLength_23 (by decide) hE (fun hE => ?_) (fun hE => ?_)
    · refine zg_aload_n ok dJ2_setLength_63 rfl 0 rfl ?_
      refine zg_getI ok lf_J2_79 dJ2_setLength_64 hE (fun v2 hE => ?_)
      refine zg_iload_n ok dJ2_setLength_67 rfl 1 rfl ?_
      refine zg_icmp_le (tgt := 76) ok dJ2_setLength_68 (by decide) hE (fun hE => ?_) (fun hE => ?_)
      · refine zg_aload_n ok dJ2_setLength_76 rfl 0 rfl ?_
        refine zg_iload_n ok dJ2_setLength_77 rfl 1 rfl ?_
        refine zg_put (ty := .int) ok lf_J2_79 (Or.inl rfl) (by decide) (by decide +kernel) rfl rfl dJ2_setLength_78 hE (fun h2 hE => ?_)
        exact zg_vret ok fin dJ2_setLength_81 ⟨Nat.le_of_ble_eq_true rfl, Nat.le_of_ble_eq_true rfl⟩ hE
      · refine zg_aload_n ok dJ2_setLength_71 rfl 0 rfl ?_
        refine zg_iconst (v := 1) ok dJ2_setLength_72 (by decide) ?_
        refine zg_put (ty := .boolean) ok lf_J2_73 (Or.inl rfl) (by decide) (by decide +kernel) rfl rfl dJ2_setLength_73 hE (fun h3 hE => ?_)
        refine zg_aload_n ok dJ2_setLength_76 rfl 0 rfl ?_
        refine zg_iload_n ok dJ2_setLength_77 rfl 1 rfl ?_
        refine zg_put (ty := .int) ok lf_J2_79 (Or.inl rfl) (by decide) (by decide +kernel) rfl rfl dJ2_setLength_78 hE (fun h4 hE => ?_)
        exact zg_vret ok fin dJ2_setLength_81 ⟨Nat.le_of_ble_eq_true rfl, Nat.le_of_ble_eq_true rfl⟩ hE
    · refine zg_aload_n ok dJ2_setLength_26 rfl 0 rfl ?_
      refine zg_callU (vs := []) (rest := []) (rm := rm_J2_isLatin1) ok hRm lk_J2_83 dJ2_setLength_27 hE (fun hE => mt_J2_isLatin1 hl hE) rfl (Nat.le_of_ble_eq_true rfl) ⟨⟨Nat.le_of_ble_eq_true rfl, Nat.le_of_ble_eq_true rfl⟩, Nat.le_of_ble_eq_true rfl, Nat.le_of_ble_eq_true rfl⟩ (zg_retI (fun v3 h5 hE => ?_)) (zg_xok ok tab fin ⟨Nat.le_of_ble_eq_true rfl, Nat.le_of_ble_eq_true rfl⟩)
      refine zg_cost (kc2 := 1) (ks2 := 576) ⟨rfl, rfl⟩ ?_
      refine zg_if_eq (tgt := 48) ok dJ2_setLength_30 (by decide) hE (fun hE => ?_) (fun hE => ?_)
      · refine zg_aload_n ok dJ2_setLength_48 rfl 0 rfl ?_
        refine zg_getA ok lf_J2_15 dJ2_setLength_49 hE (fun v4 hE => ?_)
        refine zg_aload_n ok dJ2_setLength_52 rfl 0 rfl ?_
        refine zg_getI ok lf_J2_79 dJ2_setLength_53 hE (fun v5 hE => ?_)
        refine zg_iload_n ok dJ2_setLength_56 rfl 1 rfl ?_
        refine zg_callS (vs := [zA v4, zI v5, zI a1]) (rest := []) (rm := rm_J5_fillNull) ok hRm lk_J2_137 dJ2_setLength_57 hE (fun hE => mt_J5_fillNull hl hE) rfl (Nat.le_of_ble_eq_true rfl) ⟨⟨Nat.le_of_ble_eq_true rfl, Nat.le_of_ble_eq_true rfl⟩, Nat.le_of_ble_eq_true rfl, Nat.le_of_ble_eq_true rfl⟩ (zg_retV (fun h6 hE => ?_)) (zg_xok ok tab fin ⟨Nat.le_of_ble_eq_true rfl, Nat.le_of_ble_eq_true rfl⟩)
        refine zg_cost (kc2 := 1) (ks2 := 576) ⟨rfl, rfl⟩ ?_
        refine zg_goto (tgt := 76) ok dJ2_setLength_60 (by decide) ?_
        refine zg_aload_n ok dJ2_setLength_76 rfl 0 rfl ?_
        refine zg_iload_n ok dJ2_setLength_77 rfl 1 rfl ?_
        refine zg_put (ty := .int) ok lf_J2_79 (Or.inl rfl) (by decide) (by decide +kernel) rfl rfl dJ2_setLength_78 hE (fun h7 hE => ?_)
        exact zg_vret ok fin dJ2_setLength_81 ⟨Nat.le_of_ble_eq_true rfl, Nat.le_of_ble_eq_true rfl⟩ hE
      · refine zg_aload_n ok dJ2_setLength_33 rfl 0 rfl ?_
        refine zg_getA ok lf_J2_15 dJ2_setLength_34 hE (fun v6 hE => ?_)
        refine zg_aload_n ok dJ2_setLength_37 rfl 0 rfl ?_
        refine zg_getI ok lf_J2_79 dJ2_setLength_38 hE (fun v7 hE => ?_)
        refine zg_iload_n ok dJ2_setLength_41 rfl 1 rfl ?_
        refine zg_callS (vs := [zA v6, zI v7, zI a1]) (rest := []) (rm := rm_J16_fillNull) ok hRm lk_J2_133 dJ2_setLength_42 hE (fun hE => mt_J16_fillNull hl hE) rfl (Nat.le_of_ble_eq_true rfl) ⟨⟨Nat.le_of_ble_eq_true rfl, Nat.le_of_ble_eq_true rfl⟩, Nat.le_of_ble_eq_true rfl, Nat.le_of_ble_eq_true rfl⟩ (zg_retV (fun h8 hE => ?_)) (zg_xok ok tab fin ⟨Nat.le_of_ble_eq_true rfl, Nat.le_of_ble_eq_true rfl⟩)
        refine zg_cost (kc2 := 1) (ks2 := 576) ⟨rfl, rfl⟩ ?_
        refine zg_goto (tgt := 76) ok dJ2_setLength_45 (by decide) ?_
        refine zg_aload_n ok dJ2_setLength_76 rfl 0 rfl ?_
        refine zg_iload_n ok dJ2_setLength_77 rfl 1 rfl ?_
        refine zg_put (ty := .int) ok lf_J2_79 (Or.inl rfl) (by decide) (by decide +kernel) rfl rfl dJ2_setLength_78 hE (fun h9 hE => ?_)
        exact zg_vret ok fin dJ2_setLength_81 ⟨Nat.le_of_ble_eq_true rfl, Nat.le_of_ble_eq_true rfl⟩ hE
  · exact hE.elim
set_option maxHeartbeats 8000000 in
theorem mt_J3_setLength {l : Launch} (hl : l.stackTraces = false) {Z : zw_Z} {a0 : Option Nat} {a1 : Int32} {h : zw_H} {Q : zw_H → Prop} {X : String → Nat → zw_H → Prop} (hE : f_J3_setLength Z.2.2.2 a0 a1 h Q X) : zw_Met l Z yJ3_setLength (ws_ yJ3_setLength cJ3_setLength 2 (Option.none : Option Jvm.ClassFile.FieldType)) rm_J3_setLength [zA a0, zI a1] h (zq_V Q) X := by
  refine zg_startF (own := "java/lang/StringBuilder") (by decide +kernel) rfl (Nat.le_of_ble_eq_true rfl) hl (fun Xc ok tab fin hRm hXl hXZ => ?_)
  subst hXl
  subst hXZ
  unfold f_J3_setLength at hE
  refine zg_aload_n ok dJ3_setLength_0 rfl 0 rfl ?_
  refine zg_iload_n ok dJ3_setLength_1 rfl 1 rfl ?_
  refine zg_callSU (vs := [zI a1]) (rest := []) (rm := rm_J2_setLength) ok hRm lk_J3_333 dJ3_setLength_2 hE (fun hE => mt_J2_setLength hl hE) rfl (Nat.le_of_ble_eq_true rfl) ⟨⟨Nat.le_of_ble_eq_true rfl, Nat.le_of_ble_eq_true rfl⟩, Nat.le_of_ble_eq_true rfl, Nat.le_of_ble_eq_true rfl⟩ (zg_retV (fun h1 hE => ?_)) (zg_xok ok tab fin ⟨Nat.le_of_ble_eq_true rfl, Nat.le_of_ble_eq_true rfl⟩)
  refine zg_cost (kc2 := 1) (ks2 := 576) ⟨rfl, rfl⟩ ?_
  exact zg_vret ok fin dJ3_setLength_5 ⟨Nat.le_of_ble_eq_true rfl, Nat.le_of_ble_eq_true rfl⟩ hE
set_option maxHeartbeats 8000000 in
theorem gt_f_J2_append_J56 {Xc : zw_X} {Q : Option Nat → zw_H → Prop} {X : String → Nat → zw_H → Prop} (hl : (zw_l Xc).stackTraces = false) (ok : zw_ok Xc cJ2_append "java/lang/AbstractStringBuilder" yJ2_append.name 2) (tab : zw_tab Xc []) (fin : zw_fin Xc (Option.some (Jvm.ClassFile.FieldType.object "java/lang/AbstractStringBuilder")) (zq_A Q) X 1 576) (hRm : zw_rm Xc = rm_J2_append)  {l0 : Option Nat} {l1 : Int32}  {h : zw_H} (hE : f_J2_append_J56 (zw_Zf Xc).2.2.2 Q X  l0 l1 h) : zw_G Xc 1 576 2 h 56 [(0, va_rf l0), (1, .int l1)] [] := by
  unfold f_J2_append_J56 at hE
  refine zg_aload_n ok dJ2_append_56 rfl 0 rfl ?_
  refine zg_getA ok lf_J2_15 dJ2_append_57 hE (fun v4 hE => ?_)
  refine zg_aload_n ok dJ2_append_60 rfl 0 rfl ?_
  refine zg_dup ok dJ2_append_61 (zw_rfc _) ?_
  refine zg_getI ok lf_J2_79 dJ2_append_62 hE (fun v5 hE => ?_)
  refine zg_dup_x1 ok dJ2_append_65 rfl (zw_rfc _) ?_
  refine zg_iconst (v := 1) ok dJ2_append_66 (by decide) ?_
  refine zg_iadd ok dJ2_append_67 ?_
  refine zg_put (ty := .int) ok lf_J2_79 (Or.inl rfl) (by decide) (by decide +kernel) rfl rfl dJ2_append_68 hE (fun h4 hE => ?_)
  refine zg_iload_n ok dJ2_append_71 rfl 1 rfl ?_
  refine zg_callS (vs := [zA v4, zI v5, zI l1]) (rest := []) (rm := rm_J5_putCharSB) ok hRm lk_J2_197 dJ2_append_72 hE (fun hE => mt_J5_putCharSB hl hE) rfl (Nat.le_of_ble_eq_true rfl) ⟨⟨Nat.le_of_ble_eq_true rfl, Nat.le_of_ble_eq_true rfl⟩, Nat.le_of_ble_eq_true rfl, Nat.le_of_ble_eq_true rfl⟩ (zg_retV (fun h5 hE => ?_)) (zg_xok ok tab fin ⟨Nat.le_of_ble_eq_true rfl, Nat.le_of_ble_eq_true rfl⟩)
  refine zg_cost (kc2 := 1) (ks2 := 576) ⟨rfl, rfl⟩ ?_
  refine zg_aload_n ok dJ2_append_75 rfl 0 rfl ?_
  exact zg_aret ok fin (Or.inl ⟨_, rfl⟩) dJ2_append_76 ⟨Nat.le_of_ble_eq_true rfl, Nat.le_of_ble_eq_true rfl⟩ hE
set_option maxHeartbeats 8000000 in
theorem gt_f_J2_append_J45 {Xc : zw_X} {Q : Option Nat → zw_H → Prop} {X : String → Nat → zw_H → Prop} (hl : (zw_l Xc).stackTraces = false) (ok : zw_ok Xc cJ2_append "java/lang/AbstractStringBuilder" yJ2_append.name 2) (tab : zw_tab Xc []) (fin : zw_fin Xc (Option.some (Jvm.ClassFile.FieldType.object "java/lang/AbstractStringBuilder")) (zq_A Q) X 1 576) (hRm : zw_rm Xc = rm_J2_append)  {l0 : Option Nat} {l1 : Int32}  {h : zw_H} (hE : f_J2_append_J45 (zw_Zf Xc).2.2.2 Q X  l0 l1 h) : zw_G Xc 1 576 2 h 45 [(0, va_rf l0), (1, .int l1)] [] := by
  unfold f_J2_append_J45 at hE
  refine zg_aload_n ok dJ2_append_45 rfl 0 rfl ?_
  refine zg_callU (vs := []) (rest := []) (rm := rm_J2_isLatin1) ok hRm lk_J2_83 dJ2_append_46 hE (fun hE => mt_J2_isLatin1 hl hE) rfl (Nat.le_of_ble_eq_true rfl) ⟨⟨Nat.le_of_ble_eq_true rfl, Nat.le_of_ble_eq_true rfl⟩, Nat.le_of_ble_eq_true rfl, Nat.le_of_ble_eq_true rfl⟩ (zg_retI (fun v3 h3 hE => ?_)) (zg_xok ok tab fin ⟨Nat.le_of_ble_eq_true rfl, Nat.le_of_ble_eq_true rfl⟩)
  refine zg_cost (kc2 := 1) (ks2 := 576) ⟨rfl, rfl⟩ ?_
  refine zg_if_eq (tgt := 56) ok dJ2_append_49 (by decide) hE (fun hE => ?_) (fun hE => ?_)
  · exact gt_f_J2_append_J56 hl ok tab fin hRm  hE
  · exact hE.elim
set_option maxHeartbeats 8000000 in
theorem mt_J2_append {l : Launch} (hl : l.stackTraces = false) {Z : zw_Z} {a0 : Option Nat} {a1 : Int32} {h : zw_H} {Q : Option Nat → zw_H → Prop} {X : String → Nat → zw_H → Prop} (hE : f_J2_append Z.2.2.2 a0 a1 h Q X) : zw_Met l Z yJ2_append (ws_ yJ2_append cJ2_append 2 (Option.some (Jvm.ClassFile.FieldType.object "java/lang/AbstractStringBuilder"))) rm_J2_append [zA a0, zI a1] h (zq_A Q) X := by
  refine zg_start (own := "java/lang/AbstractStringBuilder") (by decide +kernel) rfl (Nat.le_of_ble_eq_true rfl) hl (fun Xc ok tab fin hRm hXl hXZ => ?_)
  subst hXl
  subst hXZ
  unfold f_J2_append at hE
  refine zg_aload_n ok dJ2_append_0 rfl 0 rfl ?_
  refine zg_aload_n ok dJ2_append_1 rfl 0 rfl ?_
  refine zg_getI ok lf_J2_79 dJ2_append_2 hE (fun v1 hE => ?_)
  refine zg_iconst (v := 1) ok dJ2_append_5 (by decide) ?_
  refine zg_iadd ok dJ2_append_6 ?_
  refine zg_callU (vs := [zI (v1 + 1)]) (rest := []) (rm := rm_J2_ensureCapacityInternal) ok hRm lk_J2_100 dJ2_append_7 hE (fun hE => mt_J2_ensureCapacityInternal hl hE) rfl (Nat.le_of_ble_eq_true rfl) ⟨⟨Nat.le_of_ble_eq_true rfl, Nat.le_of_ble_eq_true rfl⟩, Nat.le_of_ble_eq_true rfl, Nat.le_of_ble_eq_true rfl⟩ (zg_retV (fun h1 hE => ?_)) (zg_xok ok tab fin ⟨Nat.le_of_ble_eq_true rfl, Nat.le_of_ble_eq_true rfl⟩)
  refine zg_cost (kc2 := 1) (ks2 := 576) ⟨rfl, rfl⟩ ?_
  refine zg_aload_n ok dJ2_append_10 rfl 0 rfl ?_
  refine zg_callU (vs := []) (rest := []) (rm := rm_J2_isLatin1) ok hRm lk_J2_83 dJ2_append_11 hE (fun hE => mt_J2_isLatin1 hl hE) rfl (Nat.le_of_ble_eq_true rfl) ⟨⟨Nat.le_of_ble_eq_true rfl, Nat.le_of_ble_eq_true rfl⟩, Nat.le_of_ble_eq_true rfl, Nat.le_of_ble_eq_true rfl⟩ (zg_retI (fun v2 h2 hE => ?_)) (zg_xok ok tab fin ⟨Nat.le_of_ble_eq_true rfl, Nat.le_of_ble_eq_true rfl⟩)
  refine zg_cost (kc2 := 1) (ks2 := 576) ⟨rfl, rfl⟩ ?_
  refine zg_if_eq (tgt := 45) ok dJ2_append_14 (by decide) hE (fun hE => ?_) (fun hE => ?_)
  · exact gt_f_J2_append_J45 hl ok tab fin hRm  hE
  · refine zg_iload_n ok dJ2_append_17 rfl 1 rfl ?_
    refine zg_callS (vs := [zI a1]) (rest := []) (rm := rm_J16_canEncode) ok hRm lk_J2_191 dJ2_append_18 hE (fun hE => mt_J16_canEncode hl hE) rfl (Nat.le_of_ble_eq_true rfl) ⟨⟨Nat.le_of_ble_eq_true rfl, Nat.le_of_ble_eq_true rfl⟩, Nat.le_of_ble_eq_true rfl, Nat.le_of_ble_eq_true rfl⟩ (zg_retI (fun v6 h6 hE => ?_)) (zg_xok ok tab fin ⟨Nat.le_of_ble_eq_true rfl, Nat.le_of_ble_eq_true rfl⟩)
    refine zg_cost (kc2 := 1) (ks2 := 576) ⟨rfl, rfl⟩ ?_
    refine zg_if_eq (tgt := 45) ok dJ2_append_21 (by decide) hE (fun hE => ?_) (fun hE => ?_)
    · exact gt_f_J2_append_J45 hl ok tab fin hRm  hE
    · refine zg_aload_n ok dJ2_append_24 rfl 0 rfl ?_
      refine zg_getA ok lf_J2_15 dJ2_append_25 hE (fun v7 hE => ?_)
      refine zg_aload_n ok dJ2_append_28 rfl 0 rfl ?_
      refine zg_dup ok dJ2_append_29 (zw_rfc _) ?_
      refine zg_getI ok lf_J2_79 dJ2_append_30 hE (fun v8 hE => ?_)
      refine zg_dup_x1 ok dJ2_append_33 rfl (zw_rfc _) ?_
      refine zg_iconst (v := 1) ok dJ2_append_34 (by decide) ?_
      refine zg_iadd ok dJ2_append_35 ?_
      refine zg_put (ty := .int) ok lf_J2_79 (Or.inl rfl) (by decide) (by decide +kernel) rfl rfl dJ2_append_36 hE (fun h7 hE => ?_)
      refine zg_iload_n ok dJ2_append_39 rfl 1 rfl ?_
      refine zg_i2b ok dJ2_append_40 ?_
      refine zg_bast ok dJ2_append_41 hE (fun h8 hE => ?_)
      refine zg_goto (tgt := 75) ok dJ2_append_42 (by decide) ?_
      refine zg_aload_n ok dJ2_append_75 rfl 0 rfl ?_
      exact zg_aret ok fin (Or.inl ⟨_, rfl⟩) dJ2_append_76 ⟨Nat.le_of_ble_eq_true rfl, Nat.le_of_ble_eq_true rfl⟩ hE
set_option maxHeartbeats 8000000 in
theorem mt_J3_append {l : Launch} (hl : l.stackTraces = false) {Z : zw_Z} {a0 : Option Nat} {a1 : Int32} {h : zw_H} {Q : Option Nat → zw_H → Prop} {X : String → Nat → zw_H → Prop} (hE : f_J3_append Z.2.2.2 a0 a1 h Q X) : zw_Met l Z yJ3_append (ws_ yJ3_append cJ3_append 2 (Option.some (Jvm.ClassFile.FieldType.object "java/lang/StringBuilder"))) rm_J3_append [zA a0, zI a1] h (zq_A Q) X := by
  refine zg_startF (own := "java/lang/StringBuilder") (by decide +kernel) rfl (Nat.le_of_ble_eq_true rfl) hl (fun Xc ok tab fin hRm hXl hXZ => ?_)
  subst hXl
  subst hXZ
  unfold f_J3_append at hE
  refine zg_aload_n ok dJ3_append_0 rfl 0 rfl ?_
  refine zg_iload_n ok dJ3_append_1 rfl 1 rfl ?_
  refine zg_callSU (vs := [zI a1]) (rest := []) (rm := rm_J2_append) ok hRm lk_J3_50 dJ3_append_2 hE (fun hE => mt_J2_append hl hE) rfl (Nat.le_of_ble_eq_true rfl) ⟨⟨Nat.le_of_ble_eq_true rfl, Nat.le_of_ble_eq_true rfl⟩, Nat.le_of_ble_eq_true rfl, Nat.le_of_ble_eq_true rfl⟩ (zg_retA (fun v1 h1 hE => ?_)) (zg_xok ok tab fin ⟨Nat.le_of_ble_eq_true rfl, Nat.le_of_ble_eq_true rfl⟩)
  refine zg_cost (kc2 := 1) (ks2 := 576) ⟨rfl, rfl⟩ ?_
  refine zg_pop ok dJ3_append_5 (zw_rfc _) ?_
  refine zg_aload_n ok dJ3_append_6 rfl 0 rfl ?_
  exact zg_aret ok fin (Or.inl ⟨_, rfl⟩) dJ3_append_7 ⟨Nat.le_of_ble_eq_true rfl, Nat.le_of_ble_eq_true rfl⟩ hE
set_option maxHeartbeats 8000000 in
theorem gt_f_X1_writeLeaves_J76 {Xc : zw_X} {Q : Int32 → zw_H → Prop} {X : String → Nat → zw_H → Prop} (hl : (zw_l Xc).stackTraces = false) (ok : zw_ok Xc cX1_writeLeaves "MultipoleLine" yX1_writeLeaves.name 7) (tab : zw_tab Xc []) (fin : zw_fin Xc (Option.some Jvm.ClassFile.FieldType.int) (zq_I Q) X 35 19590) (hRm : zw_rm Xc = rm_X1_writeLeaves) {kb sb KE SE : Nat} (hk : kb + 1 ≤ KE ∧ sb + 576 ≤ SE) (hKE : KE ≤ 35 ∧ SE ≤ 19590) {R : Int32 → zw_H → Prop} {l0 : Option Nat} {l1 : Option Nat} {l2 : Option Nat} {l3 : Int32} (hR : ∀ (l4 : Int32) (h : zw_H), R l4 h → zw_G Xc (kb + 1) (sb + 576) 7 h 29 [(0, va_rf l0), (1, va_rf l1), (2, va_rf l2), (3, .int l3), (4, .int l4)] []) {k87 : zw_H → Prop} (hk87 : ∀  (h : zw_H), k87  h → zw_G Xc KE SE 7 h 87 [(0, va_rf l0)] [])  {l4 : Int32} {s0 : Int32} {s1 : Option Nat} {h : zw_H} (hE : f_X1_writeLeaves_J76 (zw_Zf Xc).2.2.2 Q X R k87 l0 l1 l2 l3 l4 s0 s1 h) : zw_G Xc kb sb 7 h 76 [(0, va_rf l0), (1, va_rf l1), (2, va_rf l2), (3, .int l3), (4, .int l4)] [.int s0, va_rf s1] := by
  unfold f_X1_writeLeaves_J76 at hE
  refine zg_i2c ok dX1_writeLeaves_76 ?_
  refine zg_callV (vs := [zI ((s0.toUInt32 % 65536).toInt32)]) (rest := []) (rm := rm_J3_append) ok hRm lk_X1_407 dX1_writeLeaves_77 hE (fun hE => mt_J3_append hl hE) rfl (Nat.le_of_ble_eq_true rfl) ⟨⟨Nat.le_of_ble_eq_true rfl, Nat.le_of_ble_eq_true rfl⟩, (by show kb + 1 ≤ 35; omega), (by show sb + 576 ≤ 19590; omega)⟩ (zg_retA (fun v10 h4 hE => ?_)) (zg_xok ok tab fin ⟨(by show kb + 1 ≤ 35; omega), (by show sb + 576 ≤ 19590; omega)⟩)
  refine zg_cost (kc2 := kb + 1) (ks2 := sb + 576) ⟨(by show kb + 1 = kb + 1; omega), (by show sb + 576 = sb + 576; omega)⟩ ?_
  refine zg_pop ok dX1_writeLeaves_80 (zw_rfc _) ?_
  refine zg_iincL (k := 4) (L' := fun v11 => [(4, .int v11), (0, va_rf l0), (1, va_rf l1), (2, va_rf l2), (3, .int l3)]) ok dX1_writeLeaves_81 (by decide +kernel) hE rfl (by decide) (fun _ => rfl) (fun v11 hE => ?_)
  refine zg_goto (tgt := 29) ok dX1_writeLeaves_84 (by decide) ?_
  refine zg_sub (L' := [(0, va_rf l0), (1, va_rf l1), (2, va_rf l2), (3, .int l3), (4, .int v11)]) [1, 2, 3, 4, 0] rfl ?_
  exact hR _ _ hE
set_option maxHeartbeats 8000000 in
theorem gt_f_X1_writeLeaves_B29 {Xc : zw_X} {Q : Int32 → zw_H → Prop} {X : String → Nat → zw_H → Prop} (hl : (zw_l Xc).stackTraces = false) (ok : zw_ok Xc cX1_writeLeaves "MultipoleLine" yX1_writeLeaves.name 7) (tab : zw_tab Xc []) (fin : zw_fin Xc (Option.some Jvm.ClassFile.FieldType.int) (zq_I Q) X 35 19590) (hRm : zw_rm Xc = rm_X1_writeLeaves) {kb sb KE SE : Nat} (hk : kb + 1 ≤ KE ∧ sb + 576 ≤ SE) (hKE : KE ≤ 35 ∧ SE ≤ 19590) {R : Int32 → zw_H → Prop} {l0 : Option Nat} {l1 : Option Nat} {l2 : Option Nat} {l3 : Int32} (hR : ∀ (l4 : Int32) (h : zw_H), R l4 h → zw_G Xc (kb + 1) (sb + 576) 7 h 29 [(0, va_rf l0), (1, va_rf l1), (2, va_rf l2), (3, .int l3), (4, .int l4)] []) {k87 : zw_H → Prop} (hk87 : ∀  (h : zw_H), k87  h → zw_G Xc KE SE 7 h 87 [(0, va_rf l0)] [])  {l4 : Int32} {h : zw_H} (hE : f_X1_writeLeaves_B29 (zw_Zf Xc).2.2.2 Q X k87 l0 l1 l2 l3 R l4 h) : zw_G Xc kb sb 7 h 29 [(0, va_rf l0), (1, va_rf l1), (2, va_rf l2), (3, .int l3), (4, .int l4)] [] := by
  unfold f_X1_writeLeaves_B29 at hE
  refine zg_iload ok dX1_writeLeaves_29 4 rfl ?_
  refine zg_iload_n ok dX1_writeLeaves_31 rfl 3 rfl ?_
  refine zg_icmp_ge (tgt := 87) ok dX1_writeLeaves_32 (by decide) hE (fun hE => ?_) (fun hE => ?_)
  · refine zg_wide (kc2 := KE) (ks2 := SE) (by omega) (by omega) ?_
    refine zg_sub (L' := [(0, va_rf l0)]) [0] rfl ?_
    exact hk87 _ hE
  · refine zg_aload_n ok dX1_writeLeaves_35 rfl 2 rfl ?_
    refine zg_iload ok dX1_writeLeaves_36 4 rfl ?_
    refine zg_aaldB ok dX1_writeLeaves_38 hE (fun v7 hE => ?_)
    refine zg_astore (L' := [(5, va_rf v7), (0, va_rf l0), (1, va_rf l1), (2, va_rf l2), (3, .int l3), (4, .int l4)]) ok dX1_writeLeaves_39 (by decide) rfl ?_
    refine zg_aload_n ok dX1_writeLeaves_41 rfl 2 rfl ?_
    refine zg_aload ok dX1_writeLeaves_42 0 rfl ?_
    refine zg_callV (vs := [zA v7]) (rest := []) (rm := rm_X4_bodiesIn) ok hRm lk_X1_208 dX1_writeLeaves_44 hE (fun hE => mt_X4_bodiesIn hl hE) rfl (Nat.le_of_ble_eq_true rfl) ⟨⟨Nat.le_of_ble_eq_true rfl, Nat.le_of_ble_eq_true rfl⟩, (by show kb + 0 ≤ 35; omega), (by show sb + 0 ≤ 19590; omega)⟩ (zg_retI (fun v8 h3 hE => ?_)) (zg_xok ok tab fin ⟨(by show kb + 0 ≤ 35; omega), (by show sb + 0 ≤ 19590; omega)⟩)
    refine zg_cost (kc2 := kb) (ks2 := sb) ⟨(by show kb + 0 = kb; omega), (by show sb + 0 = sb; omega)⟩ ?_
    refine zg_istoreR (L' := [(6, .int v8), (5, va_rf v7), (0, va_rf l0), (1, va_rf l1), (2, va_rf l2), (3, .int l3), (4, .int l4)]) ok dX1_writeLeaves_47 (by decide) 0 rfl rfl rfl ?_
    refine zg_aload_n ok dX1_writeLeaves_49 rfl 2 rfl ?_
    refine zg_getA ok lf_X1_51 dX1_writeLeaves_50 hE (fun v9 hE => ?_)
    refine zg_iload ok dX1_writeLeaves_53 0 rfl ?_
    refine zg_bipush (v := 10) ok dX1_writeLeaves_55 (by decide) ?_
    refine zg_icmp_ge (tgt := 68) ok dX1_writeLeaves_57 (by decide) hE (fun hE => ?_) (fun hE => ?_)
    · refine zg_bipush (v := 97) ok dX1_writeLeaves_68 (by decide) ?_
      refine zg_iload ok dX1_writeLeaves_70 0 rfl ?_
      refine zg_iadd ok dX1_writeLeaves_72 ?_
      refine zg_bipush (v := 10) ok dX1_writeLeaves_73 (by decide) ?_
      refine zg_isub ok dX1_writeLeaves_75 ?_
      refine zg_sub (L' := [(0, va_rf l0), (1, va_rf l1), (2, va_rf l2), (3, .int l3), (4, .int l4)]) [2, 3, 4, 5, 6] rfl ?_
      exact gt_f_X1_writeLeaves_J76 hl ok tab fin hRm hk hKE hR hk87 hE
    · refine zg_bipush (v := 48) ok dX1_writeLeaves_60 (by decide) ?_
      refine zg_iload ok dX1_writeLeaves_62 0 rfl ?_
      refine zg_iadd ok dX1_writeLeaves_64 ?_
      refine zg_goto (tgt := 76) ok dX1_writeLeaves_65 (by decide) ?_
      refine zg_sub (L' := [(0, va_rf l0), (1, va_rf l1), (2, va_rf l2), (3, .int l3), (4, .int l4)]) [2, 3, 4, 5, 6] rfl ?_
      exact gt_f_X1_writeLeaves_J76 hl ok tab fin hRm hk hKE hR hk87 hE
theorem gt_f_X1_writeLeaves_L29 {Xc : zw_X} {Q : Int32 → zw_H → Prop} {X : String → Nat → zw_H → Prop} (hl : (zw_l Xc).stackTraces = false) (ok : zw_ok Xc cX1_writeLeaves "MultipoleLine" yX1_writeLeaves.name 7) (tab : zw_tab Xc []) (fin : zw_fin Xc (Option.some Jvm.ClassFile.FieldType.int) (zq_I Q) X 35 19590) (hRm : zw_rm Xc = rm_X1_writeLeaves) {KE SE : Nat} (hKE : KE ≤ 35 ∧ SE ≤ 19590) {l0 : Option Nat} {l1 : Option Nat} {l2 : Option Nat} {l3 : Int32} {k87 : zw_H → Prop} (hk87 : ∀  (h : zw_H), k87  h → zw_G Xc KE SE 7 h 87 [(0, va_rf l0)] [])  : ∀ (n9 kb sb : Nat), kb + n9 * 1 ≤ KE ∧ sb + n9 * 576 ≤ SE → ∀ (l4 : Int32) (h : zw_H), zl2 (f_X1_writeLeaves_B29 (zw_Zf Xc).2.2.2 Q X k87 l0 l1 l2 l3) n9 l4 h → zw_G Xc kb sb 7 h 29 [(0, va_rf l0), (1, va_rf l1), (2, va_rf l2), (3, .int l3), (4, .int l4)] [] := by
  intro n9
  induction n9 with
  | zero => intro kb sb hk9 l4 h hE; exact hE.elim
  | succ n9 ih => intro kb sb hk9 l4 h hE; exact gt_f_X1_writeLeaves_B29 hl ok tab fin hRm ⟨by omega, by omega⟩ hKE (ih (kb + 1) (sb + 576) ⟨by omega, by omega⟩) hk87 hE
set_option maxHeartbeats 8000000 in
theorem mt_X1_writeLeaves {l : Launch} (hl : l.stackTraces = false) {Z : zw_Z} {a0 : Option Nat} {h : zw_H} {Q : Int32 → zw_H → Prop} {X : String → Nat → zw_H → Prop} (hE : f_X1_writeLeaves Z.2.2.2 a0 h Q X) : zw_Met l Z yX1_writeLeaves (ws_ yX1_writeLeaves cX1_writeLeaves 7 (Option.some Jvm.ClassFile.FieldType.int)) rm_X1_writeLeaves [zA a0] h (zq_I Q) X := by
  refine zg_start (own := "MultipoleLine") (by decide +kernel) rfl (Nat.le_of_ble_eq_true rfl) hl (fun Xc ok tab fin hRm hXl hXZ => ?_)
  subst hXl
  subst hXZ
  unfold f_X1_writeLeaves at hE
  refine zg_aload_n ok dX1_writeLeaves_0 rfl 0 rfl ?_
  refine zg_callV (vs := []) (rest := []) (rm := rm_X1_loaded) ok hRm lk_X1_76 dX1_writeLeaves_1 hE (fun hE => mt_X1_loaded hl hE) rfl (Nat.le_of_ble_eq_true rfl) ⟨⟨Nat.le_of_ble_eq_true rfl, Nat.le_of_ble_eq_true rfl⟩, Nat.le_of_ble_eq_true rfl, Nat.le_of_ble_eq_true rfl⟩ (zg_retA (fun v1 h1 hE => ?_)) (zg_xok ok tab fin ⟨Nat.le_of_ble_eq_true rfl, Nat.le_of_ble_eq_true rfl⟩)
  refine zg_cost (kc2 := 1) (ks2 := 6) ⟨rfl, rfl⟩ ?_
  refine zg_astore_nR (L' := [(1, va_rf v1), (0, va_rf a0)]) ok dX1_writeLeaves_4 rfl (by decide) 0 rfl rfl rfl ?_
  refine zg_aload_n ok dX1_writeLeaves_5 rfl 1 rfl ?_
  refine zg_getA ok lf_X1_51 dX1_writeLeaves_6 hE (fun v2 hE => ?_)
  refine zg_iconst (v := 0) ok dX1_writeLeaves_9 (by decide) ?_
  refine zg_callV (vs := [zI 0]) (rest := []) (rm := rm_J3_setLength) ok hRm lk_X1_400 dX1_writeLeaves_10 hE (fun hE => mt_J3_setLength hl hE) rfl (Nat.le_of_ble_eq_true rfl) ⟨⟨Nat.le_of_ble_eq_true rfl, Nat.le_of_ble_eq_true rfl⟩, Nat.le_of_ble_eq_true rfl, Nat.le_of_ble_eq_true rfl⟩ (zg_retV (fun h2 hE => ?_)) (zg_xok ok tab fin ⟨Nat.le_of_ble_eq_true rfl, Nat.le_of_ble_eq_true rfl⟩)
  refine zg_cost (kc2 := 2) (ks2 := 582) ⟨rfl, rfl⟩ ?_
  refine zg_aload_n ok dX1_writeLeaves_13 rfl 0 rfl ?_
  refine zg_getA ok lf_X1_403 dX1_writeLeaves_14 hE (fun v3 hE => ?_)
  refine zg_aload_n ok dX1_writeLeaves_17 rfl 0 rfl ?_
  refine zg_getI ok lf_X1_101 dX1_writeLeaves_18 hE (fun v4 hE => ?_)
  refine zg_aaldBB ok dX1_writeLeaves_21 hE (fun v5 hE => ?_)
  refine zg_astore_nR (L' := [(2, va_rf v5), (1, va_rf v1), (0, va_rf a0)]) ok dX1_writeLeaves_22 rfl (by decide) 0 rfl rfl rfl ?_
  refine zg_aload_n ok dX1_writeLeaves_23 rfl 0 rfl ?_
  refine zg_alen ok dX1_writeLeaves_24 hE (fun v6 hE => ?_)
  refine zg_istore_nR (L' := [(3, .int v6), (2, va_rf v5), (1, va_rf v1), (0, va_rf a0)]) ok dX1_writeLeaves_25 rfl (by decide) 0 rfl rfl rfl ?_
  refine zg_iconst (v := 0) ok dX1_writeLeaves_26 (by decide) ?_
  refine zg_istore (L' := [(4, .int 0), (3, .int v6), (2, va_rf v5), (1, va_rf v1), (0, va_rf a0)]) ok dX1_writeLeaves_27 (by decide) rfl ?_
  refine zg_sub (L' := [(0, va_rf a0), (1, va_rf v1), (2, va_rf v5), (3, .int v6), (4, .int 0)]) [4, 3, 2, 1, 0] rfl ?_
  refine gt_f_X1_writeLeaves_L29 (KE := 35) (SE := 19590) hl ok tab fin hRm ⟨Nat.le_of_ble_eq_true rfl, Nat.le_of_ble_eq_true rfl⟩ ?_ _ 2 582 ⟨Nat.le_of_ble_eq_true rfl, Nat.le_of_ble_eq_true rfl⟩ _ _ hE
  · intro h5 hE
    refine zg_aload_n ok dX1_writeLeaves_87 rfl 0 rfl ?_
    refine zg_getA ok lf_X1_51 dX1_writeLeaves_88 hE (fun v12 hE => ?_)
    refine zg_callV (vs := []) (rest := []) (rm := rm_J3_length) ok hRm lk_X1_411 dX1_writeLeaves_91 hE (fun hE => mt_J3_length hl hE) rfl (Nat.le_of_ble_eq_true rfl) ⟨⟨Nat.le_of_ble_eq_true rfl, Nat.le_of_ble_eq_true rfl⟩, Nat.le_of_ble_eq_true rfl, Nat.le_of_ble_eq_true rfl⟩ (zg_retI (fun v13 h6 hE => ?_)) (zg_xok ok tab fin ⟨Nat.le_of_ble_eq_true rfl, Nat.le_of_ble_eq_true rfl⟩)
    refine zg_cost (kc2 := 35) (ks2 := 19590) ⟨rfl, rfl⟩ ?_
    exact zg_iret ok fin dX1_writeLeaves_94 ⟨Nat.le_of_ble_eq_true rfl, Nat.le_of_ble_eq_true rfl⟩ hE
set_option maxHeartbeats 8000000 in
theorem mt_X8_sign {l : Launch} (hl : l.stackTraces = false) {Z : zw_Z} {a0 : Option Nat} {h : zw_H} {Q : Option Nat → zw_H → Prop} {X : String → Nat → zw_H → Prop} (hE : f_X8_sign Z.2.2.2 a0 h Q X) : zw_Met l Z yX8_sign (ws_ yX8_sign cX8_sign 1 (Option.some (Jvm.ClassFile.FieldType.object "java/lang/String"))) rm_X8_sign [zA a0] h (zq_A Q) X := by
  refine zg_start (own := "MultipoleLine$Fixed") (by decide +kernel) rfl (Nat.le_of_ble_eq_true rfl) hl (fun Xc ok tab fin hRm hXl hXZ => ?_)
  subst hXl
  subst hXZ
  unfold f_X8_sign at hE
  refine zg_ldcS ok ls_X8_10 dX8_sign_0 ?_
  exact zg_aret ok fin (Or.inl ⟨_, rfl⟩) dX8_sign_2 ⟨Nat.le_of_ble_eq_true rfl, Nat.le_of_ble_eq_true rfl⟩ hE
set_option maxHeartbeats 8000000 in
theorem mt_X9_sign {l : Launch} (hl : l.stackTraces = false) {Z : zw_Z} {a0 : Option Nat} {h : zw_H} {Q : Option Nat → zw_H → Prop} {X : String → Nat → zw_H → Prop} (hE : f_X9_sign Z.2.2.2 a0 h Q X) : zw_Met l Z yX9_sign (ws_ yX9_sign cX9_sign 1 (Option.some (Jvm.ClassFile.FieldType.object "java/lang/String"))) rm_X9_sign [zA a0] h (zq_A Q) X := by
  refine zg_start (own := "MultipoleLine$Free") (by decide +kernel) rfl (Nat.le_of_ble_eq_true rfl) hl (fun Xc ok tab fin hRm hXl hXZ => ?_)
  subst hXl
  subst hXZ
  unfold f_X9_sign at hE
  refine zg_ldcS ok ls_X9_10 dX9_sign_0 ?_
  exact zg_aret ok fin (Or.inl ⟨_, rfl⟩) dX9_sign_2 ⟨Nat.le_of_ble_eq_true rfl, Nat.le_of_ble_eq_true rfl⟩ hE
set_option maxHeartbeats 8000000 in
theorem gt_f_X1_writeBodies_J46 {Xc : zw_X} {Q : Int32 → zw_H → Prop} {X : String → Nat → zw_H → Prop} (hl : (zw_l Xc).stackTraces = false) (ok : zw_ok Xc cX1_writeBodies "MultipoleLine" yX1_writeBodies.name 4) (tab : zw_tab Xc []) (fin : zw_fin Xc (Option.some Jvm.ClassFile.FieldType.int) (zq_I Q) X 128 73158) (hRm : zw_rm Xc = rm_X1_writeBodies) {kb sb KE SE : Nat} (hk : kb + 5 ≤ KE ∧ sb + 2880 ≤ SE) (hKE : KE ≤ 128 ∧ SE ≤ 73158) {R : Int32 → zw_H → Prop} {l0 : Option Nat} {l1 : Option Nat} (hR : ∀ (l2 : Int32) (h : zw_H), R l2 h → zw_G Xc (kb + 5) (sb + 2880) 4 h 15 [(0, va_rf l0), (1, va_rf l1), (2, .int l2)] []) {k82 : zw_H → Prop} (hk82 : ∀  (h : zw_H), k82  h → zw_G Xc KE SE 4 h 82 [(0, va_rf l0), (1, va_rf l1)] [])  {l2 : Int32} {l3 : Option Nat} {s0 : Option Nat} {s1 : Option Nat} {h : zw_H} (hE : f_X1_writeBodies_J46 (zw_Zf Xc).2.2.2 Q X R k82 l0 l1 l2 l3 s0 s1 h) : zw_G Xc kb sb 4 h 46 [(0, va_rf l0), (1, va_rf l1), (2, .int l2), (3, va_rf l3)] [va_rf s0, va_rf s1] := by
  unfold f_X1_writeBodies_J46 at hE
  refine zg_callV (vs := [zA s0]) (rest := []) (rm := rm_J3_append_3) ok hRm lk_X1_418 dX1_writeBodies_46 hE (fun hE => mt_J3_append_3 hl hE) rfl (Nat.le_of_ble_eq_true rfl) ⟨⟨Nat.le_of_ble_eq_true rfl, Nat.le_of_ble_eq_true rfl⟩, (by show kb + 1 ≤ 128; omega), (by show sb + 576 ≤ 73158; omega)⟩ (zg_retA (fun v6 h5 hE => ?_)) (zg_xok ok tab fin ⟨(by show kb + 1 ≤ 128; omega), (by show sb + 576 ≤ 73158; omega)⟩)
  refine zg_cost (kc2 := kb + 1) (ks2 := sb + 576) ⟨(by show kb + 1 = kb + 1; omega), (by show sb + 576 = sb + 576; omega)⟩ ?_
  refine zg_aload_n ok dX1_writeBodies_49 rfl 3 rfl ?_
  refine zg_getI ok lf_X1_139 dX1_writeBodies_50 hE (fun v7 hE => ?_)
  refine zg_callV (vs := [zI v7]) (rest := []) (rm := rm_J3_append_2) ok hRm lk_X1_421 dX1_writeBodies_53 hE (fun hE => mt_J3_append_2 hl hE) rfl (Nat.le_of_ble_eq_true rfl) ⟨⟨Nat.le_of_ble_eq_true rfl, Nat.le_of_ble_eq_true rfl⟩, (by show kb + 1 + 1 ≤ 128; omega), (by show sb + 576 + 576 ≤ 73158; omega)⟩ (zg_retA (fun v8 h6 hE => ?_)) (zg_xok ok tab fin ⟨(by show kb + 1 + 1 ≤ 128; omega), (by show sb + 576 + 576 ≤ 73158; omega)⟩)
  refine zg_cost (kc2 := kb + 2) (ks2 := sb + 1152) ⟨(by show kb + 1 + 1 = kb + 2; omega), (by show sb + 576 + 576 = sb + 1152; omega)⟩ ?_
  refine zg_aload_n ok dX1_writeBodies_56 rfl 3 rfl ?_
  rcases od_some hE with ⟨a9, hr9, hE⟩ | ⟨a9, hr9, hE⟩
  · refine zg_callU (vs := []) (rest := [va_rf v8]) (rm := rm_X8_sign) ok hRm lk_X1_424_6 dX1_writeBodies_57 hE (fun hE => mt_X8_sign hl hE) rfl (Nat.le_of_ble_eq_true rfl) ⟨⟨Nat.le_of_ble_eq_true rfl, Nat.le_of_ble_eq_true rfl⟩, (by show kb + 2 + 0 ≤ 128; omega), (by show sb + 1152 + 0 ≤ 73158; omega)⟩ (zg_retA (fun v9 h7 hE => ?_)) (zg_xok ok tab fin ⟨(by show kb + 2 + 0 ≤ 128; omega), (by show sb + 1152 + 0 ≤ 73158; omega)⟩)
    refine zg_wide (kc2 := kb + 2) (ks2 := sb + 1152) (by show kb + 2 ≤ kb + 2; omega) (by show sb + 1152 ≤ sb + 1152; omega) ?_
    refine zg_callV (vs := [zA v9]) (rest := []) (rm := rm_J3_append_3) ok hRm lk_X1_418 dX1_writeBodies_60 hE (fun hE => mt_J3_append_3 hl hE) rfl (Nat.le_of_ble_eq_true rfl) ⟨⟨Nat.le_of_ble_eq_true rfl, Nat.le_of_ble_eq_true rfl⟩, (by show kb + 2 + 1 ≤ 128; omega), (by show sb + 1152 + 576 ≤ 73158; omega)⟩ (zg_retA (fun v10 h8 hE => ?_)) (zg_xok ok tab fin ⟨(by show kb + 2 + 1 ≤ 128; omega), (by show sb + 1152 + 576 ≤ 73158; omega)⟩)
    refine zg_cost (kc2 := kb + 3) (ks2 := sb + 1728) ⟨(by show kb + 2 + 1 = kb + 3; omega), (by show sb + 1152 + 576 = sb + 1728; omega)⟩ ?_
    refine zg_bipush (v := 58) ok dX1_writeBodies_63 (by decide) ?_
    refine zg_callV (vs := [zI 58]) (rest := []) (rm := rm_J3_append) ok hRm lk_X1_407 dX1_writeBodies_65 hE (fun hE => mt_J3_append hl hE) rfl (Nat.le_of_ble_eq_true rfl) ⟨⟨Nat.le_of_ble_eq_true rfl, Nat.le_of_ble_eq_true rfl⟩, (by show kb + 3 + 1 ≤ 128; omega), (by show sb + 1728 + 576 ≤ 73158; omega)⟩ (zg_retA (fun v11 h9 hE => ?_)) (zg_xok ok tab fin ⟨(by show kb + 3 + 1 ≤ 128; omega), (by show sb + 1728 + 576 ≤ 73158; omega)⟩)
    refine zg_cost (kc2 := kb + 4) (ks2 := sb + 2304) ⟨(by show kb + 3 + 1 = kb + 4; omega), (by show sb + 1728 + 576 = sb + 2304; omega)⟩ ?_
    refine zg_aload_n ok dX1_writeBodies_68 rfl 3 rfl ?_
    refine zg_getI ok lf_X1_177 dX1_writeBodies_69 hE (fun v12 hE => ?_)
    refine zg_callV (vs := [zI v12]) (rest := []) (rm := rm_J3_append_2) ok hRm lk_X1_421 dX1_writeBodies_72 hE (fun hE => mt_J3_append_2 hl hE) rfl (Nat.le_of_ble_eq_true rfl) ⟨⟨Nat.le_of_ble_eq_true rfl, Nat.le_of_ble_eq_true rfl⟩, (by show kb + 4 + 1 ≤ 128; omega), (by show sb + 2304 + 576 ≤ 73158; omega)⟩ (zg_retA (fun v13 h10 hE => ?_)) (zg_xok ok tab fin ⟨(by show kb + 4 + 1 ≤ 128; omega), (by show sb + 2304 + 576 ≤ 73158; omega)⟩)
    refine zg_cost (kc2 := kb + 5) (ks2 := sb + 2880) ⟨(by show kb + 4 + 1 = kb + 5; omega), (by show sb + 2304 + 576 = sb + 2880; omega)⟩ ?_
    refine zg_pop ok dX1_writeBodies_75 (zw_rfc _) ?_
    refine zg_iincLR (k := 2) (L' := fun v14 => [(2, .int v14), (0, va_rf l0), (1, va_rf l1), (3, va_rf l3)]) ok dX1_writeBodies_76 (by decide +kernel) hE rfl (by decide) rfl (k9 := 1) rfl (fun _ => rfl) (fun v14 hE => ?_)
    refine zg_goto (tgt := 15) ok dX1_writeBodies_79 (by decide) ?_
    refine zg_sub (L' := [(0, va_rf l0), (1, va_rf l1), (2, .int v14)]) [1, 2, 0] rfl ?_
    exact hR _ _ hE
  · refine zg_callU (vs := []) (rest := [va_rf v8]) (rm := rm_X9_sign) ok hRm lk_X1_424_7 dX1_writeBodies_57 hE (fun hE => mt_X9_sign hl hE) rfl (Nat.le_of_ble_eq_true rfl) ⟨⟨Nat.le_of_ble_eq_true rfl, Nat.le_of_ble_eq_true rfl⟩, (by show kb + 2 + 0 ≤ 128; omega), (by show sb + 1152 + 0 ≤ 73158; omega)⟩ (zg_retA (fun v9 h7 hE => ?_)) (zg_xok ok tab fin ⟨(by show kb + 2 + 0 ≤ 128; omega), (by show sb + 1152 + 0 ≤ 73158; omega)⟩)
    refine zg_wide (kc2 := kb + 2) (ks2 := sb + 1152) (by show kb + 2 ≤ kb + 2; omega) (by show sb + 1152 ≤ sb + 1152; omega) ?_
    refine zg_callV (vs := [zA v9]) (rest := []) (rm := rm_J3_append_3) ok hRm lk_X1_418 dX1_writeBodies_60 hE (fun hE => mt_J3_append_3 hl hE) rfl (Nat.le_of_ble_eq_true rfl) ⟨⟨Nat.le_of_ble_eq_true rfl, Nat.le_of_ble_eq_true rfl⟩, (by show kb + 2 + 1 ≤ 128; omega), (by show sb + 1152 + 576 ≤ 73158; omega)⟩ (zg_retA (fun v10 h8 hE => ?_)) (zg_xok ok tab fin ⟨(by show kb + 2 + 1 ≤ 128; omega), (by show sb + 1152 + 576 ≤ 73158; omega)⟩)
    refine zg_cost (kc2 := kb + 3) (ks2 := sb + 1728) ⟨(by show kb + 2 + 1 = kb + 3; omega), (by show sb + 1152 + 576 = sb + 1728; omega)⟩ ?_
    refine zg_bipush (v := 58) ok dX1_writeBodies_63 (by decide) ?_
    refine zg_callV (vs := [zI 58]) (rest := []) (rm := rm_J3_append) ok hRm lk_X1_407 dX1_writeBodies_65 hE (fun hE => mt_J3_append hl hE) rfl (Nat.le_of_ble_eq_true rfl) ⟨⟨Nat.le_of_ble_eq_true rfl, Nat.le_of_ble_eq_true rfl⟩, (by show kb + 3 + 1 ≤ 128; omega), (by show sb + 1728 + 576 ≤ 73158; omega)⟩ (zg_retA (fun v11 h9 hE => ?_)) (zg_xok ok tab fin ⟨(by show kb + 3 + 1 ≤ 128; omega), (by show sb + 1728 + 576 ≤ 73158; omega)⟩)
    refine zg_cost (kc2 := kb + 4) (ks2 := sb + 2304) ⟨(by show kb + 3 + 1 = kb + 4; omega), (by show sb + 1728 + 576 = sb + 2304; omega)⟩ ?_
    refine zg_aload_n ok dX1_writeBodies_68 rfl 3 rfl ?_
    refine zg_getI ok lf_X1_177 dX1_writeBodies_69 hE (fun v12 hE => ?_)
    refine zg_callV (vs := [zI v12]) (rest := []) (rm := rm_J3_append_2) ok hRm lk_X1_421 dX1_writeBodies_72 hE (fun hE => mt_J3_append_2 hl hE) rfl (Nat.le_of_ble_eq_true rfl) ⟨⟨Nat.le_of_ble_eq_true rfl, Nat.le_of_ble_eq_true rfl⟩, (by show kb + 4 + 1 ≤ 128; omega), (by show sb + 2304 + 576 ≤ 73158; omega)⟩ (zg_retA (fun v13 h10 hE => ?_)) (zg_xok ok tab fin ⟨(by show kb + 4 + 1 ≤ 128; omega), (by show sb + 2304 + 576 ≤ 73158; omega)⟩)
    refine zg_cost (kc2 := kb + 5) (ks2 := sb + 2880) ⟨(by show kb + 4 + 1 = kb + 5; omega), (by show sb + 2304 + 576 = sb + 2880; omega)⟩ ?_
    refine zg_pop ok dX1_writeBodies_75 (zw_rfc _) ?_
    refine zg_iincLR (k := 2) (L' := fun v14 => [(2, .int v14), (0, va_rf l0), (1, va_rf l1), (3, va_rf l3)]) ok dX1_writeBodies_76 (by decide +kernel) hE rfl (by decide) rfl (k9 := 1) rfl (fun _ => rfl) (fun v14 hE => ?_)
    refine zg_goto (tgt := 15) ok dX1_writeBodies_79 (by decide) ?_
    refine zg_sub (L' := [(0, va_rf l0), (1, va_rf l1), (2, .int v14)]) [1, 2, 0] rfl ?_
    exact hR _ _ hE
set_option maxHeartbeats 8000000 in
theorem gt_f_X1_writeBodies_B15 {Xc : zw_X} {Q : Int32 → zw_H → Prop} {X : String → Nat → zw_H → Prop} (hl : (zw_l Xc).stackTraces = false) (ok : zw_ok Xc cX1_writeBodies "MultipoleLine" yX1_writeBodies.name 4) (tab : zw_tab Xc []) (fin : zw_fin Xc (Option.some Jvm.ClassFile.FieldType.int) (zq_I Q) X 128 73158) (hRm : zw_rm Xc = rm_X1_writeBodies) {kb sb KE SE : Nat} (hk : kb + 5 ≤ KE ∧ sb + 2880 ≤ SE) (hKE : KE ≤ 128 ∧ SE ≤ 73158) {R : Int32 → zw_H → Prop} {l0 : Option Nat} {l1 : Option Nat} (hR : ∀ (l2 : Int32) (h : zw_H), R l2 h → zw_G Xc (kb + 5) (sb + 2880) 4 h 15 [(0, va_rf l0), (1, va_rf l1), (2, .int l2)] []) {k82 : zw_H → Prop} (hk82 : ∀  (h : zw_H), k82  h → zw_G Xc KE SE 4 h 82 [(0, va_rf l0), (1, va_rf l1)] [])  {l2 : Int32} {h : zw_H} (hE : f_X1_writeBodies_B15 (zw_Zf Xc).2.2.2 Q X k82 l0 l1 R l2 h) : zw_G Xc kb sb 4 h 15 [(0, va_rf l0), (1, va_rf l1), (2, .int l2)] [] := by
  unfold f_X1_writeBodies_B15 at hE
  refine zg_iload_n ok dX1_writeBodies_15 rfl 2 rfl ?_
  refine zg_aload_n ok dX1_writeBodies_16 rfl 1 rfl ?_
  refine zg_callV (vs := []) (rest := [.int l2]) (rm := rm_X4_size) ok hRm lk_X1_80 dX1_writeBodies_17 hE (fun hE => mt_X4_size hl hE) rfl (Nat.le_of_ble_eq_true rfl) ⟨⟨Nat.le_of_ble_eq_true rfl, Nat.le_of_ble_eq_true rfl⟩, (by show kb + 0 ≤ 128; omega), (by show sb + 0 ≤ 73158; omega)⟩ (zg_retI (fun v3 h3 hE => ?_)) (zg_xok ok tab fin ⟨(by show kb + 0 ≤ 128; omega), (by show sb + 0 ≤ 73158; omega)⟩)
  refine zg_cost (kc2 := kb) (ks2 := sb) ⟨(by show kb + 0 = kb; omega), (by show sb + 0 = sb; omega)⟩ ?_
  refine zg_icmp_ge (tgt := 82) ok dX1_writeBodies_20 (by decide) hE (fun hE => ?_) (fun hE => ?_)
  · refine zg_wide (kc2 := KE) (ks2 := SE) (by omega) (by omega) ?_
    refine zg_sub (L' := [(0, va_rf l0), (1, va_rf l1)]) [0, 1] rfl ?_
    exact hk82 _ hE
  · refine zg_aload_n ok dX1_writeBodies_23 rfl 1 rfl ?_
    refine zg_iload_n ok dX1_writeBodies_24 rfl 2 rfl ?_
    refine zg_callV (vs := [zI l2]) (rest := []) (rm := rm_X4_at) ok hRm lk_X1_88 dX1_writeBodies_25 hE (fun hE => mt_X4_at hl hE) rfl (Nat.le_of_ble_eq_true rfl) ⟨⟨Nat.le_of_ble_eq_true rfl, Nat.le_of_ble_eq_true rfl⟩, (by show kb + 0 ≤ 128; omega), (by show sb + 0 ≤ 73158; omega)⟩ (zg_retA (fun v4 h4 hE => ?_)) (zg_xok ok tab fin ⟨(by show kb + 0 ≤ 128; omega), (by show sb + 0 ≤ 73158; omega)⟩)
    refine zg_cost (kc2 := kb) (ks2 := sb) ⟨(by show kb + 0 = kb; omega), (by show sb + 0 = sb; omega)⟩ ?_
    refine zg_astore_n (L' := [(3, va_rf v4), (0, va_rf l0), (1, va_rf l1), (2, .int l2)]) ok dX1_writeBodies_28 rfl (by decide) rfl ?_
    refine zg_aload_n ok dX1_writeBodies_29 rfl 1 rfl ?_
    refine zg_getA ok lf_X1_51 dX1_writeBodies_30 hE (fun v5 hE => ?_)
    refine zg_iload_n ok dX1_writeBodies_33 rfl 3 rfl ?_
    refine zg_if_le (tgt := 43) ok dX1_writeBodies_34 (by decide) hE (fun hE => ?_) (fun hE => ?_)
    · refine zg_ldcSw ok ls_X1_416 dX1_writeBodies_43 ?_
      refine zg_sub (L' := [(0, va_rf l0), (1, va_rf l1), (2, .int l2), (3, va_rf v4)]) [1, 2, 3, 0] rfl ?_
      exact gt_f_X1_writeBodies_J46 hl ok tab fin hRm hk hKE hR hk82 hE
    · refine zg_ldcSw ok ls_X1_414 dX1_writeBodies_37 ?_
      refine zg_goto (tgt := 46) ok dX1_writeBodies_40 (by decide) ?_
      refine zg_sub (L' := [(0, va_rf l0), (1, va_rf l1), (2, .int l2), (3, va_rf v4)]) [1, 2, 3, 0] rfl ?_
      exact gt_f_X1_writeBodies_J46 hl ok tab fin hRm hk hKE hR hk82 hE
theorem gt_f_X1_writeBodies_L15 {Xc : zw_X} {Q : Int32 → zw_H → Prop} {X : String → Nat → zw_H → Prop} (hl : (zw_l Xc).stackTraces = false) (ok : zw_ok Xc cX1_writeBodies "MultipoleLine" yX1_writeBodies.name 4) (tab : zw_tab Xc []) (fin : zw_fin Xc (Option.some Jvm.ClassFile.FieldType.int) (zq_I Q) X 128 73158) (hRm : zw_rm Xc = rm_X1_writeBodies) {KE SE : Nat} (hKE : KE ≤ 128 ∧ SE ≤ 73158) {l0 : Option Nat} {l1 : Option Nat} {k82 : zw_H → Prop} (hk82 : ∀  (h : zw_H), k82  h → zw_G Xc KE SE 4 h 82 [(0, va_rf l0), (1, va_rf l1)] [])  : ∀ (n9 kb sb : Nat), kb + n9 * 5 ≤ KE ∧ sb + n9 * 2880 ≤ SE → ∀ (l2 : Int32) (h : zw_H), zl2 (f_X1_writeBodies_B15 (zw_Zf Xc).2.2.2 Q X k82 l0 l1) n9 l2 h → zw_G Xc kb sb 4 h 15 [(0, va_rf l0), (1, va_rf l1), (2, .int l2)] [] := by
  intro n9
  induction n9 with
  | zero => intro kb sb hk9 l2 h hE; exact hE.elim
  | succ n9 ih => intro kb sb hk9 l2 h hE; exact gt_f_X1_writeBodies_B15 hl ok tab fin hRm ⟨by omega, by omega⟩ hKE (ih (kb + 5) (sb + 2880) ⟨by omega, by omega⟩) hk82 hE
set_option maxHeartbeats 8000000 in
theorem gt_f_X1_writeBodies_J99 {Xc : zw_X} {Q : Int32 → zw_H → Prop} {X : String → Nat → zw_H → Prop} (hl : (zw_l Xc).stackTraces = false) (ok : zw_ok Xc cX1_writeBodies "MultipoleLine" yX1_writeBodies.name 4) (tab : zw_tab Xc []) (fin : zw_fin Xc (Option.some Jvm.ClassFile.FieldType.int) (zq_I Q) X 128 73158) (hRm : zw_rm Xc = rm_X1_writeBodies)  {l0 : Option Nat}  {h : zw_H} (hE : f_X1_writeBodies_J99 (zw_Zf Xc).2.2.2 Q X  l0 h) : zw_G Xc 128 73158 4 h 99 [(0, va_rf l0)] [] := by
  unfold f_X1_writeBodies_J99 at hE
  refine zg_aload_n ok dX1_writeBodies_99 rfl 0 rfl ?_
  refine zg_getA ok lf_X1_51 dX1_writeBodies_100 hE (fun v16 hE => ?_)
  refine zg_callV (vs := []) (rest := []) (rm := rm_J3_length) ok hRm lk_X1_411 dX1_writeBodies_103 hE (fun hE => mt_J3_length hl hE) rfl (Nat.le_of_ble_eq_true rfl) ⟨⟨Nat.le_of_ble_eq_true rfl, Nat.le_of_ble_eq_true rfl⟩, Nat.le_of_ble_eq_true rfl, Nat.le_of_ble_eq_true rfl⟩ (zg_retI (fun v17 h13 hE => ?_)) (zg_xok ok tab fin ⟨Nat.le_of_ble_eq_true rfl, Nat.le_of_ble_eq_true rfl⟩)
  refine zg_cost (kc2 := 128) (ks2 := 73158) ⟨rfl, rfl⟩ ?_
  exact zg_iret ok fin dX1_writeBodies_106 ⟨Nat.le_of_ble_eq_true rfl, Nat.le_of_ble_eq_true rfl⟩ hE
set_option maxHeartbeats 8000000 in
theorem mt_X1_writeBodies {l : Launch} (hl : l.stackTraces = false) {Z : zw_Z} {a0 : Option Nat} {h : zw_H} {Q : Int32 → zw_H → Prop} {X : String → Nat → zw_H → Prop} (hE : f_X1_writeBodies Z.2.2.2 a0 h Q X) : zw_Met l Z yX1_writeBodies (ws_ yX1_writeBodies cX1_writeBodies 4 (Option.some Jvm.ClassFile.FieldType.int)) rm_X1_writeBodies [zA a0] h (zq_I Q) X := by
  refine zg_start (own := "MultipoleLine") (by decide +kernel) rfl (Nat.le_of_ble_eq_true rfl) hl (fun Xc ok tab fin hRm hXl hXZ => ?_)
  subst hXl
  subst hXZ
  unfold f_X1_writeBodies at hE
  refine zg_aload_n ok dX1_writeBodies_0 rfl 0 rfl ?_
  refine zg_callV (vs := []) (rest := []) (rm := rm_X1_loaded) ok hRm lk_X1_76 dX1_writeBodies_1 hE (fun hE => mt_X1_loaded hl hE) rfl (Nat.le_of_ble_eq_true rfl) ⟨⟨Nat.le_of_ble_eq_true rfl, Nat.le_of_ble_eq_true rfl⟩, Nat.le_of_ble_eq_true rfl, Nat.le_of_ble_eq_true rfl⟩ (zg_retA (fun v1 h1 hE => ?_)) (zg_xok ok tab fin ⟨Nat.le_of_ble_eq_true rfl, Nat.le_of_ble_eq_true rfl⟩)
  refine zg_cost (kc2 := 1) (ks2 := 6) ⟨rfl, rfl⟩ ?_
  refine zg_astore_nR (L' := [(1, va_rf v1), (0, va_rf a0)]) ok dX1_writeBodies_4 rfl (by decide) 0 rfl rfl rfl ?_
  refine zg_aload_n ok dX1_writeBodies_5 rfl 1 rfl ?_
  refine zg_getA ok lf_X1_51 dX1_writeBodies_6 hE (fun v2 hE => ?_)
  refine zg_iconst (v := 0) ok dX1_writeBodies_9 (by decide) ?_
  refine zg_callV (vs := [zI 0]) (rest := []) (rm := rm_J3_setLength) ok hRm lk_X1_400 dX1_writeBodies_10 hE (fun hE => mt_J3_setLength hl hE) rfl (Nat.le_of_ble_eq_true rfl) ⟨⟨Nat.le_of_ble_eq_true rfl, Nat.le_of_ble_eq_true rfl⟩, Nat.le_of_ble_eq_true rfl, Nat.le_of_ble_eq_true rfl⟩ (zg_retV (fun h2 hE => ?_)) (zg_xok ok tab fin ⟨Nat.le_of_ble_eq_true rfl, Nat.le_of_ble_eq_true rfl⟩)
  refine zg_cost (kc2 := 2) (ks2 := 582) ⟨rfl, rfl⟩ ?_
  refine zg_iconst (v := 0) ok dX1_writeBodies_13 (by decide) ?_
  refine zg_istore_nR (L' := [(2, .int 0), (1, va_rf v1), (0, va_rf a0)]) ok dX1_writeBodies_14 rfl (by decide) 0 rfl rfl rfl ?_
  refine zg_sub (L' := [(0, va_rf a0), (1, va_rf v1), (2, .int 0)]) [2, 1, 0] rfl ?_
  refine gt_f_X1_writeBodies_L15 (KE := 127) (SE := 72582) hl ok tab fin hRm ⟨Nat.le_of_ble_eq_true rfl, Nat.le_of_ble_eq_true rfl⟩ ?_ _ 2 582 ⟨Nat.le_of_ble_eq_true rfl, Nat.le_of_ble_eq_true rfl⟩ _ _ hE
  · intro h11 hE
    refine zg_aload_n ok dX1_writeBodies_82 rfl 1 rfl ?_
    refine zg_callV (vs := []) (rest := []) (rm := rm_X4_size) ok hRm lk_X1_80 dX1_writeBodies_83 hE (fun hE => mt_X4_size hl hE) rfl (Nat.le_of_ble_eq_true rfl) ⟨⟨Nat.le_of_ble_eq_true rfl, Nat.le_of_ble_eq_true rfl⟩, Nat.le_of_ble_eq_true rfl, Nat.le_of_ble_eq_true rfl⟩ (zg_retI (fun v15 h12 hE => ?_)) (zg_xok ok tab fin ⟨Nat.le_of_ble_eq_true rfl, Nat.le_of_ble_eq_true rfl⟩)
    refine zg_cost (kc2 := 127) (ks2 := 72582) ⟨rfl, rfl⟩ ?_
    refine zg_if_ne (tgt := 99) ok dX1_writeBodies_86 (by decide) hE (fun hE => ?_) (fun hE => ?_)
    · refine zg_wide (kc2 := 128) (ks2 := 73158) (Nat.le_of_ble_eq_true rfl) (Nat.le_of_ble_eq_true rfl) ?_
      refine zg_sub (L' := [(0, va_rf a0)]) [0] rfl ?_
      exact gt_f_X1_writeBodies_J99 hl ok tab fin hRm  hE
    · refine zg_aload_n ok dX1_writeBodies_89 rfl 0 rfl ?_
      refine zg_getA ok lf_X1_51 dX1_writeBodies_90 hE (fun v18 hE => ?_)
      refine zg_bipush (v := 46) ok dX1_writeBodies_93 (by decide) ?_
      refine zg_callV (vs := [zI 46]) (rest := []) (rm := rm_J3_append) ok hRm lk_X1_407 dX1_writeBodies_95 hE (fun hE => mt_J3_append hl hE) rfl (Nat.le_of_ble_eq_true rfl) ⟨⟨Nat.le_of_ble_eq_true rfl, Nat.le_of_ble_eq_true rfl⟩, Nat.le_of_ble_eq_true rfl, Nat.le_of_ble_eq_true rfl⟩ (zg_retA (fun v19 h14 hE => ?_)) (zg_xok ok tab fin ⟨Nat.le_of_ble_eq_true rfl, Nat.le_of_ble_eq_true rfl⟩)
      refine zg_cost (kc2 := 128) (ks2 := 73158) ⟨rfl, rfl⟩ ?_
      refine zg_pop ok dX1_writeBodies_98 (zw_rfc _) ?_
      refine zg_sub (L' := [(0, va_rf a0)]) [0] rfl ?_
      exact gt_f_X1_writeBodies_J99 hl ok tab fin hRm  hE
set_option maxHeartbeats 8000000 in
theorem gt_f_X1_writeLine_B26 {Xc : zw_X} {Q : Int32 → zw_H → Prop} {X : String → Nat → zw_H → Prop} (hl : (zw_l Xc).stackTraces = false) (ok : zw_ok Xc cX1_writeLine "MultipoleLine" yX1_writeLine.name 4) (tab : zw_tab Xc []) (fin : zw_fin Xc (Option.some Jvm.ClassFile.FieldType.int) (zq_I Q) X 111 63366) (hRm : zw_rm Xc = rm_X1_writeLine) {kb sb KE SE : Nat} (hk : kb + 2 ≤ KE ∧ sb + 1152 ≤ SE) (hKE : KE ≤ 111 ∧ SE ≤ 63366) {R : Int32 → zw_H → Prop} {l0 : Option Nat} {l1 : Option Nat} (hR : ∀ (l2 : Int32) (h : zw_H), R l2 h → zw_G Xc (kb + 2) (sb + 1152) 4 h 26 [(0, va_rf l0), (1, va_rf l1), (2, .int l2)] []) {k56 : zw_H → Prop} (hk56 : ∀  (h : zw_H), k56  h → zw_G Xc KE SE 4 h 56 [(0, va_rf l0), (1, va_rf l1)] [])  {l2 : Int32} {h : zw_H} (hE : f_X1_writeLine_B26 (zw_Zf Xc).2.2.2 Q X k56 l0 l1 R l2 h) : zw_G Xc kb sb 4 h 26 [(0, va_rf l0), (1, va_rf l1), (2, .int l2)] [] := by
  unfold f_X1_writeLine_B26 at hE
  refine zg_iload_n ok dX1_writeLine_26 rfl 2 rfl ?_
  refine zg_bipush (v := 6) ok dX1_writeLine_27 (by decide) ?_
  refine zg_icmp_ge (tgt := 56) ok dX1_writeLine_29 (by decide) hE (fun hE => ?_) (fun hE => ?_)
  · refine zg_wide (kc2 := KE) (ks2 := SE) (by omega) (by omega) ?_
    refine zg_sub (L' := [(0, va_rf l0), (1, va_rf l1)]) [0, 1] rfl ?_
    exact hk56 _ hE
  · refine zg_aload_n ok dX1_writeLine_32 rfl 0 rfl ?_
    refine zg_getA ok lf_X1_51 dX1_writeLine_33 hE (fun v5 hE => ?_)
    refine zg_bipush (v := 32) ok dX1_writeLine_36 (by decide) ?_
    refine zg_callV (vs := [zI 32]) (rest := []) (rm := rm_J3_append) ok hRm lk_X1_407 dX1_writeLine_38 hE (fun hE => mt_J3_append hl hE) rfl (Nat.le_of_ble_eq_true rfl) ⟨⟨Nat.le_of_ble_eq_true rfl, Nat.le_of_ble_eq_true rfl⟩, (by show kb + 1 ≤ 111; omega), (by show sb + 576 ≤ 63366; omega)⟩ (zg_retA (fun v6 h4 hE => ?_)) (zg_xok ok tab fin ⟨(by show kb + 1 ≤ 111; omega), (by show sb + 576 ≤ 63366; omega)⟩)
    refine zg_cost (kc2 := kb + 1) (ks2 := sb + 576) ⟨(by show kb + 1 = kb + 1; omega), (by show sb + 576 = sb + 576; omega)⟩ ?_
    refine zg_aload_n ok dX1_writeLine_41 rfl 1 rfl ?_
    refine zg_iload_n ok dX1_writeLine_42 rfl 2 rfl ?_
    refine zg_callV (vs := [zI l2]) (rest := [va_rf v6]) (rm := rm_X4_number) ok hRm lk_X1_145 dX1_writeLine_43 hE (fun hE => mt_X4_number hl hE) rfl (Nat.le_of_ble_eq_true rfl) ⟨⟨Nat.le_of_ble_eq_true rfl, Nat.le_of_ble_eq_true rfl⟩, (by show kb + 1 + 0 ≤ 111; omega), (by show sb + 576 + 0 ≤ 63366; omega)⟩ (zg_retI (fun v7 h5 hE => ?_)) (zg_xok ok tab fin ⟨(by show kb + 1 + 0 ≤ 111; omega), (by show sb + 576 + 0 ≤ 63366; omega)⟩)
    refine zg_cost (kc2 := kb + 1) (ks2 := sb + 576) ⟨(by show kb + 1 + 0 = kb + 1; omega), (by show sb + 576 + 0 = sb + 576; omega)⟩ ?_
    refine zg_callV (vs := [zI v7]) (rest := []) (rm := rm_J3_append_2) ok hRm lk_X1_421 dX1_writeLine_46 hE (fun hE => mt_J3_append_2 hl hE) rfl (Nat.le_of_ble_eq_true rfl) ⟨⟨Nat.le_of_ble_eq_true rfl, Nat.le_of_ble_eq_true rfl⟩, (by show kb + 1 + 1 ≤ 111; omega), (by show sb + 576 + 576 ≤ 63366; omega)⟩ (zg_retA (fun v8 h6 hE => ?_)) (zg_xok ok tab fin ⟨(by show kb + 1 + 1 ≤ 111; omega), (by show sb + 576 + 576 ≤ 63366; omega)⟩)
    refine zg_cost (kc2 := kb + 2) (ks2 := sb + 1152) ⟨(by show kb + 1 + 1 = kb + 2; omega), (by show sb + 576 + 576 = sb + 1152; omega)⟩ ?_
    refine zg_pop ok dX1_writeLine_49 (zw_rfc _) ?_
    refine zg_iincLR (k := 2) (L' := fun v9 => [(2, .int v9), (0, va_rf l0), (1, va_rf l1)]) ok dX1_writeLine_50 (by decide +kernel) hE rfl (by decide) rfl (k9 := 1) rfl (fun _ => rfl) (fun v9 hE => ?_)
    refine zg_goto (tgt := 26) ok dX1_writeLine_53 (by decide) ?_
    refine zg_sub (L' := [(0, va_rf l0), (1, va_rf l1), (2, .int v9)]) [1, 2, 0] rfl ?_
    exact hR _ _ hE
theorem gt_f_X1_writeLine_L26 {Xc : zw_X} {Q : Int32 → zw_H → Prop} {X : String → Nat → zw_H → Prop} (hl : (zw_l Xc).stackTraces = false) (ok : zw_ok Xc cX1_writeLine "MultipoleLine" yX1_writeLine.name 4) (tab : zw_tab Xc []) (fin : zw_fin Xc (Option.some Jvm.ClassFile.FieldType.int) (zq_I Q) X 111 63366) (hRm : zw_rm Xc = rm_X1_writeLine) {KE SE : Nat} (hKE : KE ≤ 111 ∧ SE ≤ 63366) {l0 : Option Nat} {l1 : Option Nat} {k56 : zw_H → Prop} (hk56 : ∀  (h : zw_H), k56  h → zw_G Xc KE SE 4 h 56 [(0, va_rf l0), (1, va_rf l1)] [])  : ∀ (n9 kb sb : Nat), kb + n9 * 2 ≤ KE ∧ sb + n9 * 1152 ≤ SE → ∀ (l2 : Int32) (h : zw_H), zl2 (f_X1_writeLine_B26 (zw_Zf Xc).2.2.2 Q X k56 l0 l1) n9 l2 h → zw_G Xc kb sb 4 h 26 [(0, va_rf l0), (1, va_rf l1), (2, .int l2)] [] := by
  intro n9
  induction n9 with
  | zero => intro kb sb hk9 l2 h hE; exact hE.elim
  | succ n9 ih => intro kb sb hk9 l2 h hE; exact gt_f_X1_writeLine_B26 hl ok tab fin hRm ⟨by omega, by omega⟩ hKE (ih (kb + 2) (sb + 1152) ⟨by omega, by omega⟩) hk56 hE
set_option maxHeartbeats 8000000 in
theorem gt_f_X1_writeLine_J123 {Xc : zw_X} {Q : Int32 → zw_H → Prop} {X : String → Nat → zw_H → Prop} (hl : (zw_l Xc).stackTraces = false) (ok : zw_ok Xc cX1_writeLine "MultipoleLine" yX1_writeLine.name 4) (tab : zw_tab Xc []) (fin : zw_fin Xc (Option.some Jvm.ClassFile.FieldType.int) (zq_I Q) X 111 63366) (hRm : zw_rm Xc = rm_X1_writeLine) {kb sb KE SE : Nat} (hk : kb + 4 ≤ KE ∧ sb + 2304 ≤ SE) (hKE : KE ≤ 111 ∧ SE ≤ 63366) {R : Int32 → zw_H → Prop} {l0 : Option Nat} {l1 : Option Nat} (hR : ∀ (l2 : Int32) (h : zw_H), R l2 h → zw_G Xc (kb + 4) (sb + 2304) 4 h 58 [(0, va_rf l0), (1, va_rf l1), (2, .int l2)] []) {k143 : zw_H → Prop} (hk143 : ∀  (h : zw_H), k143  h → zw_G Xc KE SE 4 h 143 [(0, va_rf l0)] [])  {l2 : Int32} {l3 : Option Nat} {s0 : Option Nat} {s1 : Option Nat} {h : zw_H} (hE : f_X1_writeLine_J123 (zw_Zf Xc).2.2.2 Q X R k143 l0 l1 l2 l3 s0 s1 h) : zw_G Xc (kb + 2) (sb + 1152) 4 h 123 [(0, va_rf l0), (1, va_rf l1), (2, .int l2), (3, va_rf l3)] [va_rf s0, va_rf s1] := by
  unfold f_X1_writeLine_J123 at hE
  refine zg_callV (vs := [zA s0]) (rest := []) (rm := rm_J3_append_3) ok hRm lk_X1_418 dX1_writeLine_123 hE (fun hE => mt_J3_append_3 hl hE) rfl (Nat.le_of_ble_eq_true rfl) ⟨⟨Nat.le_of_ble_eq_true rfl, Nat.le_of_ble_eq_true rfl⟩, (by show kb + 2 + 1 ≤ 111; omega), (by show sb + 1152 + 576 ≤ 63366; omega)⟩ (zg_retA (fun v19 h12 hE => ?_)) (zg_xok ok tab fin ⟨(by show kb + 2 + 1 ≤ 111; omega), (by show sb + 1152 + 576 ≤ 63366; omega)⟩)
  refine zg_cost (kc2 := kb + 3) (ks2 := sb + 1728) ⟨(by show kb + 2 + 1 = kb + 3; omega), (by show sb + 1152 + 576 = sb + 1728; omega)⟩ ?_
  refine zg_aload_n ok dX1_writeLine_126 rfl 3 rfl ?_
  refine zg_getI ok lf_X1_177 dX1_writeLine_127 hE (fun v20 hE => ?_)
  refine zg_callS (vs := [zI v20]) (rest := [va_rf v19]) (rm := rm_J14_abs) ok hRm lk_X1_306 dX1_writeLine_130 hE (fun hE => mt_J14_abs hl hE) rfl (Nat.le_of_ble_eq_true rfl) ⟨⟨Nat.le_of_ble_eq_true rfl, Nat.le_of_ble_eq_true rfl⟩, (by show kb + 3 + 0 ≤ 111; omega), (by show sb + 1728 + 0 ≤ 63366; omega)⟩ (zg_retI (fun v21 h13 hE => ?_)) (zg_xok ok tab fin ⟨(by show kb + 3 + 0 ≤ 111; omega), (by show sb + 1728 + 0 ≤ 63366; omega)⟩)
  refine zg_cost (kc2 := kb + 3) (ks2 := sb + 1728) ⟨(by show kb + 3 + 0 = kb + 3; omega), (by show sb + 1728 + 0 = sb + 1728; omega)⟩ ?_
  refine zg_callV (vs := [zI v21]) (rest := []) (rm := rm_J3_append_2) ok hRm lk_X1_421 dX1_writeLine_133 hE (fun hE => mt_J3_append_2 hl hE) rfl (Nat.le_of_ble_eq_true rfl) ⟨⟨Nat.le_of_ble_eq_true rfl, Nat.le_of_ble_eq_true rfl⟩, (by show kb + 3 + 1 ≤ 111; omega), (by show sb + 1728 + 576 ≤ 63366; omega)⟩ (zg_retA (fun v22 h14 hE => ?_)) (zg_xok ok tab fin ⟨(by show kb + 3 + 1 ≤ 111; omega), (by show sb + 1728 + 576 ≤ 63366; omega)⟩)
  refine zg_cost (kc2 := kb + 4) (ks2 := sb + 2304) ⟨(by show kb + 3 + 1 = kb + 4; omega), (by show sb + 1728 + 576 = sb + 2304; omega)⟩ ?_
  refine zg_pop ok dX1_writeLine_136 (zw_rfc _) ?_
  refine zg_iincLR (k := 2) (L' := fun v23 => [(2, .int v23), (0, va_rf l0), (1, va_rf l1), (3, va_rf l3)]) ok dX1_writeLine_137 (by decide +kernel) hE rfl (by decide) rfl (k9 := 1) rfl (fun _ => rfl) (fun v23 hE => ?_)
  refine zg_goto (tgt := 58) ok dX1_writeLine_140 (by decide) ?_
  refine zg_sub (L' := [(0, va_rf l0), (1, va_rf l1), (2, .int v23)]) [1, 2, 0] rfl ?_
  exact hR _ _ hE
set_option maxHeartbeats 8000000 in
theorem gt_f_X1_writeLine_J92 {Xc : zw_X} {Q : Int32 → zw_H → Prop} {X : String → Nat → zw_H → Prop} (hl : (zw_l Xc).stackTraces = false) (ok : zw_ok Xc cX1_writeLine "MultipoleLine" yX1_writeLine.name 4) (tab : zw_tab Xc []) (fin : zw_fin Xc (Option.some Jvm.ClassFile.FieldType.int) (zq_I Q) X 111 63366) (hRm : zw_rm Xc = rm_X1_writeLine) {kb sb KE SE : Nat} (hk : kb + 4 ≤ KE ∧ sb + 2304 ≤ SE) (hKE : KE ≤ 111 ∧ SE ≤ 63366) {R : Int32 → zw_H → Prop} {l0 : Option Nat} {l1 : Option Nat} (hR : ∀ (l2 : Int32) (h : zw_H), R l2 h → zw_G Xc (kb + 4) (sb + 2304) 4 h 58 [(0, va_rf l0), (1, va_rf l1), (2, .int l2)] []) {k143 : zw_H → Prop} (hk143 : ∀  (h : zw_H), k143  h → zw_G Xc KE SE 4 h 143 [(0, va_rf l0)] [])  {l2 : Int32} {l3 : Option Nat} {s0 : Option Nat} {s1 : Option Nat} {h : zw_H} (hE : f_X1_writeLine_J92 (zw_Zf Xc).2.2.2 Q X R k143 l0 l1 l2 l3 s0 s1 h) : zw_G Xc kb sb 4 h 92 [(0, va_rf l0), (1, va_rf l1), (2, .int l2), (3, va_rf l3)] [va_rf s0, va_rf s1] := by
  unfold f_X1_writeLine_J92 at hE
  refine zg_callV (vs := [zA s0]) (rest := []) (rm := rm_J3_append_3) ok hRm lk_X1_418 dX1_writeLine_92 hE (fun hE => mt_J3_append_3 hl hE) rfl (Nat.le_of_ble_eq_true rfl) ⟨⟨Nat.le_of_ble_eq_true rfl, Nat.le_of_ble_eq_true rfl⟩, (by show kb + 1 ≤ 111; omega), (by show sb + 576 ≤ 63366; omega)⟩ (zg_retA (fun v14 h10 hE => ?_)) (zg_xok ok tab fin ⟨(by show kb + 1 ≤ 111; omega), (by show sb + 576 ≤ 63366; omega)⟩)
  refine zg_cost (kc2 := kb + 1) (ks2 := sb + 576) ⟨(by show kb + 1 = kb + 1; omega), (by show sb + 576 = sb + 576; omega)⟩ ?_
  refine zg_aload_n ok dX1_writeLine_95 rfl 3 rfl ?_
  refine zg_getI ok lf_X1_139 dX1_writeLine_96 hE (fun v15 hE => ?_)
  refine zg_callV (vs := [zI v15]) (rest := []) (rm := rm_J3_append_2) ok hRm lk_X1_421 dX1_writeLine_99 hE (fun hE => mt_J3_append_2 hl hE) rfl (Nat.le_of_ble_eq_true rfl) ⟨⟨Nat.le_of_ble_eq_true rfl, Nat.le_of_ble_eq_true rfl⟩, (by show kb + 1 + 1 ≤ 111; omega), (by show sb + 576 + 576 ≤ 63366; omega)⟩ (zg_retA (fun v16 h11 hE => ?_)) (zg_xok ok tab fin ⟨(by show kb + 1 + 1 ≤ 111; omega), (by show sb + 576 + 576 ≤ 63366; omega)⟩)
  refine zg_cost (kc2 := kb + 2) (ks2 := sb + 1152) ⟨(by show kb + 1 + 1 = kb + 2; omega), (by show sb + 576 + 576 = sb + 1152; omega)⟩ ?_
  refine zg_pop ok dX1_writeLine_102 (zw_rfc _) ?_
  refine zg_aload_n ok dX1_writeLine_103 rfl 0 rfl ?_
  refine zg_getA ok lf_X1_51 dX1_writeLine_104 hE (fun v17 hE => ?_)
  refine zg_aload_n ok dX1_writeLine_107 rfl 3 rfl ?_
  refine zg_getI ok lf_X1_177 dX1_writeLine_108 hE (fun v18 hE => ?_)
  refine zg_if_ge (tgt := 120) ok dX1_writeLine_111 (by decide) hE (fun hE => ?_) (fun hE => ?_)
  · refine zg_ldcSw ok ls_X1_414 dX1_writeLine_120 ?_
    exact gt_f_X1_writeLine_J123 hl ok tab fin hRm hk hKE hR hk143 hE
  · refine zg_ldcSw ok ls_X1_434 dX1_writeLine_114 ?_
    refine zg_goto (tgt := 123) ok dX1_writeLine_117 (by decide) ?_
    exact gt_f_X1_writeLine_J123 hl ok tab fin hRm hk hKE hR hk143 hE
set_option maxHeartbeats 8000000 in
theorem gt_f_X1_writeLine_B58 {Xc : zw_X} {Q : Int32 → zw_H → Prop} {X : String → Nat → zw_H → Prop} (hl : (zw_l Xc).stackTraces = false) (ok : zw_ok Xc cX1_writeLine "MultipoleLine" yX1_writeLine.name 4) (tab : zw_tab Xc []) (fin : zw_fin Xc (Option.some Jvm.ClassFile.FieldType.int) (zq_I Q) X 111 63366) (hRm : zw_rm Xc = rm_X1_writeLine) {kb sb KE SE : Nat} (hk : kb + 4 ≤ KE ∧ sb + 2304 ≤ SE) (hKE : KE ≤ 111 ∧ SE ≤ 63366) {R : Int32 → zw_H → Prop} {l0 : Option Nat} {l1 : Option Nat} (hR : ∀ (l2 : Int32) (h : zw_H), R l2 h → zw_G Xc (kb + 4) (sb + 2304) 4 h 58 [(0, va_rf l0), (1, va_rf l1), (2, .int l2)] []) {k143 : zw_H → Prop} (hk143 : ∀  (h : zw_H), k143  h → zw_G Xc KE SE 4 h 143 [(0, va_rf l0)] [])  {l2 : Int32} {h : zw_H} (hE : f_X1_writeLine_B58 (zw_Zf Xc).2.2.2 Q X k143 l0 l1 R l2 h) : zw_G Xc kb sb 4 h 58 [(0, va_rf l0), (1, va_rf l1), (2, .int l2)] [] := by
  unfold f_X1_writeLine_B58 at hE
  refine zg_iload_n ok dX1_writeLine_58 rfl 2 rfl ?_
  refine zg_aload_n ok dX1_writeLine_59 rfl 1 rfl ?_
  refine zg_callV (vs := []) (rest := [.int l2]) (rm := rm_X4_size) ok hRm lk_X1_80 dX1_writeLine_60 hE (fun hE => mt_X4_size hl hE) rfl (Nat.le_of_ble_eq_true rfl) ⟨⟨Nat.le_of_ble_eq_true rfl, Nat.le_of_ble_eq_true rfl⟩, (by show kb + 0 ≤ 111; omega), (by show sb + 0 ≤ 63366; omega)⟩ (zg_retI (fun v10 h8 hE => ?_)) (zg_xok ok tab fin ⟨(by show kb + 0 ≤ 111; omega), (by show sb + 0 ≤ 63366; omega)⟩)
  refine zg_cost (kc2 := kb) (ks2 := sb) ⟨(by show kb + 0 = kb; omega), (by show sb + 0 = sb; omega)⟩ ?_
  refine zg_icmp_ge (tgt := 143) ok dX1_writeLine_63 (by decide) hE (fun hE => ?_) (fun hE => ?_)
  · refine zg_wide (kc2 := KE) (ks2 := SE) (by omega) (by omega) ?_
    refine zg_sub (L' := [(0, va_rf l0)]) [0] rfl ?_
    exact hk143 _ hE
  · refine zg_aload_n ok dX1_writeLine_66 rfl 1 rfl ?_
    refine zg_iload_n ok dX1_writeLine_67 rfl 2 rfl ?_
    refine zg_callV (vs := [zI l2]) (rest := []) (rm := rm_X4_at) ok hRm lk_X1_88 dX1_writeLine_68 hE (fun hE => mt_X4_at hl hE) rfl (Nat.le_of_ble_eq_true rfl) ⟨⟨Nat.le_of_ble_eq_true rfl, Nat.le_of_ble_eq_true rfl⟩, (by show kb + 0 ≤ 111; omega), (by show sb + 0 ≤ 63366; omega)⟩ (zg_retA (fun v11 h9 hE => ?_)) (zg_xok ok tab fin ⟨(by show kb + 0 ≤ 111; omega), (by show sb + 0 ≤ 63366; omega)⟩)
    refine zg_cost (kc2 := kb) (ks2 := sb) ⟨(by show kb + 0 = kb; omega), (by show sb + 0 = sb; omega)⟩ ?_
    refine zg_astore_n (L' := [(3, va_rf v11), (0, va_rf l0), (1, va_rf l1), (2, .int l2)]) ok dX1_writeLine_71 rfl (by decide) rfl ?_
    refine zg_aload_n ok dX1_writeLine_72 rfl 1 rfl ?_
    refine zg_getA ok lf_X1_51 dX1_writeLine_73 hE (fun v12 hE => ?_)
    refine zg_aload_n ok dX1_writeLine_76 rfl 0 rfl ?_
    refine zg_getI ok lf_X1_18 dX1_writeLine_77 hE (fun v13 hE => ?_)
    refine zg_if_eq (tgt := 89) ok dX1_writeLine_80 (by decide) hE (fun hE => ?_) (fun hE => ?_)
    · refine zg_ldcSw ok ls_X1_432 dX1_writeLine_89 ?_
      refine zg_sub (L' := [(0, va_rf l0), (1, va_rf l1), (2, .int l2), (3, va_rf v11)]) [1, 2, 3, 0] rfl ?_
      exact gt_f_X1_writeLine_J92 hl ok tab fin hRm hk hKE hR hk143 hE
    · refine zg_ldcSw ok ls_X1_430 dX1_writeLine_83 ?_
      refine zg_goto (tgt := 92) ok dX1_writeLine_86 (by decide) ?_
      refine zg_sub (L' := [(0, va_rf l0), (1, va_rf l1), (2, .int l2), (3, va_rf v11)]) [1, 2, 3, 0] rfl ?_
      exact gt_f_X1_writeLine_J92 hl ok tab fin hRm hk hKE hR hk143 hE
theorem gt_f_X1_writeLine_L58 {Xc : zw_X} {Q : Int32 → zw_H → Prop} {X : String → Nat → zw_H → Prop} (hl : (zw_l Xc).stackTraces = false) (ok : zw_ok Xc cX1_writeLine "MultipoleLine" yX1_writeLine.name 4) (tab : zw_tab Xc []) (fin : zw_fin Xc (Option.some Jvm.ClassFile.FieldType.int) (zq_I Q) X 111 63366) (hRm : zw_rm Xc = rm_X1_writeLine) {KE SE : Nat} (hKE : KE ≤ 111 ∧ SE ≤ 63366) {l0 : Option Nat} {l1 : Option Nat} {k143 : zw_H → Prop} (hk143 : ∀  (h : zw_H), k143  h → zw_G Xc KE SE 4 h 143 [(0, va_rf l0)] [])  : ∀ (n9 kb sb : Nat), kb + n9 * 4 ≤ KE ∧ sb + n9 * 2304 ≤ SE → ∀ (l2 : Int32) (h : zw_H), zl2 (f_X1_writeLine_B58 (zw_Zf Xc).2.2.2 Q X k143 l0 l1) n9 l2 h → zw_G Xc kb sb 4 h 58 [(0, va_rf l0), (1, va_rf l1), (2, .int l2)] [] := by
  intro n9
  induction n9 with
  | zero => intro kb sb hk9 l2 h hE; exact hE.elim
  | succ n9 ih => intro kb sb hk9 l2 h hE; exact gt_f_X1_writeLine_B58 hl ok tab fin hRm ⟨by omega, by omega⟩ hKE (ih (kb + 4) (sb + 2304) ⟨by omega, by omega⟩) hk143 hE
set_option maxHeartbeats 8000000 in
theorem mt_X1_writeLine {l : Launch} (hl : l.stackTraces = false) {Z : zw_Z} {a0 : Option Nat} {h : zw_H} {Q : Int32 → zw_H → Prop} {X : String → Nat → zw_H → Prop} (hE : f_X1_writeLine Z.2.2.2 a0 h Q X) : zw_Met l Z yX1_writeLine (ws_ yX1_writeLine cX1_writeLine 4 (Option.some Jvm.ClassFile.FieldType.int)) rm_X1_writeLine [zA a0] h (zq_I Q) X := by
  refine zg_start (own := "MultipoleLine") (by decide +kernel) rfl (Nat.le_of_ble_eq_true rfl) hl (fun Xc ok tab fin hRm hXl hXZ => ?_)
  subst hXl
  subst hXZ
  unfold f_X1_writeLine at hE
  refine zg_aload_n ok dX1_writeLine_0 rfl 0 rfl ?_
  refine zg_callV (vs := []) (rest := []) (rm := rm_X1_loaded) ok hRm lk_X1_76 dX1_writeLine_1 hE (fun hE => mt_X1_loaded hl hE) rfl (Nat.le_of_ble_eq_true rfl) ⟨⟨Nat.le_of_ble_eq_true rfl, Nat.le_of_ble_eq_true rfl⟩, Nat.le_of_ble_eq_true rfl, Nat.le_of_ble_eq_true rfl⟩ (zg_retA (fun v1 h1 hE => ?_)) (zg_xok ok tab fin ⟨Nat.le_of_ble_eq_true rfl, Nat.le_of_ble_eq_true rfl⟩)
  refine zg_cost (kc2 := 1) (ks2 := 6) ⟨rfl, rfl⟩ ?_
  refine zg_astore_nR (L' := [(1, va_rf v1), (0, va_rf a0)]) ok dX1_writeLine_4 rfl (by decide) 0 rfl rfl rfl ?_
  refine zg_aload_n ok dX1_writeLine_5 rfl 1 rfl ?_
  refine zg_getA ok lf_X1_51 dX1_writeLine_6 hE (fun v2 hE => ?_)
  refine zg_iconst (v := 0) ok dX1_writeLine_9 (by decide) ?_
  refine zg_callV (vs := [zI 0]) (rest := []) (rm := rm_J3_setLength) ok hRm lk_X1_400 dX1_writeLine_10 hE (fun hE => mt_J3_setLength hl hE) rfl (Nat.le_of_ble_eq_true rfl) ⟨⟨Nat.le_of_ble_eq_true rfl, Nat.le_of_ble_eq_true rfl⟩, Nat.le_of_ble_eq_true rfl, Nat.le_of_ble_eq_true rfl⟩ (zg_retV (fun h2 hE => ?_)) (zg_xok ok tab fin ⟨Nat.le_of_ble_eq_true rfl, Nat.le_of_ble_eq_true rfl⟩)
  refine zg_cost (kc2 := 2) (ks2 := 582) ⟨rfl, rfl⟩ ?_
  refine zg_aload_n ok dX1_writeLine_13 rfl 1 rfl ?_
  refine zg_getA ok lf_X1_51 dX1_writeLine_14 hE (fun v3 hE => ?_)
  refine zg_ldcSw ok ls_X1_428 dX1_writeLine_17 ?_
  refine zg_callV (vs := [zA ((zw_Zf Xc).2.2.2 12)]) (rest := []) (rm := rm_J3_append_3) ok hRm lk_X1_418 dX1_writeLine_20 hE (fun hE => mt_J3_append_3 hl hE) rfl (Nat.le_of_ble_eq_true rfl) ⟨⟨Nat.le_of_ble_eq_true rfl, Nat.le_of_ble_eq_true rfl⟩, Nat.le_of_ble_eq_true rfl, Nat.le_of_ble_eq_true rfl⟩ (zg_retA (fun v4 h3 hE => ?_)) (zg_xok ok tab fin ⟨Nat.le_of_ble_eq_true rfl, Nat.le_of_ble_eq_true rfl⟩)
  refine zg_cost (kc2 := 3) (ks2 := 1158) ⟨rfl, rfl⟩ ?_
  refine zg_pop ok dX1_writeLine_23 (zw_rfc _) ?_
  refine zg_iconst (v := 3) ok dX1_writeLine_24 (by decide) ?_
  refine zg_istore_nR (L' := [(2, .int 3), (1, va_rf v1), (0, va_rf a0)]) ok dX1_writeLine_25 rfl (by decide) 0 rfl rfl rfl ?_
  refine zg_sub (L' := [(0, va_rf a0), (1, va_rf v1), (2, .int 3)]) [2, 1, 0] rfl ?_
  refine gt_f_X1_writeLine_L26 (KE := 11) (SE := 5766) hl ok tab fin hRm ⟨Nat.le_of_ble_eq_true rfl, Nat.le_of_ble_eq_true rfl⟩ ?_ _ 3 1158 ⟨Nat.le_of_ble_eq_true rfl, Nat.le_of_ble_eq_true rfl⟩ _ _ hE
  · intro h7 hE
    refine zg_iconst (v := 0) ok dX1_writeLine_56 (by decide) ?_
    refine zg_istore_nR (L' := [(2, .int 0), (0, va_rf a0), (1, va_rf v1)]) ok dX1_writeLine_57 rfl (by decide) 1 rfl rfl rfl ?_
    refine zg_sub (L' := [(0, va_rf a0), (1, va_rf v1), (2, .int 0)]) [1, 2, 0] rfl ?_
    refine gt_f_X1_writeLine_L58 (KE := 111) (SE := 63366) hl ok tab fin hRm ⟨Nat.le_of_ble_eq_true rfl, Nat.le_of_ble_eq_true rfl⟩ ?_ _ 11 5766 ⟨Nat.le_of_ble_eq_true rfl, Nat.le_of_ble_eq_true rfl⟩ _ _ hE
    · intro h15 hE
      refine zg_aload_n ok dX1_writeLine_143 rfl 0 rfl ?_
      refine zg_getA ok lf_X1_51 dX1_writeLine_144 hE (fun v24 hE => ?_)
      refine zg_callV (vs := []) (rest := []) (rm := rm_J3_length) ok hRm lk_X1_411 dX1_writeLine_147 hE (fun hE => mt_J3_length hl hE) rfl (Nat.le_of_ble_eq_true rfl) ⟨⟨Nat.le_of_ble_eq_true rfl, Nat.le_of_ble_eq_true rfl⟩, Nat.le_of_ble_eq_true rfl, Nat.le_of_ble_eq_true rfl⟩ (zg_retI (fun v25 h16 hE => ?_)) (zg_xok ok tab fin ⟨Nat.le_of_ble_eq_true rfl, Nat.le_of_ble_eq_true rfl⟩)
      refine zg_cost (kc2 := 111) (ks2 := 63366) ⟨rfl, rfl⟩ ?_
      exact zg_iret ok fin dX1_writeLine_150 ⟨Nat.le_of_ble_eq_true rfl, Nat.le_of_ble_eq_true rfl⟩ hE
set_option maxHeartbeats 8000000 in
theorem gt_f_X1_writeFar_J56 {Xc : zw_X} {Q : Int32 → zw_H → Prop} {X : String → Nat → zw_H → Prop} (hl : (zw_l Xc).stackTraces = false) (ok : zw_ok Xc cX1_writeFar "MultipoleLine" yX1_writeFar.name 6) (tab : zw_tab Xc []) (fin : zw_fin Xc (Option.some Jvm.ClassFile.FieldType.int) (zq_I Q) X 104 58764) (hRm : zw_rm Xc = rm_X1_writeFar) {kb sb KE SE : Nat} (hk : kb + 4 ≤ KE ∧ sb + 2304 ≤ SE) (hKE : KE ≤ 104 ∧ SE ≤ 58764) {R : Int32 → zw_H → Prop} {l0 : Option Nat} {l2 : Option Nat} {l3 : Int32} (hR : ∀ (l4 : Int32) (h : zw_H), R l4 h → zw_G Xc (kb + 4) (sb + 2304) 6 h 23 [(0, va_rf l0), (2, va_rf l2), (3, .int l3), (4, .int l4)] []) {k87 : zw_H → Prop} (hk87 : ∀  (h : zw_H), k87  h → zw_G Xc KE SE 6 h 87 [(0, va_rf l0), (3, .int l3)] [])  {l4 : Int32} {l5 : Option Nat} {s0 : Option Nat} {s1 : Option Nat} {h : zw_H} (hE : f_X1_writeFar_J56 (zw_Zf Xc).2.2.2 Q X R k87 l0 l2 l3 l4 l5 s0 s1 h) : zw_G Xc kb sb 6 h 56 [(0, va_rf l0), (2, va_rf l2), (3, .int l3), (4, .int l4), (5, va_rf l5)] [va_rf s0, va_rf s1] := by
  unfold f_X1_writeFar_J56 at hE
  refine zg_callV (vs := [zA s0]) (rest := []) (rm := rm_J3_append_3) ok hRm lk_X1_418 dX1_writeFar_56 hE (fun hE => mt_J3_append_3 hl hE) rfl (Nat.le_of_ble_eq_true rfl) ⟨⟨Nat.le_of_ble_eq_true rfl, Nat.le_of_ble_eq_true rfl⟩, (by show kb + 1 ≤ 104; omega), (by show sb + 576 ≤ 58764; omega)⟩ (zg_retA (fun v7 h4 hE => ?_)) (zg_xok ok tab fin ⟨(by show kb + 1 ≤ 104; omega), (by show sb + 576 ≤ 58764; omega)⟩)
  refine zg_cost (kc2 := kb + 1) (ks2 := sb + 576) ⟨(by show kb + 1 = kb + 1; omega), (by show sb + 576 = sb + 576; omega)⟩ ?_
  refine zg_aload ok dX1_writeFar_59 4 rfl ?_
  refine zg_getI ok lf_X1_277 dX1_writeFar_61 hE (fun v8 hE => ?_)
  refine zg_callV (vs := [zI v8]) (rest := []) (rm := rm_J3_append_2) ok hRm lk_X1_421 dX1_writeFar_64 hE (fun hE => mt_J3_append_2 hl hE) rfl (Nat.le_of_ble_eq_true rfl) ⟨⟨Nat.le_of_ble_eq_true rfl, Nat.le_of_ble_eq_true rfl⟩, (by show kb + 1 + 1 ≤ 104; omega), (by show sb + 576 + 576 ≤ 58764; omega)⟩ (zg_retA (fun v9 h5 hE => ?_)) (zg_xok ok tab fin ⟨(by show kb + 1 + 1 ≤ 104; omega), (by show sb + 576 + 576 ≤ 58764; omega)⟩)
  refine zg_cost (kc2 := kb + 2) (ks2 := sb + 1152) ⟨(by show kb + 1 + 1 = kb + 2; omega), (by show sb + 576 + 576 = sb + 1152; omega)⟩ ?_
  refine zg_bipush (v := 47) ok dX1_writeFar_67 (by decide) ?_
  refine zg_callV (vs := [zI 47]) (rest := []) (rm := rm_J3_append) ok hRm lk_X1_407 dX1_writeFar_69 hE (fun hE => mt_J3_append hl hE) rfl (Nat.le_of_ble_eq_true rfl) ⟨⟨Nat.le_of_ble_eq_true rfl, Nat.le_of_ble_eq_true rfl⟩, (by show kb + 2 + 1 ≤ 104; omega), (by show sb + 1152 + 576 ≤ 58764; omega)⟩ (zg_retA (fun v10 h6 hE => ?_)) (zg_xok ok tab fin ⟨(by show kb + 2 + 1 ≤ 104; omega), (by show sb + 1152 + 576 ≤ 58764; omega)⟩)
  refine zg_cost (kc2 := kb + 3) (ks2 := sb + 1728) ⟨(by show kb + 2 + 1 = kb + 3; omega), (by show sb + 1152 + 576 = sb + 1728; omega)⟩ ?_
  refine zg_aload ok dX1_writeFar_72 4 rfl ?_
  refine zg_getI ok lf_X1_188 dX1_writeFar_74 hE (fun v11 hE => ?_)
  refine zg_callV (vs := [zI v11]) (rest := []) (rm := rm_J3_append_2) ok hRm lk_X1_421 dX1_writeFar_77 hE (fun hE => mt_J3_append_2 hl hE) rfl (Nat.le_of_ble_eq_true rfl) ⟨⟨Nat.le_of_ble_eq_true rfl, Nat.le_of_ble_eq_true rfl⟩, (by show kb + 3 + 1 ≤ 104; omega), (by show sb + 1728 + 576 ≤ 58764; omega)⟩ (zg_retA (fun v12 h7 hE => ?_)) (zg_xok ok tab fin ⟨(by show kb + 3 + 1 ≤ 104; omega), (by show sb + 1728 + 576 ≤ 58764; omega)⟩)
  refine zg_cost (kc2 := kb + 4) (ks2 := sb + 2304) ⟨(by show kb + 3 + 1 = kb + 4; omega), (by show sb + 1728 + 576 = sb + 2304; omega)⟩ ?_
  refine zg_pop ok dX1_writeFar_80 (zw_rfc _) ?_
  refine zg_iincL (k := 3) (L' := fun v13 => [(4, .int v13), (0, va_rf l0), (2, va_rf l2), (3, .int l3), (5, va_rf l5)]) ok dX1_writeFar_81 (by decide +kernel) hE rfl (by decide) (fun _ => rfl) (fun v13 hE => ?_)
  refine zg_goto (tgt := 23) ok dX1_writeFar_84 (by decide) ?_
  refine zg_sub (L' := [(0, va_rf l0), (2, va_rf l2), (3, .int l3), (4, .int v13)]) [1, 2, 3, 0] rfl ?_
  exact hR _ _ hE
set_option maxHeartbeats 8000000 in
theorem gt_f_X1_writeFar_B23 {Xc : zw_X} {Q : Int32 → zw_H → Prop} {X : String → Nat → zw_H → Prop} (hl : (zw_l Xc).stackTraces = false) (ok : zw_ok Xc cX1_writeFar "MultipoleLine" yX1_writeFar.name 6) (tab : zw_tab Xc []) (fin : zw_fin Xc (Option.some Jvm.ClassFile.FieldType.int) (zq_I Q) X 104 58764) (hRm : zw_rm Xc = rm_X1_writeFar) {kb sb KE SE : Nat} (hk : kb + 4 ≤ KE ∧ sb + 2304 ≤ SE) (hKE : KE ≤ 104 ∧ SE ≤ 58764) {R : Int32 → zw_H → Prop} {l0 : Option Nat} {l2 : Option Nat} {l3 : Int32} (hR : ∀ (l4 : Int32) (h : zw_H), R l4 h → zw_G Xc (kb + 4) (sb + 2304) 6 h 23 [(0, va_rf l0), (2, va_rf l2), (3, .int l3), (4, .int l4)] []) {k87 : zw_H → Prop} (hk87 : ∀  (h : zw_H), k87  h → zw_G Xc KE SE 6 h 87 [(0, va_rf l0), (3, .int l3)] [])  {l4 : Int32} {h : zw_H} (hE : f_X1_writeFar_B23 (zw_Zf Xc).2.2.2 Q X k87 l0 l2 l3 R l4 h) : zw_G Xc kb sb 6 h 23 [(0, va_rf l0), (2, va_rf l2), (3, .int l3), (4, .int l4)] [] := by
  unfold f_X1_writeFar_B23 at hE
  refine zg_iload ok dX1_writeFar_23 3 rfl ?_
  refine zg_iload_n ok dX1_writeFar_25 rfl 2 rfl ?_
  refine zg_icmp_ge (tgt := 87) ok dX1_writeFar_26 (by decide) hE (fun hE => ?_) (fun hE => ?_)
  · refine zg_wide (kc2 := KE) (ks2 := SE) (by omega) (by omega) ?_
    refine zg_sub (L' := [(0, va_rf l0), (3, .int l3)]) [0, 2] rfl ?_
    exact hk87 _ hE
  · refine zg_aload_n ok dX1_writeFar_29 rfl 1 rfl ?_
    refine zg_getA ok lf_X1_273 dX1_writeFar_30 hE (fun v4 hE => ?_)
    refine zg_iload ok dX1_writeFar_33 3 rfl ?_
    refine zg_aaldB ok dX1_writeFar_35 hE (fun v5 hE => ?_)
    refine zg_astore (L' := [(5, va_rf v5), (0, va_rf l0), (2, va_rf l2), (3, .int l3), (4, .int l4)]) ok dX1_writeFar_36 (by decide) rfl ?_
    refine zg_aload_n ok dX1_writeFar_38 rfl 1 rfl ?_
    refine zg_getA ok lf_X1_51 dX1_writeFar_39 hE (fun v6 hE => ?_)
    refine zg_iload ok dX1_writeFar_42 4 rfl ?_
    refine zg_if_le (tgt := 53) ok dX1_writeFar_44 (by decide) hE (fun hE => ?_) (fun hE => ?_)
    · refine zg_ldcSw ok ls_X1_416 dX1_writeFar_53 ?_
      refine zg_sub (L' := [(0, va_rf l0), (2, va_rf l2), (3, .int l3), (4, .int l4), (5, va_rf v5)]) [1, 2, 3, 4, 0] rfl ?_
      exact gt_f_X1_writeFar_J56 hl ok tab fin hRm hk hKE hR hk87 hE
    · refine zg_ldcSw ok ls_X1_414 dX1_writeFar_47 ?_
      refine zg_goto (tgt := 56) ok dX1_writeFar_50 (by decide) ?_
      refine zg_sub (L' := [(0, va_rf l0), (2, va_rf l2), (3, .int l3), (4, .int l4), (5, va_rf v5)]) [1, 2, 3, 4, 0] rfl ?_
      exact gt_f_X1_writeFar_J56 hl ok tab fin hRm hk hKE hR hk87 hE
theorem gt_f_X1_writeFar_L23 {Xc : zw_X} {Q : Int32 → zw_H → Prop} {X : String → Nat → zw_H → Prop} (hl : (zw_l Xc).stackTraces = false) (ok : zw_ok Xc cX1_writeFar "MultipoleLine" yX1_writeFar.name 6) (tab : zw_tab Xc []) (fin : zw_fin Xc (Option.some Jvm.ClassFile.FieldType.int) (zq_I Q) X 104 58764) (hRm : zw_rm Xc = rm_X1_writeFar) {KE SE : Nat} (hKE : KE ≤ 104 ∧ SE ≤ 58764) {l0 : Option Nat} {l2 : Option Nat} {l3 : Int32} {k87 : zw_H → Prop} (hk87 : ∀  (h : zw_H), k87  h → zw_G Xc KE SE 6 h 87 [(0, va_rf l0), (3, .int l3)] [])  : ∀ (n9 kb sb : Nat), kb + n9 * 4 ≤ KE ∧ sb + n9 * 2304 ≤ SE → ∀ (l4 : Int32) (h : zw_H), zl2 (f_X1_writeFar_B23 (zw_Zf Xc).2.2.2 Q X k87 l0 l2 l3) n9 l4 h → zw_G Xc kb sb 6 h 23 [(0, va_rf l0), (2, va_rf l2), (3, .int l3), (4, .int l4)] [] := by
  intro n9
  induction n9 with
  | zero => intro kb sb hk9 l4 h hE; exact hE.elim
  | succ n9 ih => intro kb sb hk9 l4 h hE; exact gt_f_X1_writeFar_B23 hl ok tab fin hRm ⟨by omega, by omega⟩ hKE (ih (kb + 4) (sb + 2304) ⟨by omega, by omega⟩) hk87 hE
set_option maxHeartbeats 8000000 in
theorem gt_f_X1_writeFar_J101 {Xc : zw_X} {Q : Int32 → zw_H → Prop} {X : String → Nat → zw_H → Prop} (hl : (zw_l Xc).stackTraces = false) (ok : zw_ok Xc cX1_writeFar "MultipoleLine" yX1_writeFar.name 6) (tab : zw_tab Xc []) (fin : zw_fin Xc (Option.some Jvm.ClassFile.FieldType.int) (zq_I Q) X 104 58764) (hRm : zw_rm Xc = rm_X1_writeFar)  {l0 : Option Nat}  {h : zw_H} (hE : f_X1_writeFar_J101 (zw_Zf Xc).2.2.2 Q X  l0 h) : zw_G Xc 104 58764 6 h 101 [(0, va_rf l0)] [] := by
  unfold f_X1_writeFar_J101 at hE
  refine zg_aload_n ok dX1_writeFar_101 rfl 0 rfl ?_
  refine zg_getA ok lf_X1_51 dX1_writeFar_102 hE (fun v14 hE => ?_)
  refine zg_callV (vs := []) (rest := []) (rm := rm_J3_length) ok hRm lk_X1_411 dX1_writeFar_105 hE (fun hE => mt_J3_length hl hE) rfl (Nat.le_of_ble_eq_true rfl) ⟨⟨Nat.le_of_ble_eq_true rfl, Nat.le_of_ble_eq_true rfl⟩, Nat.le_of_ble_eq_true rfl, Nat.le_of_ble_eq_true rfl⟩ (zg_retI (fun v15 h9 hE => ?_)) (zg_xok ok tab fin ⟨Nat.le_of_ble_eq_true rfl, Nat.le_of_ble_eq_true rfl⟩)
  refine zg_cost (kc2 := 104) (ks2 := 58764) ⟨rfl, rfl⟩ ?_
  exact zg_iret ok fin dX1_writeFar_108 ⟨Nat.le_of_ble_eq_true rfl, Nat.le_of_ble_eq_true rfl⟩ hE
set_option maxHeartbeats 8000000 in
theorem mt_X1_writeFar {l : Launch} (hl : l.stackTraces = false) {Z : zw_Z} {a0 : Option Nat} {a1 : Int32} {h : zw_H} {Q : Int32 → zw_H → Prop} {X : String → Nat → zw_H → Prop} (hE : f_X1_writeFar Z.2.2.2 a0 a1 h Q X) : zw_Met l Z yX1_writeFar (ws_ yX1_writeFar cX1_writeFar 6 (Option.some Jvm.ClassFile.FieldType.int)) rm_X1_writeFar [zA a0, zI a1] h (zq_I Q) X := by
  refine zg_start (own := "MultipoleLine") (by decide +kernel) rfl (Nat.le_of_ble_eq_true rfl) hl (fun Xc ok tab fin hRm hXl hXZ => ?_)
  subst hXl
  subst hXZ
  unfold f_X1_writeFar at hE
  refine zg_aload_n ok dX1_writeFar_0 rfl 0 rfl ?_
  refine zg_iload_n ok dX1_writeFar_1 rfl 1 rfl ?_
  refine zg_callV (vs := [zI a1]) (rest := []) (rm := rm_X1_at) ok hRm lk_X1_193 dX1_writeFar_2 hE (fun hE => mt_X1_at hl hE) rfl (Nat.le_of_ble_eq_true rfl) ⟨⟨Nat.le_of_ble_eq_true rfl, Nat.le_of_ble_eq_true rfl⟩, Nat.le_of_ble_eq_true rfl, Nat.le_of_ble_eq_true rfl⟩ (zg_retA (fun v1 h1 hE => ?_)) (zg_xok ok tab fin ⟨Nat.le_of_ble_eq_true rfl, Nat.le_of_ble_eq_true rfl⟩)
  refine zg_cost (kc2 := 2) (ks2 := 12) ⟨rfl, rfl⟩ ?_
  refine zg_astore_n (L' := [(2, va_rf v1), (0, va_rf a0), (1, .int a1)]) ok dX1_writeFar_5 rfl (by decide) rfl ?_
  refine zg_aload_n ok dX1_writeFar_6 rfl 0 rfl ?_
  refine zg_iload_n ok dX1_writeFar_7 rfl 2 rfl ?_
  refine zg_callV (vs := [zI a1]) (rest := []) (rm := rm_X4_laysFar) ok hRm lk_X1_270 dX1_writeFar_8 hE (fun hE => mt_X4_laysFar hl hE) rfl (Nat.le_of_ble_eq_true rfl) ⟨⟨Nat.le_of_ble_eq_true rfl, Nat.le_of_ble_eq_true rfl⟩, Nat.le_of_ble_eq_true rfl, Nat.le_of_ble_eq_true rfl⟩ (zg_retI (fun v2 h2 hE => ?_)) (zg_xok ok tab fin ⟨Nat.le_of_ble_eq_true rfl, Nat.le_of_ble_eq_true rfl⟩)
  refine zg_cost (kc2 := 2) (ks2 := 12) ⟨rfl, rfl⟩ ?_
  refine zg_istore_nR (L' := [(3, .int v2), (2, va_rf v1), (0, va_rf a0), (1, .int a1)]) ok dX1_writeFar_11 rfl (by decide) 0 rfl rfl rfl ?_
  refine zg_aload_n ok dX1_writeFar_12 rfl 2 rfl ?_
  refine zg_getA ok lf_X1_51 dX1_writeFar_13 hE (fun v3 hE => ?_)
  refine zg_iconst (v := 0) ok dX1_writeFar_16 (by decide) ?_
  refine zg_callV (vs := [zI 0]) (rest := []) (rm := rm_J3_setLength) ok hRm lk_X1_400 dX1_writeFar_17 hE (fun hE => mt_J3_setLength hl hE) rfl (Nat.le_of_ble_eq_true rfl) ⟨⟨Nat.le_of_ble_eq_true rfl, Nat.le_of_ble_eq_true rfl⟩, Nat.le_of_ble_eq_true rfl, Nat.le_of_ble_eq_true rfl⟩ (zg_retV (fun h3 hE => ?_)) (zg_xok ok tab fin ⟨Nat.le_of_ble_eq_true rfl, Nat.le_of_ble_eq_true rfl⟩)
  refine zg_cost (kc2 := 3) (ks2 := 588) ⟨rfl, rfl⟩ ?_
  refine zg_iconst (v := 0) ok dX1_writeFar_20 (by decide) ?_
  refine zg_istore (L' := [(4, .int 0), (3, .int v2), (2, va_rf v1), (0, va_rf a0), (1, .int a1)]) ok dX1_writeFar_21 (by decide) rfl ?_
  refine zg_sub (L' := [(0, va_rf a0), (2, va_rf v1), (3, .int v2), (4, .int 0)]) [3, 2, 1, 0] rfl ?_
  refine gt_f_X1_writeFar_L23 (KE := 103) (SE := 58188) hl ok tab fin hRm ⟨Nat.le_of_ble_eq_true rfl, Nat.le_of_ble_eq_true rfl⟩ ?_ _ 3 588 ⟨Nat.le_of_ble_eq_true rfl, Nat.le_of_ble_eq_true rfl⟩ _ _ hE
  · intro h8 hE
    refine zg_iload_n ok dX1_writeFar_87 rfl 1 rfl ?_
    refine zg_if_ne (tgt := 101) ok dX1_writeFar_88 (by decide) hE (fun hE => ?_) (fun hE => ?_)
    · refine zg_wide (kc2 := 104) (ks2 := 58764) (Nat.le_of_ble_eq_true rfl) (Nat.le_of_ble_eq_true rfl) ?_
      refine zg_sub (L' := [(0, va_rf a0)]) [0] rfl ?_
      exact gt_f_X1_writeFar_J101 hl ok tab fin hRm  hE
    · refine zg_aload_n ok dX1_writeFar_91 rfl 0 rfl ?_
      refine zg_getA ok lf_X1_51 dX1_writeFar_92 hE (fun v16 hE => ?_)
      refine zg_bipush (v := 46) ok dX1_writeFar_95 (by decide) ?_
      refine zg_callV (vs := [zI 46]) (rest := []) (rm := rm_J3_append) ok hRm lk_X1_407 dX1_writeFar_97 hE (fun hE => mt_J3_append hl hE) rfl (Nat.le_of_ble_eq_true rfl) ⟨⟨Nat.le_of_ble_eq_true rfl, Nat.le_of_ble_eq_true rfl⟩, Nat.le_of_ble_eq_true rfl, Nat.le_of_ble_eq_true rfl⟩ (zg_retA (fun v17 h10 hE => ?_)) (zg_xok ok tab fin ⟨Nat.le_of_ble_eq_true rfl, Nat.le_of_ble_eq_true rfl⟩)
      refine zg_cost (kc2 := 104) (ks2 := 58764) ⟨rfl, rfl⟩ ?_
      refine zg_pop ok dX1_writeFar_100 (zw_rfc _) ?_
      refine zg_sub (L' := [(0, va_rf a0)]) [0] rfl ?_
      exact gt_f_X1_writeFar_J101 hl ok tab fin hRm  hE
set_option maxHeartbeats 8000000 in
theorem mt_J2_charAt {l : Launch} (hl : l.stackTraces = false) {Z : zw_Z} {a0 : Option Nat} {a1 : Int32} {h : zw_H} {Q : Int32 → zw_H → Prop} {X : String → Nat → zw_H → Prop} (hE : f_J2_charAt Z.2.2.2 a0 a1 h Q X) : zw_Met l Z yJ2_charAt (ws_ yJ2_charAt cJ2_charAt 5 (Option.some Jvm.ClassFile.FieldType.char)) rm_J2_charAt [zA a0, zI a1] h (zq_I Q) X := by
  refine zg_start (own := "java/lang/AbstractStringBuilder") (by decide +kernel) rfl (Nat.le_of_ble_eq_true rfl) hl (fun Xc ok tab fin hRm hXl hXZ => ?_)
  subst hXl
  subst hXZ
  unfold f_J2_charAt at hE
  refine zg_aload_n ok dJ2_charAt_0 rfl 0 rfl ?_
  refine zg_getI ok lf_J2_22 dJ2_charAt_1 hE (fun v1 hE => ?_)
  refine zg_istore_n (L' := [(2, .int v1), (0, va_rf a0), (1, .int a1)]) ok dJ2_charAt_4 rfl (by decide) rfl ?_
  refine zg_aload_n ok dJ2_charAt_5 rfl 1 rfl ?_
  refine zg_getA ok lf_J2_15 dJ2_charAt_6 hE (fun v2 hE => ?_)
  refine zg_astore_n (L' := [(3, va_rf v2), (2, .int v1), (0, va_rf a0), (1, .int a1)]) ok dJ2_charAt_9 rfl (by decide) rfl ?_
  refine zg_aload_n ok dJ2_charAt_10 rfl 2 rfl ?_
  refine zg_getI ok lf_J2_79 dJ2_charAt_11 hE (fun v3 hE => ?_)
  refine zg_aload_n ok dJ2_charAt_14 rfl 0 rfl ?_
  refine zg_alen ok dJ2_charAt_15 hE (fun v4 hE => ?_)
  refine zg_iload_n ok dJ2_charAt_16 rfl 1 rfl ?_
  refine zg_ishr ok dJ2_charAt_17 ?_
  refine zg_callS (vs := [zI v3, zI (v4 >>> (v1 &&& 31))]) (rest := []) (rm := rm_J14_min) ok hRm lk_J2_138 dJ2_charAt_18 hE (fun hE => mt_J14_min hl hE) rfl (Nat.le_of_ble_eq_true rfl) ⟨⟨Nat.le_of_ble_eq_true rfl, Nat.le_of_ble_eq_true rfl⟩, Nat.le_of_ble_eq_true rfl, Nat.le_of_ble_eq_true rfl⟩ (zg_retI (fun v5 h1 hE => ?_)) (zg_xok ok tab fin ⟨Nat.le_of_ble_eq_true rfl, Nat.le_of_ble_eq_true rfl⟩)
  refine zg_cost (kc2 := 0) (ks2 := 0) ⟨rfl, rfl⟩ ?_
  refine zg_istoreR (L' := [(4, .int v5), (3, va_rf v2), (2, .int v1), (0, va_rf a0), (1, .int a1)]) ok dJ2_charAt_21 (by decide) 0 rfl rfl rfl ?_
  refine zg_iload_n ok dJ2_charAt_23 rfl 4 rfl ?_
  refine zg_iload ok dJ2_charAt_24 0 rfl ?_
  refine zg_callS (vs := [zI a1, zI v5]) (rest := []) (rm := rm_J4_checkIndex) ok hRm lk_J2_144 dJ2_charAt_26 hE (fun hE => mt_J4_checkIndex hl hE) rfl (Nat.le_of_ble_eq_true rfl) ⟨⟨Nat.le_of_ble_eq_true rfl, Nat.le_of_ble_eq_true rfl⟩, Nat.le_of_ble_eq_true rfl, Nat.le_of_ble_eq_true rfl⟩ (zg_retV (fun h2 hE => ?_)) (zg_xok ok tab fin ⟨Nat.le_of_ble_eq_true rfl, Nat.le_of_ble_eq_true rfl⟩)
  refine zg_cost (kc2 := 0) (ks2 := 0) ⟨rfl, rfl⟩ ?_
  refine zg_iload_n ok dJ2_charAt_29 rfl 2 rfl ?_
  refine zg_if_ne (tgt := 42) ok dJ2_charAt_30 (by decide) hE (fun hE => ?_) (fun hE => ?_)
  · refine zg_aload_n ok dJ2_charAt_42 rfl 1 rfl ?_
    refine zg_iload_n ok dJ2_charAt_43 rfl 4 rfl ?_
    refine zg_callS (vs := [zA v2, zI a1]) (rest := []) (rm := rm_J5_getChar) ok hRm lk_J2_148 dJ2_charAt_44 hE (fun hE => mt_J5_getChar hl hE) rfl (Nat.le_of_ble_eq_true rfl) ⟨⟨Nat.le_of_ble_eq_true rfl, Nat.le_of_ble_eq_true rfl⟩, Nat.le_of_ble_eq_true rfl, Nat.le_of_ble_eq_true rfl⟩ (zg_retI (fun v6 h3 hE => ?_)) (zg_xok ok tab fin ⟨Nat.le_of_ble_eq_true rfl, Nat.le_of_ble_eq_true rfl⟩)
    refine zg_cost (kc2 := 0) (ks2 := 0) ⟨rfl, rfl⟩ ?_
    exact zg_cret ok fin dJ2_charAt_47 ⟨Nat.le_of_ble_eq_true rfl, Nat.le_of_ble_eq_true rfl⟩ hE.1 hE.2
  · refine zg_aload_n ok dJ2_charAt_33 rfl 1 rfl ?_
    refine zg_iload_n ok dJ2_charAt_34 rfl 4 rfl ?_
    refine zg_bald ok dJ2_charAt_35 hE (fun v7 hE => ?_)
    refine zg_sipush (v := 255) ok dJ2_charAt_36 (by decide) ?_
    refine zg_iand ok dJ2_charAt_39 ?_
    refine zg_i2c ok dJ2_charAt_40 ?_
    exact zg_cret ok fin dJ2_charAt_41 ⟨Nat.le_of_ble_eq_true rfl, Nat.le_of_ble_eq_true rfl⟩ hE.1 hE.2
set_option maxHeartbeats 8000000 in
theorem mt_J3_charAt {l : Launch} (hl : l.stackTraces = false) {Z : zw_Z} {a0 : Option Nat} {a1 : Int32} {h : zw_H} {Q : Int32 → zw_H → Prop} {X : String → Nat → zw_H → Prop} (hE : f_J3_charAt Z.2.2.2 a0 a1 h Q X) : zw_Met l Z yJ3_charAt (ws_ yJ3_charAt cJ3_charAt 2 (Option.some Jvm.ClassFile.FieldType.char)) rm_J3_charAt [zA a0, zI a1] h (zq_I Q) X := by
  refine zg_startF (own := "java/lang/StringBuilder") (by decide +kernel) rfl (Nat.le_of_ble_eq_true rfl) hl (fun Xc ok tab fin hRm hXl hXZ => ?_)
  subst hXl
  subst hXZ
  unfold f_J3_charAt at hE
  refine zg_aload_n ok dJ3_charAt_0 rfl 0 rfl ?_
  refine zg_iload_n ok dJ3_charAt_1 rfl 1 rfl ?_
  refine zg_callSU (vs := [zI a1]) (rest := []) (rm := rm_J2_charAt) ok hRm lk_J3_329 dJ3_charAt_2 hE (fun hE => mt_J2_charAt hl hE) rfl (Nat.le_of_ble_eq_true rfl) ⟨⟨Nat.le_of_ble_eq_true rfl, Nat.le_of_ble_eq_true rfl⟩, Nat.le_of_ble_eq_true rfl, Nat.le_of_ble_eq_true rfl⟩ (zg_retI (fun v1 h1 hE => ?_)) (zg_xok ok tab fin ⟨Nat.le_of_ble_eq_true rfl, Nat.le_of_ble_eq_true rfl⟩)
  refine zg_cost (kc2 := 0) (ks2 := 0) ⟨rfl, rfl⟩ ?_
  exact zg_cret ok fin dJ3_charAt_5 ⟨Nat.le_of_ble_eq_true rfl, Nat.le_of_ble_eq_true rfl⟩ hE.1 hE.2
set_option maxHeartbeats 8000000 in
theorem mt_X1_textByte {l : Launch} (hl : l.stackTraces = false) {Z : zw_Z} {a0 : Option Nat} {a1 : Int32} {h : zw_H} {Q : Int32 → zw_H → Prop} {X : String → Nat → zw_H → Prop} (hE : f_X1_textByte Z.2.2.2 a0 a1 h Q X) : zw_Met l Z yX1_textByte (ws_ yX1_textByte cX1_textByte 2 (Option.some Jvm.ClassFile.FieldType.int)) rm_X1_textByte [zA a0, zI a1] h (zq_I Q) X := by
  refine zg_start (own := "MultipoleLine") (by decide +kernel) rfl (Nat.le_of_ble_eq_true rfl) hl (fun Xc ok tab fin hRm hXl hXZ => ?_)
  subst hXl
  subst hXZ
  unfold f_X1_textByte at hE
  refine zg_iload_n ok dX1_textByte_0 rfl 1 rfl ?_
  refine zg_aload_n ok dX1_textByte_1 rfl 0 rfl ?_
  refine zg_getA ok lf_X1_51 dX1_textByte_2 hE (fun v1 hE => ?_)
  refine zg_callV (vs := []) (rest := [.int a1]) (rm := rm_J3_length) ok hRm lk_X1_411 dX1_textByte_5 hE (fun hE => mt_J3_length hl hE) rfl (Nat.le_of_ble_eq_true rfl) ⟨⟨Nat.le_of_ble_eq_true rfl, Nat.le_of_ble_eq_true rfl⟩, Nat.le_of_ble_eq_true rfl, Nat.le_of_ble_eq_true rfl⟩ (zg_retI (fun v2 h1 hE => ?_)) (zg_xok ok tab fin ⟨Nat.le_of_ble_eq_true rfl, Nat.le_of_ble_eq_true rfl⟩)
  refine zg_cost (kc2 := 0) (ks2 := 0) ⟨rfl, rfl⟩ ?_
  refine zg_callS (vs := [zI a1, zI v2]) (rest := []) (rm := rm_X1_checkIndex) ok hRm lk_X1_84 dX1_textByte_8 hE (fun hE => mt_X1_checkIndex hl hE) rfl (Nat.le_of_ble_eq_true rfl) ⟨⟨Nat.le_of_ble_eq_true rfl, Nat.le_of_ble_eq_true rfl⟩, Nat.le_of_ble_eq_true rfl, Nat.le_of_ble_eq_true rfl⟩ (zg_retV (fun h2 hE => ?_)) (zg_xok ok tab fin ⟨Nat.le_of_ble_eq_true rfl, Nat.le_of_ble_eq_true rfl⟩)
  refine zg_cost (kc2 := 1) (ks2 := 6) ⟨rfl, rfl⟩ ?_
  refine zg_aload_n ok dX1_textByte_11 rfl 0 rfl ?_
  refine zg_getA ok lf_X1_51 dX1_textByte_12 hE (fun v3 hE => ?_)
  refine zg_iload_n ok dX1_textByte_15 rfl 1 rfl ?_
  refine zg_callV (vs := [zI a1]) (rest := []) (rm := rm_J3_charAt) ok hRm lk_X1_436 dX1_textByte_16 hE (fun hE => mt_J3_charAt hl hE) rfl (Nat.le_of_ble_eq_true rfl) ⟨⟨Nat.le_of_ble_eq_true rfl, Nat.le_of_ble_eq_true rfl⟩, Nat.le_of_ble_eq_true rfl, Nat.le_of_ble_eq_true rfl⟩ (zg_retI (fun v4 h3 hE => ?_)) (zg_xok ok tab fin ⟨Nat.le_of_ble_eq_true rfl, Nat.le_of_ble_eq_true rfl⟩)
  refine zg_cost (kc2 := 1) (ks2 := 6) ⟨rfl, rfl⟩ ?_
  exact zg_iret ok fin dX1_textByte_19 ⟨Nat.le_of_ble_eq_true rfl, Nat.le_of_ble_eq_true rfl⟩ hE
set_option maxHeartbeats 8000000 in
theorem mt_X1_isCharge {l : Launch} (hl : l.stackTraces = false) {Z : zw_Z} {a0 : Int32} {h : zw_H} {Q : Int32 → zw_H → Prop} {X : String → Nat → zw_H → Prop} (hE : f_X1_isCharge Z.2.2.2 a0 h Q X) : zw_Met l Z yX1_isCharge (ws_ yX1_isCharge cX1_isCharge 1 (Option.some Jvm.ClassFile.FieldType.boolean)) rm_X1_isCharge [zI a0] h (zq_I Q) X := by
  refine zg_start (own := "MultipoleLine") (by decide +kernel) rfl (Nat.le_of_ble_eq_true rfl) hl (fun Xc ok tab fin hRm hXl hXZ => ?_)
  subst hXl
  subst hXZ
  unfold f_X1_isCharge at hE
  refine zg_iload_n ok dX1_isCharge_0 rfl 0 rfl ?_
  refine zg_i2l ok dX1_isCharge_1 ?_
  refine zg_ldc2 (v := (-99 : Int64)) ok q2255 dX1_isCharge_2 ?_
  refine zg_ldc2 (v := (99 : Int64)) ok q2256 dX1_isCharge_5 ?_
  refine zg_callS (vs := [zJ a0.toInt64, zJ (-99 : Int64), zJ (99 : Int64)]) (rest := []) (rm := rm_X1_in) ok hRm lk_X1_58 dX1_isCharge_8 hE (fun hE => mt_X1_in hl hE) rfl (Nat.le_of_ble_eq_true rfl) ⟨⟨Nat.le_of_ble_eq_true rfl, Nat.le_of_ble_eq_true rfl⟩, Nat.le_of_ble_eq_true rfl, Nat.le_of_ble_eq_true rfl⟩ (zg_retI (fun v1 h1 hE => ?_)) (zg_xok ok tab fin ⟨Nat.le_of_ble_eq_true rfl, Nat.le_of_ble_eq_true rfl⟩)
  refine zg_cost (kc2 := 0) (ks2 := 0) ⟨rfl, rfl⟩ ?_
  refine zg_if_eq (tgt := 22) ok dX1_isCharge_11 (by decide) hE (fun hE => ?_) (fun hE => ?_)
  · refine zg_iconst (v := 0) ok dX1_isCharge_22 (by decide) ?_
    exact zg_zret ok fin dX1_isCharge_23 ⟨Nat.le_of_ble_eq_true rfl, Nat.le_of_ble_eq_true rfl⟩ rfl hE
  · refine zg_iload_n ok dX1_isCharge_14 rfl 0 rfl ?_
    refine zg_if_eq (tgt := 22) ok dX1_isCharge_15 (by decide) hE (fun hE => ?_) (fun hE => ?_)
    · refine zg_iconst (v := 0) ok dX1_isCharge_22 (by decide) ?_
      exact zg_zret ok fin dX1_isCharge_23 ⟨Nat.le_of_ble_eq_true rfl, Nat.le_of_ble_eq_true rfl⟩ rfl hE
    · refine zg_iconst (v := 1) ok dX1_isCharge_18 (by decide) ?_
      refine zg_goto (tgt := 23) ok dX1_isCharge_19 (by decide) ?_
      exact zg_zret ok fin dX1_isCharge_23 ⟨Nat.le_of_ble_eq_true rfl, Nat.le_of_ble_eq_true rfl⟩ rfl hE
set_option maxHeartbeats 8000000 in
theorem mt_J1_elementAt {l : Launch} (hl : l.stackTraces = false) {Z : zw_Z} {a0 : Option Nat} {a1 : Int32} {h : zw_H} {Q : Option Nat → zw_H → Prop} {X : String → Nat → zw_H → Prop} (hE : f_J1_elementAt Z.2.2.2 a0 a1 h Q X) : zw_Met l Z yJ1_elementAt (ws_ yJ1_elementAt cJ1_elementAt 2 (Option.some (Jvm.ClassFile.FieldType.object "java/lang/Object"))) rm_J1_elementAt [zA a0, zI a1] h (zq_A Q) X := by
  refine zg_start (own := "java/util/ArrayDeque") (by decide +kernel) rfl (Nat.le_of_ble_eq_true rfl) hl (fun Xc ok tab fin hRm hXl hXZ => ?_)
  subst hXl
  subst hXZ
  unfold f_J1_elementAt at hE
  refine zg_aload_n ok dJ1_elementAt_0 rfl 0 rfl ?_
  refine zg_iload_n ok dJ1_elementAt_1 rfl 1 rfl ?_
  refine zg_aaldO ok dJ1_elementAt_2 hE (fun v1 hE => ?_)
  exact zg_aret ok fin (Or.inl ⟨_, rfl⟩) dJ1_elementAt_3 ⟨Nat.le_of_ble_eq_true rfl, Nat.le_of_ble_eq_true rfl⟩ hE
set_option maxHeartbeats 8000000 in
theorem mt_J1_inc {l : Launch} (hl : l.stackTraces = false) {Z : zw_Z} {a0 : Int32} {a1 : Int32} {h : zw_H} {Q : Int32 → zw_H → Prop} {X : String → Nat → zw_H → Prop} (hE : f_J1_inc Z.2.2.2 a0 a1 h Q X) : zw_Met l Z yJ1_inc (ws_ yJ1_inc cJ1_inc 2 (Option.some Jvm.ClassFile.FieldType.int)) rm_J1_inc [zI a0, zI a1] h (zq_I Q) X := by
  refine zg_start (own := "java/util/ArrayDeque") (by decide +kernel) rfl (Nat.le_of_ble_eq_true rfl) hl (fun Xc ok tab fin hRm hXl hXZ => ?_)
  subst hXl
  subst hXZ
  unfold f_J1_inc at hE
  refine zg_iincL (k := 0) (L' := fun v1 => [(0, .int v1), (1, .int a1)]) ok dJ1_inc_0 (by decide +kernel) hE rfl (by decide) (fun _ => rfl) (fun v1 hE => ?_)
  refine zg_iload_n ok dJ1_inc_3 rfl 0 rfl ?_
  refine zg_iload_n ok dJ1_inc_4 rfl 1 rfl ?_
  refine zg_icmp_lt (tgt := 10) ok dJ1_inc_5 (by decide) hE (fun hE => ?_) (fun hE => ?_)
  · refine zg_iload_n ok dJ1_inc_10 rfl 0 rfl ?_
    exact zg_iret ok fin dJ1_inc_11 ⟨Nat.le_of_ble_eq_true rfl, Nat.le_of_ble_eq_true rfl⟩ hE
  · refine zg_iconst (v := 0) ok dJ1_inc_8 (by decide) ?_
    refine zg_istore_n (L' := [(0, .int 0), (1, .int a1)]) ok dJ1_inc_9 rfl (by decide) rfl ?_
    refine zg_iload_n ok dJ1_inc_10 rfl 0 rfl ?_
    exact zg_iret ok fin dJ1_inc_11 ⟨Nat.le_of_ble_eq_true rfl, Nat.le_of_ble_eq_true rfl⟩ hE
set_option maxHeartbeats 8000000 in
theorem mt_J1_pollFirst {l : Launch} (hl : l.stackTraces = false) {Z : zw_Z} {a0 : Option Nat} {h : zw_H} {Q : Option Nat → zw_H → Prop} {X : String → Nat → zw_H → Prop} (hE : f_J1_pollFirst Z.2.2.2 a0 h Q X) : zw_Met l Z yJ1_pollFirst (ws_ yJ1_pollFirst cJ1_pollFirst 4 (Option.some (Jvm.ClassFile.FieldType.object "java/lang/Object"))) rm_J1_pollFirst [zA a0] h (zq_A Q) X := by
  refine zg_start (own := "java/util/ArrayDeque") (by decide +kernel) rfl (Nat.le_of_ble_eq_true rfl) hl (fun Xc ok tab fin hRm hXl hXZ => ?_)
  subst hXl
  subst hXZ
  unfold f_J1_pollFirst at hE
  refine zg_aload_n ok dJ1_pollFirst_0 rfl 0 rfl ?_
  refine zg_getA ok lf_J1_3 dJ1_pollFirst_1 hE (fun v1 hE => ?_)
  refine zg_dup ok dJ1_pollFirst_4 (zw_rfc _) ?_
  refine zg_astore_nR (L' := [(1, va_rf v1), (0, va_rf a0)]) ok dJ1_pollFirst_5 rfl (by decide) 0 rfl rfl rfl ?_
  refine zg_aload_n ok dJ1_pollFirst_6 rfl 1 rfl ?_
  refine zg_getI ok lf_J1_24 dJ1_pollFirst_7 hE (fun v2 hE => ?_)
  refine zg_dup ok dJ1_pollFirst_10 rfl ?_
  refine zg_istore_nR (L' := [(2, .int v2), (1, va_rf v1), (0, va_rf a0)]) ok dJ1_pollFirst_11 rfl (by decide) 0 rfl rfl rfl ?_
  refine zg_callS (vs := [zA v1, zI v2]) (rest := []) (rm := rm_J1_elementAt) ok hRm lk_J1_103 dJ1_pollFirst_12 hE (fun hE => mt_J1_elementAt hl hE) rfl (Nat.le_of_ble_eq_true rfl) ⟨⟨Nat.le_of_ble_eq_true rfl, Nat.le_of_ble_eq_true rfl⟩, Nat.le_of_ble_eq_true rfl, Nat.le_of_ble_eq_true rfl⟩ (zg_retA (fun v3 h1 hE => ?_)) (zg_xok ok tab fin ⟨Nat.le_of_ble_eq_true rfl, Nat.le_of_ble_eq_true rfl⟩)
  refine zg_cost (kc2 := 0) (ks2 := 0) ⟨rfl, rfl⟩ ?_
  refine zg_astore_n (L' := [(3, va_rf v3), (2, .int v2), (1, va_rf v1), (0, va_rf a0)]) ok dJ1_pollFirst_15 rfl (by decide) rfl ?_
  refine zg_aload_n ok dJ1_pollFirst_16 rfl 0 rfl ?_
  refine zg_ifnull (tgt := 34) ok dJ1_pollFirst_17 (by decide) hE (fun hE => ?_) (fun hE => ?_)
  · refine zg_aload_n ok dJ1_pollFirst_34 rfl 0 rfl ?_
    exact zg_aret ok fin (Or.inl ⟨_, rfl⟩) dJ1_pollFirst_35 ⟨Nat.le_of_ble_eq_true rfl, Nat.le_of_ble_eq_true rfl⟩ hE
  · refine zg_aload_n ok dJ1_pollFirst_20 rfl 2 rfl ?_
    refine zg_iload_n ok dJ1_pollFirst_21 rfl 1 rfl ?_
    refine zg_null ok dJ1_pollFirst_22 ?_
    refine zg_aastO ok lt_5 dJ1_pollFirst_23 hE (fun h2 hE => ?_)
    refine zg_aload_n ok dJ1_pollFirst_24 rfl 3 rfl ?_
    refine zg_iload_n ok dJ1_pollFirst_25 rfl 1 rfl ?_
    refine zg_aload_n ok dJ1_pollFirst_26 rfl 2 rfl ?_
    refine zg_alen ok dJ1_pollFirst_27 hE (fun v4 hE => ?_)
    refine zg_callS (vs := [zI v2, zI v4]) (rest := [va_rf a0]) (rm := rm_J1_inc) ok hRm lk_J1_74 dJ1_pollFirst_28 hE (fun hE => mt_J1_inc hl hE) rfl (Nat.le_of_ble_eq_true rfl) ⟨⟨Nat.le_of_ble_eq_true rfl, Nat.le_of_ble_eq_true rfl⟩, Nat.le_of_ble_eq_true rfl, Nat.le_of_ble_eq_true rfl⟩ (zg_retI (fun v5 h3 hE => ?_)) (zg_xok ok tab fin ⟨Nat.le_of_ble_eq_true rfl, Nat.le_of_ble_eq_true rfl⟩)
    refine zg_cost (kc2 := 0) (ks2 := 0) ⟨rfl, rfl⟩ ?_
    refine zg_put (ty := .int) ok lf_J1_24 (Or.inl rfl) (by decide) (by decide +kernel) rfl rfl dJ1_pollFirst_31 hE (fun h4 hE => ?_)
    refine zg_aload_n ok dJ1_pollFirst_34 rfl 0 rfl ?_
    exact zg_aret ok fin (Or.inl ⟨_, rfl⟩) dJ1_pollFirst_35 ⟨Nat.le_of_ble_eq_true rfl, Nat.le_of_ble_eq_true rfl⟩ hE
set_option maxHeartbeats 8000000 in
theorem mt_J1_removeFirst {l : Launch} (hl : l.stackTraces = false) {Z : zw_Z} {a0 : Option Nat} {h : zw_H} {Q : Option Nat → zw_H → Prop} {X : String → Nat → zw_H → Prop} (hE : f_J1_removeFirst Z.2.2.2 a0 h Q X) : zw_Met l Z yJ1_removeFirst (ws_ yJ1_removeFirst cJ1_removeFirst 2 (Option.some (Jvm.ClassFile.FieldType.object "java/lang/Object"))) rm_J1_removeFirst [zA a0] h (zq_A Q) X := by
  refine zg_start (own := "java/util/ArrayDeque") (by decide +kernel) rfl (Nat.le_of_ble_eq_true rfl) hl (fun Xc ok tab fin hRm hXl hXZ => ?_)
  subst hXl
  subst hXZ
  unfold f_J1_removeFirst at hE
  refine zg_aload_n ok dJ1_removeFirst_0 rfl 0 rfl ?_
  refine zg_callV (vs := []) (rest := []) (rm := rm_J1_pollFirst) ok hRm lk_J1_93 dJ1_removeFirst_1 hE (fun hE => mt_J1_pollFirst hl hE) rfl (Nat.le_of_ble_eq_true rfl) ⟨⟨Nat.le_of_ble_eq_true rfl, Nat.le_of_ble_eq_true rfl⟩, Nat.le_of_ble_eq_true rfl, Nat.le_of_ble_eq_true rfl⟩ (zg_retA (fun v1 h1 hE => ?_)) (zg_xok ok tab fin ⟨Nat.le_of_ble_eq_true rfl, Nat.le_of_ble_eq_true rfl⟩)
  refine zg_cost (kc2 := 0) (ks2 := 0) ⟨rfl, rfl⟩ ?_
  refine zg_astore_nR (L' := [(1, va_rf v1), (0, va_rf a0)]) ok dJ1_removeFirst_4 rfl (by decide) 0 rfl rfl rfl ?_
  refine zg_aload_n ok dJ1_removeFirst_5 rfl 0 rfl ?_
  refine zg_ifnonnull (tgt := 17) ok dJ1_removeFirst_6 (by decide) hE (fun hE => ?_) (fun hE => ?_)
  · refine zg_aload_n ok dJ1_removeFirst_17 rfl 0 rfl ?_
    exact zg_aret ok fin (Or.inl ⟨_, rfl⟩) dJ1_removeFirst_18 ⟨Nat.le_of_ble_eq_true rfl, Nat.le_of_ble_eq_true rfl⟩ hE
  · exact hE.elim
set_option maxHeartbeats 8000000 in
theorem gt_f_J1_grow_B145 {Xc : zw_X} {Q : zw_H → Prop} {X : String → Nat → zw_H → Prop} (hl : (zw_l Xc).stackTraces = false) (ok : zw_ok Xc cJ1_grow "java/util/ArrayDeque" yJ1_grow.name 9) (tab : zw_tab Xc []) (fin : zw_fin Xc (Option.none : Option Jvm.ClassFile.FieldType) (zq_V Q) X 1 40) (hRm : zw_rm Xc = rm_J1_grow) {kc ks : Nat} (hb : kc ≤ 1 ∧ ks ≤ 40) {R : Int32 → zw_H → Prop} {l5 : Option Nat} {l8 : Int32} (hR : ∀ (l7 : Int32) (h : zw_H), R l7 h → zw_G Xc kc ks 9 h 145 [(5, va_rf l5), (8, .int l8), (7, .int l7)] []) {k164 : zw_H → Prop} (hk164 : ∀  (h : zw_H), k164  h → zw_G Xc kc ks 9 h 164 [] [])  {l7 : Int32} {h : zw_H} (hE : f_J1_grow_B145 (zw_Zf Xc).2.2.2 Q X k164 l5 l8 R l7 h) : zw_G Xc kc ks 9 h 145 [(5, va_rf l5), (8, .int l8), (7, .int l7)] [] := by
  unfold f_J1_grow_B145 at hE
  refine zg_iload ok dJ1_grow_145 2 rfl ?_
  refine zg_iload ok dJ1_grow_147 1 rfl ?_
  refine zg_icmp_ge (tgt := 164) ok dJ1_grow_149 (by decide) hE (fun hE => ?_) (fun hE => ?_)
  · refine zg_sub (L' := []) [] rfl ?_
    exact hk164 _ hE
  · refine zg_aload ok dJ1_grow_152 0 rfl ?_
    refine zg_iload ok dJ1_grow_154 2 rfl ?_
    refine zg_null ok dJ1_grow_156 ?_
    refine zg_aastO ok lt_5 dJ1_grow_157 hE (fun h5 hE => ?_)
    refine zg_iincL (k := 2) (L' := fun v15 => [(7, .int v15), (5, va_rf l5), (8, .int l8)]) ok dJ1_grow_158 (by decide +kernel) hE rfl (by decide) (fun _ => rfl) (fun v15 hE => ?_)
    refine zg_goto (tgt := 145) ok dJ1_grow_161 (by decide) ?_
    refine zg_sub (L' := [(5, va_rf l5), (8, .int l8), (7, .int v15)]) [1, 2, 0] rfl ?_
    exact hR _ _ hE
theorem gt_f_J1_grow_L145 {Xc : zw_X} {Q : zw_H → Prop} {X : String → Nat → zw_H → Prop} (hl : (zw_l Xc).stackTraces = false) (ok : zw_ok Xc cJ1_grow "java/util/ArrayDeque" yJ1_grow.name 9) (tab : zw_tab Xc []) (fin : zw_fin Xc (Option.none : Option Jvm.ClassFile.FieldType) (zq_V Q) X 1 40) (hRm : zw_rm Xc = rm_J1_grow) {kc ks : Nat} (hb : kc ≤ 1 ∧ ks ≤ 40) {l5 : Option Nat} {l8 : Int32} {k164 : zw_H → Prop} (hk164 : ∀  (h : zw_H), k164  h → zw_G Xc kc ks 9 h 164 [] [])  : ∀ (n9 : Nat) (l7 : Int32) (h : zw_H), zl2 (f_J1_grow_B145 (zw_Zf Xc).2.2.2 Q X k164 l5 l8) n9 l7 h → zw_G Xc kc ks 9 h 145 [(5, va_rf l5), (8, .int l8), (7, .int l7)] [] := by
  intro n9
  induction n9 with
  | zero => intro l7 h hE; exact hE.elim
  | succ n9 ih => intro l7 h hE; exact gt_f_J1_grow_B145 hl ok tab fin hRm hb ih hk164 hE
set_option maxHeartbeats 8000000 in
theorem gt_f_J1_grow_J96 {Xc : zw_X} {Q : zw_H → Prop} {X : String → Nat → zw_H → Prop} (hl : (zw_l Xc).stackTraces = false) (ok : zw_ok Xc cJ1_grow "java/util/ArrayDeque" yJ1_grow.name 9) (tab : zw_tab Xc []) (fin : zw_fin Xc (Option.none : Option Jvm.ClassFile.FieldType) (zq_V Q) X 1 40) (hRm : zw_rm Xc = rm_J1_grow)  {l0 : Option Nat} {l2 : Int32} {l3 : Int32} {l5 : Option Nat}  {h : zw_H} (hE : f_J1_grow_J96 (zw_Zf Xc).2.2.2 Q X  l0 l2 l3 l5 h) : zw_G Xc 1 40 9 h 96 [(0, va_rf l0), (2, .int l2), (3, .int l3), (5, va_rf l5)] [] := by
  unfold f_J1_grow_J96 at hE
  refine zg_iload_n ok dJ1_grow_96 rfl 2 rfl ?_
  refine zg_iload_n ok dJ1_grow_97 rfl 1 rfl ?_
  refine zg_isub ok dJ1_grow_98 ?_
  refine zg_letI hE (fun v8 hE => ?_)
  refine zg_istoreR (L' := [(6, .int v8), (0, va_rf l0), (2, .int l2), (3, .int l3), (5, va_rf l5)]) ok dJ1_grow_99 (by decide) 3 rfl rfl rfl ?_
  refine zg_aload ok dJ1_grow_101 4 rfl ?_
  refine zg_aload_n ok dJ1_grow_103 rfl 1 rfl ?_
  refine zg_getI ok lf_J1_24 dJ1_grow_104 hE (fun v9 hE => ?_)
  refine zg_aload ok dJ1_grow_107 4 rfl ?_
  refine zg_aload_n ok dJ1_grow_109 rfl 1 rfl ?_
  refine zg_getI ok lf_J1_24 dJ1_grow_110 hE (fun v10 hE => ?_)
  refine zg_iload ok dJ1_grow_113 0 rfl ?_
  refine zg_iadd ok dJ1_grow_115 ?_
  refine zg_iload_n ok dJ1_grow_116 rfl 2 rfl ?_
  refine zg_aload_n ok dJ1_grow_117 rfl 1 rfl ?_
  refine zg_getI ok lf_J1_24 dJ1_grow_118 hE (fun v11 hE => ?_)
  refine zg_isub ok dJ1_grow_121 ?_
  refine zg_cpO ok hRm q2297 lt_5 ⟨by decide, by decide⟩ (Nat.le_of_ble_eq_true rfl) dJ1_grow_122 hE (fun h3 hE => ?_)
  refine zg_aload_n ok dJ1_grow_125 rfl 1 rfl ?_
  refine zg_getI ok lf_J1_24 dJ1_grow_126 hE (fun v12 hE => ?_)
  refine zg_istore (L' := [(7, .int v12), (6, .int v8), (0, va_rf l0), (2, .int l2), (3, .int l3), (5, va_rf l5)]) ok dJ1_grow_129 (by decide) rfl ?_
  refine zg_aload_n ok dJ1_grow_131 rfl 2 rfl ?_
  refine zg_dup ok dJ1_grow_132 (zw_rfc _) ?_
  refine zg_getI ok lf_J1_24 dJ1_grow_133 hE (fun v13 hE => ?_)
  refine zg_iload ok dJ1_grow_136 1 rfl ?_
  refine zg_iadd ok dJ1_grow_138 ?_
  refine zg_letI hE (fun v14 hE => ?_)
  refine zg_dup_x1 ok dJ1_grow_139 rfl (zw_rfc _) ?_
  refine zg_put (ty := .int) ok lf_J1_24 (Or.inl rfl) (by decide) (by decide +kernel) rfl rfl dJ1_grow_140 hE (fun h4 hE => ?_)
  refine zg_istore (L' := [(8, .int v14), (7, .int v12), (6, .int v8), (0, va_rf l0), (2, .int l2), (3, .int l3), (5, va_rf l5)]) ok dJ1_grow_143 (by decide) rfl ?_
  refine zg_sub (L' := [(5, va_rf l5), (8, .int v14), (7, .int v12)]) [6, 0, 1] rfl ?_
  refine gt_f_J1_grow_L145 hl ok tab fin hRm ⟨Nat.le_of_ble_eq_true rfl, Nat.le_of_ble_eq_true rfl⟩ ?_ _ _ _ hE
  · intro h6 hE
    exact zg_vret ok fin dJ1_grow_164 ⟨Nat.le_of_ble_eq_true rfl, Nat.le_of_ble_eq_true rfl⟩ hE
set_option maxHeartbeats 8000000 in
theorem gt_f_J1_grow_J49 {Xc : zw_X} {Q : zw_H → Prop} {X : String → Nat → zw_H → Prop} (hl : (zw_l Xc).stackTraces = false) (ok : zw_ok Xc cJ1_grow "java/util/ArrayDeque" yJ1_grow.name 9) (tab : zw_tab Xc []) (fin : zw_fin Xc (Option.none : Option Jvm.ClassFile.FieldType) (zq_V Q) X 1 40) (hRm : zw_rm Xc = rm_J1_grow)  {l0 : Option Nat} {l2 : Int32} {l3 : Int32}  {h : zw_H} (hE : f_J1_grow_J49 (zw_Zf Xc).2.2.2 Q X  l0 l2 l3 h) : zw_G Xc 0 0 9 h 49 [(0, va_rf l0), (2, .int l2), (3, .int l3)] [] := by
  unfold f_J1_grow_J49 at hE
  refine zg_aload_n ok dJ1_grow_49 rfl 0 rfl ?_
  refine zg_aload_n ok dJ1_grow_50 rfl 0 rfl ?_
  refine zg_getA ok lf_J1_3 dJ1_grow_51 hE (fun v4 hE => ?_)
  refine zg_iload_n ok dJ1_grow_54 rfl 2 rfl ?_
  refine zg_callS (vs := [zA v4, zI l3]) (rest := [va_rf l0]) (rm := rm_J15_copyOf_2) ok hRm lk_J1_14 dJ1_grow_55 hE (fun hE => mt_J15_copyOf_2 hl hE) rfl (Nat.le_of_ble_eq_true rfl) ⟨⟨Nat.le_of_ble_eq_true rfl, Nat.le_of_ble_eq_true rfl⟩, Nat.le_of_ble_eq_true rfl, Nat.le_of_ble_eq_true rfl⟩ (zg_retA (fun v5 h1 hE => ?_)) (zg_xok ok tab fin ⟨Nat.le_of_ble_eq_true rfl, Nat.le_of_ble_eq_true rfl⟩)
  refine zg_cost (kc2 := 1) (ks2 := 40) ⟨rfl, rfl⟩ ?_
  refine zg_dup_x1 ok dJ1_grow_58 (zw_rfc _) (zw_rfc _) ?_
  refine zg_put (ty := (.array (.object "java/lang/Object"))) ok lf_J1_3 (Or.inl rfl) (by decide) (by decide +kernel) (zw_nrA _ _) (zw_frA _ _) dJ1_grow_59 hE (fun h2 hE => ?_)
  refine zg_astore (L' := [(5, va_rf v5), (0, va_rf l0), (2, .int l2), (3, .int l3)]) ok dJ1_grow_62 (by decide) rfl ?_
  refine zg_aload_n ok dJ1_grow_64 rfl 1 rfl ?_
  refine zg_getI ok lf_J1_20 dJ1_grow_65 hE (fun v6 hE => ?_)
  refine zg_aload_n ok dJ1_grow_68 rfl 1 rfl ?_
  refine zg_getI ok lf_J1_24 dJ1_grow_69 hE (fun v7 hE => ?_)
  refine zg_icmp_lt (tgt := 96) ok dJ1_grow_72 (by decide) hE (fun hE => ?_) (fun hE => ?_)
  · refine zg_sub (L' := [(0, va_rf l0), (2, .int l2), (3, .int l3), (5, va_rf v5)]) [1, 2, 3, 0] rfl ?_
    exact gt_f_J1_grow_J96 hl ok tab fin hRm  hE
  · refine zg_aload_n ok dJ1_grow_75 rfl 1 rfl ?_
    refine zg_getI ok lf_J1_20 dJ1_grow_76 hE (fun v16 hE => ?_)
    refine zg_aload_n ok dJ1_grow_79 rfl 1 rfl ?_
    refine zg_getI ok lf_J1_24 dJ1_grow_80 hE (fun v17 hE => ?_)
    refine zg_icmp_ne (tgt := 164) ok dJ1_grow_83 (by decide) hE (fun hE => ?_) (fun hE => ?_)
    · exact zg_vret ok fin dJ1_grow_164 ⟨Nat.le_of_ble_eq_true rfl, Nat.le_of_ble_eq_true rfl⟩ hE
    · refine zg_aload ok dJ1_grow_86 0 rfl ?_
      refine zg_aload_n ok dJ1_grow_88 rfl 1 rfl ?_
      refine zg_getI ok lf_J1_24 dJ1_grow_89 hE (fun v18 hE => ?_)
      refine zg_aaldO ok dJ1_grow_92 hE (fun v19 hE => ?_)
      refine zg_ifnull (tgt := 164) ok dJ1_grow_93 (by decide) hE (fun hE => ?_) (fun hE => ?_)
      · exact zg_vret ok fin dJ1_grow_164 ⟨Nat.le_of_ble_eq_true rfl, Nat.le_of_ble_eq_true rfl⟩ hE
      · refine zg_sub (L' := [(0, va_rf l0), (2, .int l2), (3, .int l3), (5, va_rf v5)]) [1, 2, 3, 0] rfl ?_
        exact gt_f_J1_grow_J96 hl ok tab fin hRm  hE
set_option maxHeartbeats 8000000 in
theorem gt_f_J1_grow_J21 {Xc : zw_X} {Q : zw_H → Prop} {X : String → Nat → zw_H → Prop} (hl : (zw_l Xc).stackTraces = false) (ok : zw_ok Xc cJ1_grow "java/util/ArrayDeque" yJ1_grow.name 9) (tab : zw_tab Xc []) (fin : zw_fin Xc (Option.none : Option Jvm.ClassFile.FieldType) (zq_V Q) X 1 40) (hRm : zw_rm Xc = rm_J1_grow)  {l0 : Option Nat} {l1 : Int32} {l2 : Int32} {s0 : Int32} {h : zw_H} (hE : f_J1_grow_J21 (zw_Zf Xc).2.2.2 Q X  l0 l1 l2 s0 h) : zw_G Xc 0 0 9 h 21 [(0, va_rf l0), (1, .int l1), (2, .int l2)] [.int s0] := by
  unfold f_J1_grow_J21 at hE
  refine zg_istore (L' := [(4, .int s0), (0, va_rf l0), (1, .int l1), (2, .int l2)]) ok dJ1_grow_21 (by decide) rfl ?_
  refine zg_iload ok dJ1_grow_23 0 rfl ?_
  refine zg_iload_n ok dJ1_grow_25 rfl 2 rfl ?_
  refine zg_icmp_lt (tgt := 41) ok dJ1_grow_26 (by decide) hE (fun hE => ?_) (fun hE => ?_)
  · exact hE.elim
  · refine zg_iload_n ok dJ1_grow_29 rfl 3 rfl ?_
    refine zg_iload ok dJ1_grow_30 0 rfl ?_
    refine zg_iadd ok dJ1_grow_32 ?_
    refine zg_letI hE (fun v3 hE => ?_)
    refine zg_dup ok dJ1_grow_33 rfl ?_
    refine zg_istore_n (L' := [(3, .int v3), (4, .int s0), (0, va_rf l0), (1, .int l1), (2, .int l2)]) ok dJ1_grow_34 rfl (by decide) rfl ?_
    refine zg_ldc (v := (2147483639 : Int32)) ok q2284 dJ1_grow_35 ?_
    refine zg_isub ok dJ1_grow_37 ?_
    refine zg_if_le (tgt := 49) ok dJ1_grow_38 (by decide) hE (fun hE => ?_) (fun hE => ?_)
    · refine zg_sub (L' := [(0, va_rf l0), (2, .int l2), (3, .int v3)]) [2, 4, 0] rfl ?_
      exact gt_f_J1_grow_J49 hl ok tab fin hRm  hE
    · exact hE.elim
set_option maxHeartbeats 8000000 in
theorem mt_J1_grow {l : Launch} (hl : l.stackTraces = false) {Z : zw_Z} {a0 : Option Nat} {a1 : Int32} {h : zw_H} {Q : zw_H → Prop} {X : String → Nat → zw_H → Prop} (hE : f_J1_grow Z.2.2.2 a0 a1 h Q X) : zw_Met l Z yJ1_grow (ws_ yJ1_grow cJ1_grow 9 (Option.none : Option Jvm.ClassFile.FieldType)) rm_J1_grow [zA a0, zI a1] h (zq_V Q) X := by
  refine zg_start (own := "java/util/ArrayDeque") (by decide +kernel) rfl (Nat.le_of_ble_eq_true rfl) hl (fun Xc ok tab fin hRm hXl hXZ => ?_)
  subst hXl
  subst hXZ
  unfold f_J1_grow at hE
  refine zg_aload_n ok dJ1_grow_0 rfl 0 rfl ?_
  refine zg_getA ok lf_J1_3 dJ1_grow_1 hE (fun v1 hE => ?_)
  refine zg_alen ok dJ1_grow_4 hE (fun v2 hE => ?_)
  refine zg_istore_n (L' := [(2, .int v2), (0, va_rf a0), (1, .int a1)]) ok dJ1_grow_5 rfl (by decide) rfl ?_
  refine zg_iload_n ok dJ1_grow_6 rfl 0 rfl ?_
  refine zg_bipush (v := 64) ok dJ1_grow_7 (by decide) ?_
  refine zg_icmp_ge (tgt := 18) ok dJ1_grow_9 (by decide) hE (fun hE => ?_) (fun hE => ?_)
  · refine zg_iload_n ok dJ1_grow_18 rfl 0 rfl ?_
    refine zg_iconst (v := 1) ok dJ1_grow_19 (by decide) ?_
    refine zg_ishr ok dJ1_grow_20 ?_
    refine zg_sub (L' := [(0, va_rf a0), (1, .int a1), (2, .int v2)]) [1, 2, 0] rfl ?_
    exact gt_f_J1_grow_J21 hl ok tab fin hRm  hE
  · refine zg_iload_n ok dJ1_grow_12 rfl 0 rfl ?_
    refine zg_iconst (v := 2) ok dJ1_grow_13 (by decide) ?_
    refine zg_iadd ok dJ1_grow_14 ?_
    refine zg_goto (tgt := 21) ok dJ1_grow_15 (by decide) ?_
    refine zg_sub (L' := [(0, va_rf a0), (1, .int a1), (2, .int v2)]) [1, 2, 0] rfl ?_
    exact gt_f_J1_grow_J21 hl ok tab fin hRm  hE
set_option maxHeartbeats 8000000 in
theorem mt_J1_addLast {l : Launch} (hl : l.stackTraces = false) {Z : zw_Z} {a0 : Option Nat} {a1 : Option Nat} {h : zw_H} {Q : zw_H → Prop} {X : String → Nat → zw_H → Prop} (hE : f_J1_addLast Z.2.2.2 a0 a1 h Q X) : zw_Met l Z yJ1_addLast (ws_ yJ1_addLast cJ1_addLast 3 (Option.none : Option Jvm.ClassFile.FieldType)) rm_J1_addLast [zA a0, zA a1] h (zq_V Q) X := by
  refine zg_start (own := "java/util/ArrayDeque") (by decide +kernel) rfl (Nat.le_of_ble_eq_true rfl) hl (fun Xc ok tab fin hRm hXl hXZ => ?_)
  subst hXl
  subst hXZ
  unfold f_J1_addLast at hE
  refine zg_aload_n ok dJ1_addLast_0 rfl 1 rfl ?_
  refine zg_ifnonnull (tgt := 12) ok dJ1_addLast_1 (by decide) hE (fun hE => ?_) (fun hE => ?_)
  · refine zg_aload_n ok dJ1_addLast_12 rfl 0 rfl ?_
    refine zg_getA ok lf_J1_3 dJ1_addLast_13 hE (fun v1 hE => ?_)
    refine zg_astore_nR (L' := [(2, va_rf v1), (0, va_rf a0), (1, va_rf a1)]) ok dJ1_addLast_16 rfl (by decide) 1 rfl rfl rfl ?_
    refine zg_aload_n ok dJ1_addLast_17 rfl 0 rfl ?_
    refine zg_aload_n ok dJ1_addLast_18 rfl 1 rfl ?_
    refine zg_getI ok lf_J1_20 dJ1_addLast_19 hE (fun v2 hE => ?_)
    refine zg_aload_n ok dJ1_addLast_22 rfl 2 rfl ?_
    refine zg_aastO ok lt_5 dJ1_addLast_23 hE (fun h1 hE => ?_)
    refine zg_aload_n ok dJ1_addLast_24 rfl 1 rfl ?_
    refine zg_getI ok lf_J1_24 dJ1_addLast_25 hE (fun v3 hE => ?_)
    refine zg_aload_n ok dJ1_addLast_28 rfl 1 rfl ?_
    refine zg_aload_n ok dJ1_addLast_29 rfl 1 rfl ?_
    refine zg_getI ok lf_J1_20 dJ1_addLast_30 hE (fun v4 hE => ?_)
    refine zg_aload_n ok dJ1_addLast_33 rfl 0 rfl ?_
    refine zg_alen ok dJ1_addLast_34 hE (fun v5 hE => ?_)
    refine zg_callS (vs := [zI v4, zI v5]) (rest := [va_rf a0, .int v3]) (rm := rm_J1_inc) ok hRm lk_J1_74 dJ1_addLast_35 hE (fun hE => mt_J1_inc hl hE) rfl (Nat.le_of_ble_eq_true rfl) ⟨⟨Nat.le_of_ble_eq_true rfl, Nat.le_of_ble_eq_true rfl⟩, Nat.le_of_ble_eq_true rfl, Nat.le_of_ble_eq_true rfl⟩ (zg_retI (fun v6 h2 hE => ?_)) (zg_xok ok tab fin ⟨Nat.le_of_ble_eq_true rfl, Nat.le_of_ble_eq_true rfl⟩)
    refine zg_cost (kc2 := 0) (ks2 := 0) ⟨rfl, rfl⟩ ?_
    refine zg_dup_x1 ok dJ1_addLast_38 rfl (zw_rfc _) ?_
    refine zg_put (ty := .int) ok lf_J1_20 (Or.inl rfl) (by decide) (by decide +kernel) rfl rfl dJ1_addLast_39 hE (fun h3 hE => ?_)
    refine zg_icmp_ne (tgt := 50) ok dJ1_addLast_42 (by decide) hE (fun hE => ?_) (fun hE => ?_)
    · exact zg_vret ok fin dJ1_addLast_50 ⟨Nat.le_of_ble_eq_true rfl, Nat.le_of_ble_eq_true rfl⟩ hE
    · refine zg_aload_n ok dJ1_addLast_45 rfl 1 rfl ?_
      refine zg_iconst (v := 1) ok dJ1_addLast_46 (by decide) ?_
      refine zg_callV (vs := [zI 1]) (rest := []) (rm := rm_J1_grow) ok hRm lk_J1_71 dJ1_addLast_47 hE (fun hE => mt_J1_grow hl hE) rfl (Nat.le_of_ble_eq_true rfl) ⟨⟨Nat.le_of_ble_eq_true rfl, Nat.le_of_ble_eq_true rfl⟩, Nat.le_of_ble_eq_true rfl, Nat.le_of_ble_eq_true rfl⟩ (zg_retV (fun h4 hE => ?_)) (zg_xok ok tab fin ⟨Nat.le_of_ble_eq_true rfl, Nat.le_of_ble_eq_true rfl⟩)
      refine zg_cost (kc2 := 1) (ks2 := 40) ⟨rfl, rfl⟩ ?_
      exact zg_vret ok fin dJ1_addLast_50 ⟨Nat.le_of_ble_eq_true rfl, Nat.le_of_ble_eq_true rfl⟩ hE
  · exact hE.elim
set_option maxHeartbeats 8000000 in
theorem gt_f_X1_change_J20 {Xc : zw_X} {Q : Option Nat → zw_H → Prop} {X : String → Nat → zw_H → Prop} (hl : (zw_l Xc).stackTraces = false) (ok : zw_ok Xc cX1_change "MultipoleLine" yX1_change.name 1) (tab : zw_tab Xc []) (fin : zw_fin Xc (Option.some (Jvm.ClassFile.FieldType.object "MultipoleLine$Line")) (zq_A Q) X 294 2397) (hRm : zw_rm Xc = rm_X1_change)  {l0 : Option Nat}  {h : zw_H} (hE : f_X1_change_J20 (zw_Zf Xc).2.2.2 Q X  l0 h) : zw_G Xc 0 0 1 h 20 [(0, va_rf l0)] [] := by
  unfold f_X1_change_J20 at hE
  refine zg_aload_n ok dX1_change_20 rfl 0 rfl ?_
  refine zg_getA ok lf_X1_38 dX1_change_21 hE (fun v3 hE => ?_)
  refine zg_aload_n ok dX1_change_24 rfl 0 rfl ?_
  refine zg_getA ok lf_X1_68 dX1_change_25 hE (fun v4 hE => ?_)
  refine zg_callV (vs := [zA v4]) (rest := []) (rm := rm_J1_addLast) ok hRm lk_X1_444 dX1_change_28 hE (fun hE => mt_J1_addLast hl hE) rfl (Nat.le_of_ble_eq_true rfl) ⟨⟨Nat.le_of_ble_eq_true rfl, Nat.le_of_ble_eq_true rfl⟩, Nat.le_of_ble_eq_true rfl, Nat.le_of_ble_eq_true rfl⟩ (zg_retV (fun h2 hE => ?_)) (zg_xok ok tab fin ⟨Nat.le_of_ble_eq_true rfl, Nat.le_of_ble_eq_true rfl⟩)
  refine zg_cost (kc2 := 1) (ks2 := 40) ⟨rfl, rfl⟩ ?_
  refine zg_aload_n ok dX1_change_31 rfl 0 rfl ?_
  refine zg_aload_n ok dX1_change_32 rfl 0 rfl ?_
  refine zg_getA ok lf_X1_68 dX1_change_33 hE (fun v5 hE => ?_)
  refine zg_callV (vs := []) (rest := [va_rf l0]) (rm := rm_X4_copy) ok hRm lk_X1_349 dX1_change_36 hE (fun hE => mt_X4_copy hl hE) rfl (Nat.le_of_ble_eq_true rfl) ⟨⟨Nat.le_of_ble_eq_true rfl, Nat.le_of_ble_eq_true rfl⟩, Nat.le_of_ble_eq_true rfl, Nat.le_of_ble_eq_true rfl⟩ (zg_retA (fun v6 h3 hE => ?_)) (zg_xok ok tab fin ⟨Nat.le_of_ble_eq_true rfl, Nat.le_of_ble_eq_true rfl⟩)
  refine zg_cost (kc2 := 294) (ks2 := 2397) ⟨rfl, rfl⟩ ?_
  refine zg_put (ty := (.object "MultipoleLine$Line")) ok lf_X1_68 (Or.inl rfl) (by decide) (by decide +kernel) (zw_nrO _ _) (zw_frO _ _) dX1_change_39 hE (fun h4 hE => ?_)
  refine zg_aload_n ok dX1_change_42 rfl 0 rfl ?_
  refine zg_getA ok lf_X1_68 dX1_change_43 hE (fun v7 hE => ?_)
  exact zg_aret ok fin (Or.inl ⟨_, rfl⟩) dX1_change_46 ⟨Nat.le_of_ble_eq_true rfl, Nat.le_of_ble_eq_true rfl⟩ hE
set_option maxHeartbeats 8000000 in
theorem mt_X1_change {l : Launch} (hl : l.stackTraces = false) {Z : zw_Z} {a0 : Option Nat} {h : zw_H} {Q : Option Nat → zw_H → Prop} {X : String → Nat → zw_H → Prop} (hE : f_X1_change Z.2.2.2 a0 h Q X) : zw_Met l Z yX1_change (ws_ yX1_change cX1_change 1 (Option.some (Jvm.ClassFile.FieldType.object "MultipoleLine$Line"))) rm_X1_change [zA a0] h (zq_A Q) X := by
  refine zg_start (own := "MultipoleLine") (by decide +kernel) rfl (Nat.le_of_ble_eq_true rfl) hl (fun Xc ok tab fin hRm hXl hXZ => ?_)
  subst hXl
  subst hXZ
  unfold f_X1_change at hE
  refine zg_aload_n ok dX1_change_0 rfl 0 rfl ?_
  refine zg_getA ok lf_X1_38 dX1_change_1 hE (fun v1 hE => ?_)
  refine zg_callV (vs := []) (rest := []) (rm := rm_J1_size) ok hRm lk_X1_440 dX1_change_4 hE (fun hE => mt_J1_size hl hE) rfl (Nat.le_of_ble_eq_true rfl) ⟨⟨Nat.le_of_ble_eq_true rfl, Nat.le_of_ble_eq_true rfl⟩, Nat.le_of_ble_eq_true rfl, Nat.le_of_ble_eq_true rfl⟩ (zg_retI (fun v2 h1 hE => ?_)) (zg_xok ok tab fin ⟨Nat.le_of_ble_eq_true rfl, Nat.le_of_ble_eq_true rfl⟩)
  refine zg_cost (kc2 := 0) (ks2 := 0) ⟨rfl, rfl⟩ ?_
  refine zg_bipush (v := 8) ok dX1_change_7 (by decide) ?_
  refine zg_icmp_ne (tgt := 20) ok dX1_change_9 (by decide) hE (fun hE => ?_) (fun hE => ?_)
  · exact gt_f_X1_change_J20 hl ok tab fin hRm  hE
  · refine zg_aload_n ok dX1_change_12 rfl 0 rfl ?_
    refine zg_getA ok lf_X1_38 dX1_change_13 hE (fun v8 hE => ?_)
    refine zg_callV (vs := []) (rest := []) (rm := rm_J1_removeFirst) ok hRm lk_X1_441 dX1_change_16 hE (fun hE => mt_J1_removeFirst hl hE) rfl (Nat.le_of_ble_eq_true rfl) ⟨⟨Nat.le_of_ble_eq_true rfl, Nat.le_of_ble_eq_true rfl⟩, Nat.le_of_ble_eq_true rfl, Nat.le_of_ble_eq_true rfl⟩ (zg_retA (fun v9 h5 hE => ?_)) (zg_xok ok tab fin ⟨Nat.le_of_ble_eq_true rfl, Nat.le_of_ble_eq_true rfl⟩)
    refine zg_cost (kc2 := 0) (ks2 := 0) ⟨rfl, rfl⟩ ?_
    refine zg_pop ok dX1_change_19 (zw_rfc _) ?_
    exact gt_f_X1_change_J20 hl ok tab fin hRm  hE
set_option maxHeartbeats 8000000 in
theorem gt_f_X1_add_J48 {Xc : zw_X} {Q : Int32 → zw_H → Prop} {X : String → Nat → zw_H → Prop} (hl : (zw_l Xc).stackTraces = false) (ok : zw_ok Xc cX1_add "MultipoleLine" yX1_add.name 5) (tab : zw_tab Xc []) (fin : zw_fin Xc (Option.some Jvm.ClassFile.FieldType.int) (zq_I Q) X 302 2484) (hRm : zw_rm Xc = rm_X1_add)  {l0 : Option Nat} {l1 : Int32} {l2 : Int32} {l3 : Int32} {s0 : Int32} {h : zw_H} (hE : f_X1_add_J48 (zw_Zf Xc).2.2.2 Q X  l0 l1 l2 l3 s0 h) : zw_G Xc 1 6 5 h 48 [(0, va_rf l0), (1, .int l1), (2, .int l2), (3, .int l3)] [.int s0] := by
  unfold f_X1_add_J48 at hE
  refine zg_callS (vs := [zI s0]) (rest := []) (rm := rm_X1_checkArgument) ok hRm lk_X1_98 dX1_add_48 hE (fun hE => mt_X1_checkArgument hl hE) rfl (Nat.le_of_ble_eq_true rfl) ⟨⟨Nat.le_of_ble_eq_true rfl, Nat.le_of_ble_eq_true rfl⟩, Nat.le_of_ble_eq_true rfl, Nat.le_of_ble_eq_true rfl⟩ (zg_retV (fun h3 hE => ?_)) (zg_xok ok tab fin ⟨Nat.le_of_ble_eq_true rfl, Nat.le_of_ble_eq_true rfl⟩)
  refine zg_cost (kc2 := 2) (ks2 := 12) ⟨rfl, rfl⟩ ?_
  refine zg_aload_n ok dX1_add_51 rfl 0 rfl ?_
  refine zg_callV (vs := []) (rest := []) (rm := rm_X1_change) ok hRm lk_X1_454 dX1_add_52 hE (fun hE => mt_X1_change hl hE) rfl (Nat.le_of_ble_eq_true rfl) ⟨⟨Nat.le_of_ble_eq_true rfl, Nat.le_of_ble_eq_true rfl⟩, Nat.le_of_ble_eq_true rfl, Nat.le_of_ble_eq_true rfl⟩ (zg_retA (fun v3 h4 hE => ?_)) (zg_xok ok tab fin ⟨Nat.le_of_ble_eq_true rfl, Nat.le_of_ble_eq_true rfl⟩)
  refine zg_cost (kc2 := 296) (ks2 := 2409) ⟨rfl, rfl⟩ ?_
  refine zg_getA ok lf_X1_457 dX1_add_55 hE (fun v4 hE => ?_)
  refine zg_iload_n ok dX1_add_58 rfl 1 rfl ?_
  refine zg_callS (vs := [zI l1]) (rest := [va_rf v4]) (rm := rm_X1_body) ok hRm lk_X1_461 dX1_add_59 hE (fun hE => mt_X1_body hl hE) rfl (Nat.le_of_ble_eq_true rfl) ⟨⟨Nat.le_of_ble_eq_true rfl, Nat.le_of_ble_eq_true rfl⟩, Nat.le_of_ble_eq_true rfl, Nat.le_of_ble_eq_true rfl⟩ (zg_retA (fun v5 h5 hE => ?_)) (zg_xok ok tab fin ⟨Nat.le_of_ble_eq_true rfl, Nat.le_of_ble_eq_true rfl⟩)
  refine zg_cost (kc2 := 301) (ks2 := 2444) ⟨rfl, rfl⟩ ?_
  refine zg_iload_n ok dX1_add_62 rfl 2 rfl ?_
  refine zg_iload_n ok dX1_add_63 rfl 3 rfl ?_
  refine zg_iconst (v := 0) ok dX1_add_64 (by decide) ?_
  rcases od_some hE with ⟨a9, hr9, hE⟩ | ⟨a9, hr9, hE⟩
  · refine zg_callU (vs := [zI l2, zI l3, zI 0]) (rest := [va_rf v4]) (rm := rm_X7_be) ok hRm lk_X1_465_6 dX1_add_65 hE (fun hE => mt_X7_be hl hE) rfl (Nat.le_of_ble_eq_true rfl) ⟨⟨Nat.le_of_ble_eq_true rfl, Nat.le_of_ble_eq_true rfl⟩, Nat.le_of_ble_eq_true rfl, Nat.le_of_ble_eq_true rfl⟩ (zg_retA (fun v6 h6 hE => ?_)) (zg_xok ok tab fin ⟨Nat.le_of_ble_eq_true rfl, Nat.le_of_ble_eq_true rfl⟩)
    refine zg_wide (kc2 := 301) (ks2 := 2444) (Nat.le_of_ble_eq_true rfl) (Nat.le_of_ble_eq_true rfl) ?_
    refine zg_callF (vs := [zA v6]) (rest := []) (rm := rm_J12_add) ok hRm lk_X1_469 dX1_add_68 hE (fun hE => mt_J12_add hl hE) rfl (Nat.le_of_ble_eq_true rfl) ⟨⟨Nat.le_of_ble_eq_true rfl, Nat.le_of_ble_eq_true rfl⟩, Nat.le_of_ble_eq_true rfl, Nat.le_of_ble_eq_true rfl⟩ (zg_retI (fun v7 h7 hE => ?_)) (zg_xok ok tab fin ⟨Nat.le_of_ble_eq_true rfl, Nat.le_of_ble_eq_true rfl⟩)
    refine zg_cost (kc2 := 302) (ks2 := 2484) ⟨rfl, rfl⟩ ?_
    refine zg_pop ok dX1_add_73 rfl ?_
    refine zg_aload_n ok dX1_add_74 rfl 0 rfl ?_
    refine zg_getA ok lf_X1_68 dX1_add_75 hE (fun v8 hE => ?_)
    refine zg_callV (vs := []) (rest := []) (rm := rm_X4_size) ok hRm lk_X1_80 dX1_add_78 hE (fun hE => mt_X4_size hl hE) rfl (Nat.le_of_ble_eq_true rfl) ⟨⟨Nat.le_of_ble_eq_true rfl, Nat.le_of_ble_eq_true rfl⟩, Nat.le_of_ble_eq_true rfl, Nat.le_of_ble_eq_true rfl⟩ (zg_retI (fun v9 h8 hE => ?_)) (zg_xok ok tab fin ⟨Nat.le_of_ble_eq_true rfl, Nat.le_of_ble_eq_true rfl⟩)
    refine zg_cost (kc2 := 302) (ks2 := 2484) ⟨rfl, rfl⟩ ?_
    refine zg_iconst (v := 1) ok dX1_add_81 (by decide) ?_
    refine zg_isub ok dX1_add_82 ?_
    exact zg_iret ok fin dX1_add_83 ⟨Nat.le_of_ble_eq_true rfl, Nat.le_of_ble_eq_true rfl⟩ hE
  · refine zg_callU (vs := [zI l2, zI l3, zI 0]) (rest := [va_rf v4]) (rm := rm_X7_be) ok hRm lk_X1_465_7 dX1_add_65 hE (fun hE => mt_X7_be hl hE) rfl (Nat.le_of_ble_eq_true rfl) ⟨⟨Nat.le_of_ble_eq_true rfl, Nat.le_of_ble_eq_true rfl⟩, Nat.le_of_ble_eq_true rfl, Nat.le_of_ble_eq_true rfl⟩ (zg_retA (fun v6 h6 hE => ?_)) (zg_xok ok tab fin ⟨Nat.le_of_ble_eq_true rfl, Nat.le_of_ble_eq_true rfl⟩)
    refine zg_wide (kc2 := 301) (ks2 := 2444) (Nat.le_of_ble_eq_true rfl) (Nat.le_of_ble_eq_true rfl) ?_
    refine zg_callF (vs := [zA v6]) (rest := []) (rm := rm_J12_add) ok hRm lk_X1_469 dX1_add_68 hE (fun hE => mt_J12_add hl hE) rfl (Nat.le_of_ble_eq_true rfl) ⟨⟨Nat.le_of_ble_eq_true rfl, Nat.le_of_ble_eq_true rfl⟩, Nat.le_of_ble_eq_true rfl, Nat.le_of_ble_eq_true rfl⟩ (zg_retI (fun v7 h7 hE => ?_)) (zg_xok ok tab fin ⟨Nat.le_of_ble_eq_true rfl, Nat.le_of_ble_eq_true rfl⟩)
    refine zg_cost (kc2 := 302) (ks2 := 2484) ⟨rfl, rfl⟩ ?_
    refine zg_pop ok dX1_add_73 rfl ?_
    refine zg_aload_n ok dX1_add_74 rfl 0 rfl ?_
    refine zg_getA ok lf_X1_68 dX1_add_75 hE (fun v8 hE => ?_)
    refine zg_callV (vs := []) (rest := []) (rm := rm_X4_size) ok hRm lk_X1_80 dX1_add_78 hE (fun hE => mt_X4_size hl hE) rfl (Nat.le_of_ble_eq_true rfl) ⟨⟨Nat.le_of_ble_eq_true rfl, Nat.le_of_ble_eq_true rfl⟩, Nat.le_of_ble_eq_true rfl, Nat.le_of_ble_eq_true rfl⟩ (zg_retI (fun v9 h8 hE => ?_)) (zg_xok ok tab fin ⟨Nat.le_of_ble_eq_true rfl, Nat.le_of_ble_eq_true rfl⟩)
    refine zg_cost (kc2 := 302) (ks2 := 2484) ⟨rfl, rfl⟩ ?_
    refine zg_iconst (v := 1) ok dX1_add_81 (by decide) ?_
    refine zg_isub ok dX1_add_82 ?_
    exact zg_iret ok fin dX1_add_83 ⟨Nat.le_of_ble_eq_true rfl, Nat.le_of_ble_eq_true rfl⟩ hE
set_option maxHeartbeats 8000000 in
theorem gt_f_X1_add_J47 {Xc : zw_X} {Q : Int32 → zw_H → Prop} {X : String → Nat → zw_H → Prop} (hl : (zw_l Xc).stackTraces = false) (ok : zw_ok Xc cX1_add "MultipoleLine" yX1_add.name 5) (tab : zw_tab Xc []) (fin : zw_fin Xc (Option.some Jvm.ClassFile.FieldType.int) (zq_I Q) X 302 2484) (hRm : zw_rm Xc = rm_X1_add)  {l0 : Option Nat} {l1 : Int32} {l2 : Int32} {l3 : Int32}  {h : zw_H} (hE : f_X1_add_J47 (zw_Zf Xc).2.2.2 Q X  l0 l1 l2 l3 h) : zw_G Xc 1 6 5 h 47 [(0, va_rf l0), (1, .int l1), (2, .int l2), (3, .int l3)] [] := by
  unfold f_X1_add_J47 at hE
  refine zg_iconst (v := 0) ok dX1_add_47 (by decide) ?_
  exact gt_f_X1_add_J48 hl ok tab fin hRm  hE
set_option maxHeartbeats 8000000 in
theorem gt_f_X1_add_J43 {Xc : zw_X} {Q : Int32 → zw_H → Prop} {X : String → Nat → zw_H → Prop} (hl : (zw_l Xc).stackTraces = false) (ok : zw_ok Xc cX1_add "MultipoleLine" yX1_add.name 5) (tab : zw_tab Xc []) (fin : zw_fin Xc (Option.some Jvm.ClassFile.FieldType.int) (zq_I Q) X 302 2484) (hRm : zw_rm Xc = rm_X1_add)  {l0 : Option Nat} {l1 : Int32} {l2 : Int32} {l3 : Int32}  {h : zw_H} (hE : f_X1_add_J43 (zw_Zf Xc).2.2.2 Q X  l0 l1 l2 l3 h) : zw_G Xc 1 6 5 h 43 [(0, va_rf l0), (1, .int l1), (2, .int l2), (3, .int l3)] [] := by
  unfold f_X1_add_J43 at hE
  refine zg_iconst (v := 1) ok dX1_add_43 (by decide) ?_
  refine zg_goto (tgt := 48) ok dX1_add_44 (by decide) ?_
  exact gt_f_X1_add_J48 hl ok tab fin hRm  hE
set_option maxHeartbeats 8000000 in
theorem mt_X1_add {l : Launch} (hl : l.stackTraces = false) {Z : zw_Z} {a0 : Option Nat} {a1 : Int32} {a2 : Int32} {a3 : Int32} {h : zw_H} {Q : Int32 → zw_H → Prop} {X : String → Nat → zw_H → Prop} (hE : f_X1_add Z.2.2.2 a0 a1 a2 a3 h Q X) : zw_Met l Z yX1_add (ws_ yX1_add cX1_add 5 (Option.some Jvm.ClassFile.FieldType.int)) rm_X1_add [zA a0, zI a1, zI a2, zI a3] h (zq_I Q) X := by
  refine zg_start (own := "MultipoleLine") (by decide +kernel) rfl (Nat.le_of_ble_eq_true rfl) hl (fun Xc ok tab fin hRm hXl hXZ => ?_)
  subst hXl
  subst hXZ
  unfold f_X1_add at hE
  refine zg_aload_n ok dX1_add_0 rfl 0 rfl ?_
  refine zg_callV (vs := []) (rest := []) (rm := rm_X1_loaded) ok hRm lk_X1_76 dX1_add_1 hE (fun hE => mt_X1_loaded hl hE) rfl (Nat.le_of_ble_eq_true rfl) ⟨⟨Nat.le_of_ble_eq_true rfl, Nat.le_of_ble_eq_true rfl⟩, Nat.le_of_ble_eq_true rfl, Nat.le_of_ble_eq_true rfl⟩ (zg_retA (fun v1 h1 hE => ?_)) (zg_xok ok tab fin ⟨Nat.le_of_ble_eq_true rfl, Nat.le_of_ble_eq_true rfl⟩)
  refine zg_cost (kc2 := 1) (ks2 := 6) ⟨rfl, rfl⟩ ?_
  refine zg_astore (L' := [(4, va_rf v1), (0, va_rf a0), (1, .int a1), (2, .int a2), (3, .int a3)]) ok dX1_add_4 (by decide) rfl ?_
  refine zg_iload_n ok dX1_add_6 rfl 3 rfl ?_
  refine zg_callS (vs := [zI a2]) (rest := []) (rm := rm_X1_isPoint) ok hRm lk_X1_94 dX1_add_7 hE (fun hE => mt_X1_isPoint hl hE) rfl (Nat.le_of_ble_eq_true rfl) ⟨⟨Nat.le_of_ble_eq_true rfl, Nat.le_of_ble_eq_true rfl⟩, Nat.le_of_ble_eq_true rfl, Nat.le_of_ble_eq_true rfl⟩ (zg_retI (fun v2 h2 hE => ?_)) (zg_xok ok tab fin ⟨Nat.le_of_ble_eq_true rfl, Nat.le_of_ble_eq_true rfl⟩)
  refine zg_cost (kc2 := 1) (ks2 := 6) ⟨rfl, rfl⟩ ?_
  refine zg_if_eq (tgt := 47) ok dX1_add_10 (by decide) hE (fun hE => ?_) (fun hE => ?_)
  · refine zg_sub (L' := [(0, va_rf a0), (1, .int a1), (2, .int a2), (3, .int a3)]) [1, 2, 3, 4] rfl ?_
    exact gt_f_X1_add_J47 hl ok tab fin hRm  hE
  · refine zg_iload_n ok dX1_add_13 rfl 4 rfl ?_
    refine zg_callS (vs := [zI a3]) (rest := []) (rm := rm_X1_isCharge) ok hRm lk_X1_448 dX1_add_14 hE (fun hE => mt_X1_isCharge hl hE) rfl (Nat.le_of_ble_eq_true rfl) ⟨⟨Nat.le_of_ble_eq_true rfl, Nat.le_of_ble_eq_true rfl⟩, Nat.le_of_ble_eq_true rfl, Nat.le_of_ble_eq_true rfl⟩ (zg_retI (fun v10 h9 hE => ?_)) (zg_xok ok tab fin ⟨Nat.le_of_ble_eq_true rfl, Nat.le_of_ble_eq_true rfl⟩)
    refine zg_cost (kc2 := 1) (ks2 := 6) ⟨rfl, rfl⟩ ?_
    refine zg_if_eq (tgt := 47) ok dX1_add_17 (by decide) hE (fun hE => ?_) (fun hE => ?_)
    · refine zg_sub (L' := [(0, va_rf a0), (1, .int a1), (2, .int a2), (3, .int a3)]) [1, 2, 3, 4] rfl ?_
      exact gt_f_X1_add_J47 hl ok tab fin hRm  hE
    · refine zg_aload ok dX1_add_20 0 rfl ?_
      refine zg_callV (vs := []) (rest := []) (rm := rm_X4_size) ok hRm lk_X1_80 dX1_add_22 hE (fun hE => mt_X4_size hl hE) rfl (Nat.le_of_ble_eq_true rfl) ⟨⟨Nat.le_of_ble_eq_true rfl, Nat.le_of_ble_eq_true rfl⟩, Nat.le_of_ble_eq_true rfl, Nat.le_of_ble_eq_true rfl⟩ (zg_retI (fun v11 h10 hE => ?_)) (zg_xok ok tab fin ⟨Nat.le_of_ble_eq_true rfl, Nat.le_of_ble_eq_true rfl⟩)
      refine zg_cost (kc2 := 1) (ks2 := 6) ⟨rfl, rfl⟩ ?_
      refine zg_bipush (v := 24) ok dX1_add_25 (by decide) ?_
      refine zg_icmp_ge (tgt := 47) ok dX1_add_27 (by decide) hE (fun hE => ?_) (fun hE => ?_)
      · refine zg_sub (L' := [(0, va_rf a0), (1, .int a1), (2, .int a2), (3, .int a3)]) [1, 2, 3, 4] rfl ?_
        exact gt_f_X1_add_J47 hl ok tab fin hRm  hE
      · refine zg_iload_n ok dX1_add_30 rfl 2 rfl ?_
        refine zg_if_eq (tgt := 43) ok dX1_add_31 (by decide) hE (fun hE => ?_) (fun hE => ?_)
        · refine zg_sub (L' := [(0, va_rf a0), (1, .int a1), (2, .int a2), (3, .int a3)]) [1, 2, 3, 4] rfl ?_
          exact gt_f_X1_add_J43 hl ok tab fin hRm  hE
        · refine zg_aload ok dX1_add_34 0 rfl ?_
          refine zg_iload_n ok dX1_add_36 rfl 3 rfl ?_
          refine zg_callV (vs := [zI a2]) (rest := []) (rm := rm_X4_hasFixed) ok hRm lk_X1_451 dX1_add_37 hE (fun hE => mt_X4_hasFixed hl hE) rfl (Nat.le_of_ble_eq_true rfl) ⟨⟨Nat.le_of_ble_eq_true rfl, Nat.le_of_ble_eq_true rfl⟩, Nat.le_of_ble_eq_true rfl, Nat.le_of_ble_eq_true rfl⟩ (zg_retI (fun v12 h11 hE => ?_)) (zg_xok ok tab fin ⟨Nat.le_of_ble_eq_true rfl, Nat.le_of_ble_eq_true rfl⟩)
          refine zg_cost (kc2 := 1) (ks2 := 6) ⟨rfl, rfl⟩ ?_
          refine zg_if_ne (tgt := 47) ok dX1_add_40 (by decide) hE (fun hE => ?_) (fun hE => ?_)
          · refine zg_sub (L' := [(0, va_rf a0), (1, .int a1), (2, .int a2), (3, .int a3)]) [1, 2, 3, 4] rfl ?_
            exact gt_f_X1_add_J47 hl ok tab fin hRm  hE
          · refine zg_sub (L' := [(0, va_rf a0), (1, .int a1), (2, .int a2), (3, .int a3)]) [1, 2, 3, 4] rfl ?_
            exact gt_f_X1_add_J43 hl ok tab fin hRm  hE
set_option maxHeartbeats 8000000 in
theorem gt_f_X1_move_J25 {Xc : zw_X} {Q : Int32 → zw_H → Prop} {X : String → Nat → zw_H → Prop} (hl : (zw_l Xc).stackTraces = false) (ok : zw_ok Xc cX1_move "MultipoleLine" yX1_move.name 4) (tab : zw_tab Xc []) (fin : zw_fin Xc (Option.some Jvm.ClassFile.FieldType.int) (zq_I Q) X 297 2415) (hRm : zw_rm Xc = rm_X1_move)  {l0 : Option Nat} {l1 : Int32} {l2 : Int32} {l3 : Option Nat} {s0 : Int32} {h : zw_H} (hE : f_X1_move_J25 (zw_Zf Xc).2.2.2 Q X  l0 l1 l2 l3 s0 h) : zw_G Xc 2 12 4 h 25 [(0, va_rf l0), (1, .int l1), (2, .int l2), (3, va_rf l3)] [.int s0] := by
  unfold f_X1_move_J25 at hE
  refine zg_callS (vs := [zI s0]) (rest := []) (rm := rm_X1_checkArgument) ok hRm lk_X1_98 dX1_move_25 hE (fun hE => mt_X1_checkArgument hl hE) rfl (Nat.le_of_ble_eq_true rfl) ⟨⟨Nat.le_of_ble_eq_true rfl, Nat.le_of_ble_eq_true rfl⟩, Nat.le_of_ble_eq_true rfl, Nat.le_of_ble_eq_true rfl⟩ (zg_retV (fun h3 hE => ?_)) (zg_xok ok tab fin ⟨Nat.le_of_ble_eq_true rfl, Nat.le_of_ble_eq_true rfl⟩)
  refine zg_cost (kc2 := 3) (ks2 := 18) ⟨rfl, rfl⟩ ?_
  refine zg_aload_n ok dX1_move_28 rfl 0 rfl ?_
  refine zg_callV (vs := []) (rest := []) (rm := rm_X1_change) ok hRm lk_X1_454 dX1_move_29 hE (fun hE => mt_X1_change hl hE) rfl (Nat.le_of_ble_eq_true rfl) ⟨⟨Nat.le_of_ble_eq_true rfl, Nat.le_of_ble_eq_true rfl⟩, Nat.le_of_ble_eq_true rfl, Nat.le_of_ble_eq_true rfl⟩ (zg_retA (fun v3 h4 hE => ?_)) (zg_xok ok tab fin ⟨Nat.le_of_ble_eq_true rfl, Nat.le_of_ble_eq_true rfl⟩)
  refine zg_cost (kc2 := 297) (ks2 := 2415) ⟨rfl, rfl⟩ ?_
  refine zg_iload_n ok dX1_move_32 rfl 1 rfl ?_
  refine zg_callV (vs := [zI l1]) (rest := []) (rm := rm_X4_at) ok hRm lk_X1_88 dX1_move_33 hE (fun hE => mt_X4_at hl hE) rfl (Nat.le_of_ble_eq_true rfl) ⟨⟨Nat.le_of_ble_eq_true rfl, Nat.le_of_ble_eq_true rfl⟩, Nat.le_of_ble_eq_true rfl, Nat.le_of_ble_eq_true rfl⟩ (zg_retA (fun v4 h5 hE => ?_)) (zg_xok ok tab fin ⟨Nat.le_of_ble_eq_true rfl, Nat.le_of_ble_eq_true rfl⟩)
  refine zg_cost (kc2 := 297) (ks2 := 2415) ⟨rfl, rfl⟩ ?_
  refine zg_iload_n ok dX1_move_36 rfl 2 rfl ?_
  refine zg_put (ty := .int) ok lf_X1_139 (Or.inl rfl) (by decide) (by decide +kernel) rfl rfl dX1_move_37 hE (fun h6 hE => ?_)
  refine zg_iload_n ok dX1_move_40 rfl 2 rfl ?_
  refine zg_aload_n ok dX1_move_41 rfl 3 rfl ?_
  refine zg_getI ok lf_X1_139 dX1_move_42 hE (fun v5 hE => ?_)
  refine zg_isub ok dX1_move_45 ?_
  exact zg_iret ok fin dX1_move_46 ⟨Nat.le_of_ble_eq_true rfl, Nat.le_of_ble_eq_true rfl⟩ hE
set_option maxHeartbeats 8000000 in
theorem gt_f_X1_move_J24 {Xc : zw_X} {Q : Int32 → zw_H → Prop} {X : String → Nat → zw_H → Prop} (hl : (zw_l Xc).stackTraces = false) (ok : zw_ok Xc cX1_move "MultipoleLine" yX1_move.name 4) (tab : zw_tab Xc []) (fin : zw_fin Xc (Option.some Jvm.ClassFile.FieldType.int) (zq_I Q) X 297 2415) (hRm : zw_rm Xc = rm_X1_move)  {l0 : Option Nat} {l1 : Int32} {l2 : Int32} {l3 : Option Nat}  {h : zw_H} (hE : f_X1_move_J24 (zw_Zf Xc).2.2.2 Q X  l0 l1 l2 l3 h) : zw_G Xc 2 12 4 h 24 [(0, va_rf l0), (1, .int l1), (2, .int l2), (3, va_rf l3)] [] := by
  unfold f_X1_move_J24 at hE
  refine zg_iconst (v := 0) ok dX1_move_24 (by decide) ?_
  exact gt_f_X1_move_J25 hl ok tab fin hRm  hE
set_option maxHeartbeats 8000000 in
theorem mt_X1_move {l : Launch} (hl : l.stackTraces = false) {Z : zw_Z} {a0 : Option Nat} {a1 : Int32} {a2 : Int32} {h : zw_H} {Q : Int32 → zw_H → Prop} {X : String → Nat → zw_H → Prop} (hE : f_X1_move Z.2.2.2 a0 a1 a2 h Q X) : zw_Met l Z yX1_move (ws_ yX1_move cX1_move 4 (Option.some Jvm.ClassFile.FieldType.int)) rm_X1_move [zA a0, zI a1, zI a2] h (zq_I Q) X := by
  refine zg_start (own := "MultipoleLine") (by decide +kernel) rfl (Nat.le_of_ble_eq_true rfl) hl (fun Xc ok tab fin hRm hXl hXZ => ?_)
  subst hXl
  subst hXZ
  unfold f_X1_move at hE
  refine zg_aload_n ok dX1_move_0 rfl 0 rfl ?_
  refine zg_iload_n ok dX1_move_1 rfl 1 rfl ?_
  refine zg_callV (vs := [zI a1]) (rest := []) (rm := rm_X1_bodyOf) ok hRm lk_X1_174 dX1_move_2 hE (fun hE => mt_X1_bodyOf hl hE) rfl (Nat.le_of_ble_eq_true rfl) ⟨⟨Nat.le_of_ble_eq_true rfl, Nat.le_of_ble_eq_true rfl⟩, Nat.le_of_ble_eq_true rfl, Nat.le_of_ble_eq_true rfl⟩ (zg_retA (fun v1 h1 hE => ?_)) (zg_xok ok tab fin ⟨Nat.le_of_ble_eq_true rfl, Nat.le_of_ble_eq_true rfl⟩)
  refine zg_cost (kc2 := 2) (ks2 := 12) ⟨rfl, rfl⟩ ?_
  refine zg_astore_n (L' := [(3, va_rf v1), (0, va_rf a0), (1, .int a1), (2, .int a2)]) ok dX1_move_5 rfl (by decide) rfl ?_
  refine zg_iload_n ok dX1_move_6 rfl 3 rfl ?_
  refine zg_callS (vs := [zI a2]) (rest := []) (rm := rm_X1_isPoint) ok hRm lk_X1_94 dX1_move_7 hE (fun hE => mt_X1_isPoint hl hE) rfl (Nat.le_of_ble_eq_true rfl) ⟨⟨Nat.le_of_ble_eq_true rfl, Nat.le_of_ble_eq_true rfl⟩, Nat.le_of_ble_eq_true rfl, Nat.le_of_ble_eq_true rfl⟩ (zg_retI (fun v2 h2 hE => ?_)) (zg_xok ok tab fin ⟨Nat.le_of_ble_eq_true rfl, Nat.le_of_ble_eq_true rfl⟩)
  refine zg_cost (kc2 := 2) (ks2 := 12) ⟨rfl, rfl⟩ ?_
  refine zg_if_eq (tgt := 24) ok dX1_move_10 (by decide) hE (fun hE => ?_) (fun hE => ?_)
  · refine zg_sub (L' := [(0, va_rf a0), (1, .int a1), (2, .int a2), (3, va_rf v1)]) [1, 2, 3, 0] rfl ?_
    exact gt_f_X1_move_J24 hl ok tab fin hRm  hE
  · refine zg_aload_n ok dX1_move_13 rfl 0 rfl ?_
    refine zg_getI ok lf_X1_18 dX1_move_14 hE (fun v6 hE => ?_)
    refine zg_if_eq (tgt := 24) ok dX1_move_17 (by decide) hE (fun hE => ?_) (fun hE => ?_)
    · refine zg_sub (L' := [(0, va_rf a0), (1, .int a1), (2, .int a2), (3, va_rf v1)]) [1, 2, 3, 0] rfl ?_
      exact gt_f_X1_move_J24 hl ok tab fin hRm  hE
    · refine zg_iconst (v := 1) ok dX1_move_20 (by decide) ?_
      refine zg_goto (tgt := 25) ok dX1_move_21 (by decide) ?_
      refine zg_sub (L' := [(0, va_rf a0), (1, .int a1), (2, .int a2), (3, va_rf v1)]) [1, 2, 3, 0] rfl ?_
      exact gt_f_X1_move_J25 hl ok tab fin hRm  hE
set_option maxHeartbeats 8000000 in
theorem mt_X1_setCharge {l : Launch} (hl : l.stackTraces = false) {Z : zw_Z} {a0 : Option Nat} {a1 : Int32} {a2 : Int32} {h : zw_H} {Q : Int32 → zw_H → Prop} {X : String → Nat → zw_H → Prop} (hE : f_X1_setCharge Z.2.2.2 a0 a1 a2 h Q X) : zw_Met l Z yX1_setCharge (ws_ yX1_setCharge cX1_setCharge 4 (Option.some Jvm.ClassFile.FieldType.int)) rm_X1_setCharge [zA a0, zI a1, zI a2] h (zq_I Q) X := by
  refine zg_start (own := "MultipoleLine") (by decide +kernel) rfl (Nat.le_of_ble_eq_true rfl) hl (fun Xc ok tab fin hRm hXl hXZ => ?_)
  subst hXl
  subst hXZ
  unfold f_X1_setCharge at hE
  refine zg_aload_n ok dX1_setCharge_0 rfl 0 rfl ?_
  refine zg_iload_n ok dX1_setCharge_1 rfl 1 rfl ?_
  refine zg_callV (vs := [zI a1]) (rest := []) (rm := rm_X1_bodyOf) ok hRm lk_X1_174 dX1_setCharge_2 hE (fun hE => mt_X1_bodyOf hl hE) rfl (Nat.le_of_ble_eq_true rfl) ⟨⟨Nat.le_of_ble_eq_true rfl, Nat.le_of_ble_eq_true rfl⟩, Nat.le_of_ble_eq_true rfl, Nat.le_of_ble_eq_true rfl⟩ (zg_retA (fun v1 h1 hE => ?_)) (zg_xok ok tab fin ⟨Nat.le_of_ble_eq_true rfl, Nat.le_of_ble_eq_true rfl⟩)
  refine zg_cost (kc2 := 2) (ks2 := 12) ⟨rfl, rfl⟩ ?_
  refine zg_getI ok lf_X1_177 dX1_setCharge_5 hE (fun v2 hE => ?_)
  refine zg_istore_n (L' := [(3, .int v2), (0, va_rf a0), (1, .int a1), (2, .int a2)]) ok dX1_setCharge_8 rfl (by decide) rfl ?_
  refine zg_iload_n ok dX1_setCharge_9 rfl 3 rfl ?_
  refine zg_callS (vs := [zI a2]) (rest := []) (rm := rm_X1_isCharge) ok hRm lk_X1_448 dX1_setCharge_10 hE (fun hE => mt_X1_isCharge hl hE) rfl (Nat.le_of_ble_eq_true rfl) ⟨⟨Nat.le_of_ble_eq_true rfl, Nat.le_of_ble_eq_true rfl⟩, Nat.le_of_ble_eq_true rfl, Nat.le_of_ble_eq_true rfl⟩ (zg_retI (fun v3 h2 hE => ?_)) (zg_xok ok tab fin ⟨Nat.le_of_ble_eq_true rfl, Nat.le_of_ble_eq_true rfl⟩)
  refine zg_cost (kc2 := 2) (ks2 := 12) ⟨rfl, rfl⟩ ?_
  refine zg_callS (vs := [zI v3]) (rest := []) (rm := rm_X1_checkArgument) ok hRm lk_X1_98 dX1_setCharge_13 hE (fun hE => mt_X1_checkArgument hl hE) rfl (Nat.le_of_ble_eq_true rfl) ⟨⟨Nat.le_of_ble_eq_true rfl, Nat.le_of_ble_eq_true rfl⟩, Nat.le_of_ble_eq_true rfl, Nat.le_of_ble_eq_true rfl⟩ (zg_retV (fun h3 hE => ?_)) (zg_xok ok tab fin ⟨Nat.le_of_ble_eq_true rfl, Nat.le_of_ble_eq_true rfl⟩)
  refine zg_cost (kc2 := 3) (ks2 := 18) ⟨rfl, rfl⟩ ?_
  refine zg_aload_n ok dX1_setCharge_16 rfl 1 rfl ?_
  refine zg_callV (vs := []) (rest := []) (rm := rm_X1_change) ok hRm lk_X1_454 dX1_setCharge_17 hE (fun hE => mt_X1_change hl hE) rfl (Nat.le_of_ble_eq_true rfl) ⟨⟨Nat.le_of_ble_eq_true rfl, Nat.le_of_ble_eq_true rfl⟩, Nat.le_of_ble_eq_true rfl, Nat.le_of_ble_eq_true rfl⟩ (zg_retA (fun v4 h4 hE => ?_)) (zg_xok ok tab fin ⟨Nat.le_of_ble_eq_true rfl, Nat.le_of_ble_eq_true rfl⟩)
  refine zg_cost (kc2 := 297) (ks2 := 2415) ⟨rfl, rfl⟩ ?_
  refine zg_iload_n ok dX1_setCharge_20 rfl 2 rfl ?_
  refine zg_callV (vs := [zI a1]) (rest := []) (rm := rm_X4_at) ok hRm lk_X1_88 dX1_setCharge_21 hE (fun hE => mt_X4_at hl hE) rfl (Nat.le_of_ble_eq_true rfl) ⟨⟨Nat.le_of_ble_eq_true rfl, Nat.le_of_ble_eq_true rfl⟩, Nat.le_of_ble_eq_true rfl, Nat.le_of_ble_eq_true rfl⟩ (zg_retA (fun v5 h5 hE => ?_)) (zg_xok ok tab fin ⟨Nat.le_of_ble_eq_true rfl, Nat.le_of_ble_eq_true rfl⟩)
  refine zg_cost (kc2 := 297) (ks2 := 2415) ⟨rfl, rfl⟩ ?_
  refine zg_iload_n ok dX1_setCharge_24 rfl 3 rfl ?_
  refine zg_put (ty := .int) ok lf_X1_177 (Or.inl rfl) (by decide) (by decide +kernel) rfl rfl dX1_setCharge_25 hE (fun h6 hE => ?_)
  refine zg_iload_n ok dX1_setCharge_28 rfl 0 rfl ?_
  exact zg_iret ok fin dX1_setCharge_29 ⟨Nat.le_of_ble_eq_true rfl, Nat.le_of_ble_eq_true rfl⟩ hE
set_option maxHeartbeats 8000000 in
theorem gt_f_J12_fastRemove_J34 {Xc : zw_X} {Q : zw_H → Prop} {X : String → Nat → zw_H → Prop} (hl : (zw_l Xc).stackTraces = false) (ok : zw_ok Xc cJ12_fastRemove "java/util/ArrayList" yJ12_fastRemove.name 4) (tab : zw_tab Xc []) (fin : zw_fin Xc (Option.none : Option Jvm.ClassFile.FieldType) (zq_V Q) X 0 0) (hRm : zw_rm Xc = rm_J12_fastRemove)  {l0 : Option Nat} {l1 : Option Nat} {l3 : Int32}  {h : zw_H} (hE : f_J12_fastRemove_J34 (zw_Zf Xc).2.2.2 Q X  l0 l1 l3 h) : zw_G Xc 0 0 4 h 34 [(0, va_rf l0), (1, va_rf l1), (3, .int l3)] [] := by
  unfold f_J12_fastRemove_J34 at hE
  refine zg_aload_n ok dJ12_fastRemove_34 rfl 1 rfl ?_
  refine zg_aload_n ok dJ12_fastRemove_35 rfl 0 rfl ?_
  refine zg_iload_n ok dJ12_fastRemove_36 rfl 2 rfl ?_
  refine zg_dup_x1 ok dJ12_fastRemove_37 rfl (zw_rfc _) ?_
  refine zg_put (ty := .int) ok lf_J12_48 (Or.inl rfl) (by decide) (by decide +kernel) rfl rfl dJ12_fastRemove_38 hE (fun h2 hE => ?_)
  refine zg_null ok dJ12_fastRemove_41 ?_
  refine zg_aastO ok lt_5 dJ12_fastRemove_42 hE (fun h3 hE => ?_)
  exact zg_vret ok fin dJ12_fastRemove_43 ⟨Nat.le_of_ble_eq_true rfl, Nat.le_of_ble_eq_true rfl⟩ hE
set_option maxHeartbeats 8000000 in
theorem mt_J12_fastRemove {l : Launch} (hl : l.stackTraces = false) {Z : zw_Z} {a0 : Option Nat} {a1 : Option Nat} {a2 : Int32} {h : zw_H} {Q : zw_H → Prop} {X : String → Nat → zw_H → Prop} (hE : f_J12_fastRemove Z.2.2.2 a0 a1 a2 h Q X) : zw_Met l Z yJ12_fastRemove (ws_ yJ12_fastRemove cJ12_fastRemove 4 (Option.none : Option Jvm.ClassFile.FieldType)) rm_J12_fastRemove [zA a0, zA a1, zI a2] h (zq_V Q) X := by
  refine zg_start (own := "java/util/ArrayList") (by decide +kernel) rfl (Nat.le_of_ble_eq_true rfl) hl (fun Xc ok tab fin hRm hXl hXZ => ?_)
  subst hXl
  subst hXZ
  unfold f_J12_fastRemove at hE
  refine zg_aload_n ok dJ12_fastRemove_0 rfl 0 rfl ?_
  refine zg_dup ok dJ12_fastRemove_1 (zw_rfc _) ?_
  refine zg_getI ok lf_J12_63 dJ12_fastRemove_2 hE (fun v1 hE => ?_)
  refine zg_iconst (v := 1) ok dJ12_fastRemove_5 (by decide) ?_
  refine zg_iadd ok dJ12_fastRemove_6 ?_
  refine zg_put (ty := .int) ok lf_J12_63 (Or.inl rfl) (by decide) (by decide +kernel) rfl rfl dJ12_fastRemove_7 hE (fun h1 hE => ?_)
  refine zg_aload_n ok dJ12_fastRemove_10 rfl 0 rfl ?_
  refine zg_getI ok lf_J12_48 dJ12_fastRemove_11 hE (fun v2 hE => ?_)
  refine zg_iconst (v := 1) ok dJ12_fastRemove_14 (by decide) ?_
  refine zg_isub ok dJ12_fastRemove_15 ?_
  refine zg_letI hE (fun v3 hE => ?_)
  refine zg_dup ok dJ12_fastRemove_16 rfl ?_
  refine zg_istore_n (L' := [(3, .int v3), (0, va_rf a0), (1, va_rf a1), (2, .int a2)]) ok dJ12_fastRemove_17 rfl (by decide) rfl ?_
  refine zg_iload_n ok dJ12_fastRemove_18 rfl 3 rfl ?_
  refine zg_icmp_le (tgt := 34) ok dJ12_fastRemove_19 (by decide) hE (fun hE => ?_) (fun hE => ?_)
  · refine zg_sub (L' := [(0, va_rf a0), (1, va_rf a1), (3, .int v3)]) [1, 2, 0] rfl ?_
    exact gt_f_J12_fastRemove_J34 hl ok tab fin hRm  hE
  · refine zg_aload_n ok dJ12_fastRemove_22 rfl 2 rfl ?_
    refine zg_iload_n ok dJ12_fastRemove_23 rfl 3 rfl ?_
    refine zg_iconst (v := 1) ok dJ12_fastRemove_24 (by decide) ?_
    refine zg_iadd ok dJ12_fastRemove_25 ?_
    refine zg_aload_n ok dJ12_fastRemove_26 rfl 2 rfl ?_
    refine zg_iload_n ok dJ12_fastRemove_27 rfl 3 rfl ?_
    refine zg_iload_n ok dJ12_fastRemove_28 rfl 0 rfl ?_
    refine zg_iload_n ok dJ12_fastRemove_29 rfl 3 rfl ?_
    refine zg_isub ok dJ12_fastRemove_30 ?_
    refine zg_cpO ok hRm q2336 lt_5 ⟨by decide, by decide⟩ (Nat.le_of_ble_eq_true rfl) dJ12_fastRemove_31 hE (fun h4 hE => ?_)
    refine zg_sub (L' := [(0, va_rf a0), (1, va_rf a1), (3, .int v3)]) [1, 2, 0] rfl ?_
    exact gt_f_J12_fastRemove_J34 hl ok tab fin hRm  hE
set_option maxHeartbeats 8000000 in
theorem mt_J12_remove {l : Launch} (hl : l.stackTraces = false) {Z : zw_Z} {a0 : Option Nat} {a1 : Int32} {h : zw_H} {Q : Option Nat → zw_H → Prop} {X : String → Nat → zw_H → Prop} (hE : f_J12_remove Z.2.2.2 a0 a1 h Q X) : zw_Met l Z yJ12_remove (ws_ yJ12_remove cJ12_remove 4 (Option.some (Jvm.ClassFile.FieldType.object "java/lang/Object"))) rm_J12_remove [zA a0, zI a1] h (zq_A Q) X := by
  refine zg_start (own := "java/util/ArrayList") (by decide +kernel) rfl (Nat.le_of_ble_eq_true rfl) hl (fun Xc ok tab fin hRm hXl hXZ => ?_)
  subst hXl
  subst hXZ
  unfold f_J12_remove at hE
  refine zg_iload_n ok dJ12_remove_0 rfl 1 rfl ?_
  refine zg_aload_n ok dJ12_remove_1 rfl 0 rfl ?_
  refine zg_getI ok lf_J12_48 dJ12_remove_2 hE (fun v1 hE => ?_)
  refine zg_callS (vs := [zI a1, zI v1]) (rest := []) (rm := rm_J21_checkIndex) ok hRm lk_J12_118 dJ12_remove_5 hE (fun hE => mt_J21_checkIndex hl hE) rfl (Nat.le_of_ble_eq_true rfl) ⟨⟨Nat.le_of_ble_eq_true rfl, Nat.le_of_ble_eq_true rfl⟩, Nat.le_of_ble_eq_true rfl, Nat.le_of_ble_eq_true rfl⟩ (zg_retI (fun v2 h1 hE => ?_)) (zg_xok ok tab fin ⟨Nat.le_of_ble_eq_true rfl, Nat.le_of_ble_eq_true rfl⟩)
  refine zg_cost (kc2 := 0) (ks2 := 0) ⟨rfl, rfl⟩ ?_
  refine zg_pop ok dJ12_remove_8 rfl ?_
  refine zg_aload_n ok dJ12_remove_9 rfl 0 rfl ?_
  refine zg_getA ok lf_J12_9 dJ12_remove_10 hE (fun v3 hE => ?_)
  refine zg_astore_n (L' := [(2, va_rf v3), (0, va_rf a0), (1, .int a1)]) ok dJ12_remove_13 rfl (by decide) rfl ?_
  refine zg_aload_n ok dJ12_remove_14 rfl 0 rfl ?_
  refine zg_iload_n ok dJ12_remove_15 rfl 2 rfl ?_
  refine zg_aaldO ok dJ12_remove_16 hE (fun v4 hE => ?_)
  refine zg_astore_nR (L' := [(3, va_rf v4), (2, va_rf v3), (0, va_rf a0), (1, .int a1)]) ok dJ12_remove_17 rfl (by decide) 0 rfl rfl rfl ?_
  refine zg_aload_n ok dJ12_remove_18 rfl 2 rfl ?_
  refine zg_aload_n ok dJ12_remove_19 rfl 1 rfl ?_
  refine zg_iload_n ok dJ12_remove_20 rfl 3 rfl ?_
  refine zg_callV (vs := [zA v3, zI a1]) (rest := []) (rm := rm_J12_fastRemove) ok hRm lk_J12_144 dJ12_remove_21 hE (fun hE => mt_J12_fastRemove hl hE) rfl (Nat.le_of_ble_eq_true rfl) ⟨⟨Nat.le_of_ble_eq_true rfl, Nat.le_of_ble_eq_true rfl⟩, Nat.le_of_ble_eq_true rfl, Nat.le_of_ble_eq_true rfl⟩ (zg_retV (fun h2 hE => ?_)) (zg_xok ok tab fin ⟨Nat.le_of_ble_eq_true rfl, Nat.le_of_ble_eq_true rfl⟩)
  refine zg_cost (kc2 := 0) (ks2 := 0) ⟨rfl, rfl⟩ ?_
  refine zg_aload_n ok dJ12_remove_24 rfl 0 rfl ?_
  exact zg_aret ok fin (Or.inl ⟨_, rfl⟩) dJ12_remove_25 ⟨Nat.le_of_ble_eq_true rfl, Nat.le_of_ble_eq_true rfl⟩ hE
set_option maxHeartbeats 8000000 in
theorem mt_X1_remove {l : Launch} (hl : l.stackTraces = false) {Z : zw_Z} {a0 : Option Nat} {a1 : Int32} {h : zw_H} {Q : Int32 → zw_H → Prop} {X : String → Nat → zw_H → Prop} (hE : f_X1_remove Z.2.2.2 a0 a1 h Q X) : zw_Met l Z yX1_remove (ws_ yX1_remove cX1_remove 4 (Option.some Jvm.ClassFile.FieldType.int)) rm_X1_remove [zA a0, zI a1] h (zq_I Q) X := by
  refine zg_start (own := "MultipoleLine") (by decide +kernel) rfl (Nat.le_of_ble_eq_true rfl) hl (fun Xc ok tab fin hRm hXl hXZ => ?_)
  subst hXl
  subst hXZ
  unfold f_X1_remove at hE
  refine zg_aload_n ok dX1_remove_0 rfl 0 rfl ?_
  refine zg_iload_n ok dX1_remove_1 rfl 1 rfl ?_
  refine zg_callV (vs := [zI a1]) (rest := []) (rm := rm_X1_bodyOf) ok hRm lk_X1_174 dX1_remove_2 hE (fun hE => mt_X1_bodyOf hl hE) rfl (Nat.le_of_ble_eq_true rfl) ⟨⟨Nat.le_of_ble_eq_true rfl, Nat.le_of_ble_eq_true rfl⟩, Nat.le_of_ble_eq_true rfl, Nat.le_of_ble_eq_true rfl⟩ (zg_retA (fun v1 h1 hE => ?_)) (zg_xok ok tab fin ⟨Nat.le_of_ble_eq_true rfl, Nat.le_of_ble_eq_true rfl⟩)
  refine zg_cost (kc2 := 2) (ks2 := 12) ⟨rfl, rfl⟩ ?_
  refine zg_astore_n (L' := [(2, va_rf v1), (0, va_rf a0), (1, .int a1)]) ok dX1_remove_5 rfl (by decide) rfl ?_
  refine zg_aload_n ok dX1_remove_6 rfl 1 rfl ?_
  refine zg_callV (vs := []) (rest := []) (rm := rm_X1_change) ok hRm lk_X1_454 dX1_remove_7 hE (fun hE => mt_X1_change hl hE) rfl (Nat.le_of_ble_eq_true rfl) ⟨⟨Nat.le_of_ble_eq_true rfl, Nat.le_of_ble_eq_true rfl⟩, Nat.le_of_ble_eq_true rfl, Nat.le_of_ble_eq_true rfl⟩ (zg_retA (fun v2 h2 hE => ?_)) (zg_xok ok tab fin ⟨Nat.le_of_ble_eq_true rfl, Nat.le_of_ble_eq_true rfl⟩)
  refine zg_cost (kc2 := 296) (ks2 := 2409) ⟨rfl, rfl⟩ ?_
  refine zg_getA ok lf_X1_457 dX1_remove_10 hE (fun v3 hE => ?_)
  refine zg_iload_n ok dX1_remove_13 rfl 2 rfl ?_
  refine zg_callF (vs := [zI a1]) (rest := []) (rm := rm_J12_remove) ok hRm lk_X1_475 dX1_remove_14 hE (fun hE => mt_J12_remove hl hE) rfl (Nat.le_of_ble_eq_true rfl) ⟨⟨Nat.le_of_ble_eq_true rfl, Nat.le_of_ble_eq_true rfl⟩, Nat.le_of_ble_eq_true rfl, Nat.le_of_ble_eq_true rfl⟩ (zg_retA (fun v4 h3 hE => ?_)) (zg_xok ok tab fin ⟨Nat.le_of_ble_eq_true rfl, Nat.le_of_ble_eq_true rfl⟩)
  refine zg_cost (kc2 := 296) (ks2 := 2409) ⟨rfl, rfl⟩ ?_
  refine zg_castE ok lc_X1_19 dX1_remove_19 hE (fun hE => ?_)
  refine zg_astore_nR (L' := [(3, va_rf v4), (2, va_rf v1), (0, va_rf a0), (1, .int a1)]) ok dX1_remove_22 rfl (by decide) 0 rfl rfl rfl ?_
  refine zg_aload_n ok dX1_remove_23 rfl 2 rfl ?_
  refine zg_getA ok lf_X1_68 dX1_remove_24 hE (fun v5 hE => ?_)
  refine zg_callV (vs := []) (rest := []) (rm := rm_X4_size) ok hRm lk_X1_80 dX1_remove_27 hE (fun hE => mt_X4_size hl hE) rfl (Nat.le_of_ble_eq_true rfl) ⟨⟨Nat.le_of_ble_eq_true rfl, Nat.le_of_ble_eq_true rfl⟩, Nat.le_of_ble_eq_true rfl, Nat.le_of_ble_eq_true rfl⟩ (zg_retI (fun v6 h4 hE => ?_)) (zg_xok ok tab fin ⟨Nat.le_of_ble_eq_true rfl, Nat.le_of_ble_eq_true rfl⟩)
  refine zg_cost (kc2 := 296) (ks2 := 2409) ⟨rfl, rfl⟩ ?_
  exact zg_iret ok fin dX1_remove_30 ⟨Nat.le_of_ble_eq_true rfl, Nat.le_of_ble_eq_true rfl⟩ hE
set_option maxHeartbeats 8000000 in
theorem gt_f_X1_step_J27 {Xc : zw_X} {Q : Int32 → zw_H → Prop} {X : String → Nat → zw_H → Prop} (hl : (zw_l Xc).stackTraces = false) (ok : zw_ok Xc cX1_step "MultipoleLine" yX1_step.name 3) (tab : zw_tab Xc []) (fin : zw_fin Xc (Option.some Jvm.ClassFile.FieldType.int) (zq_I Q) X 297 2415) (hRm : zw_rm Xc = rm_X1_step)  {l0 : Option Nat} {l1 : Int32} {s0 : Int32} {h : zw_H} (hE : f_X1_step_J27 (zw_Zf Xc).2.2.2 Q X  l0 l1 s0 h) : zw_G Xc 2 12 3 h 27 [(0, va_rf l0), (1, .int l1)] [.int s0] := by
  unfold f_X1_step_J27 at hE
  refine zg_callS (vs := [zI s0]) (rest := []) (rm := rm_X1_checkArgument) ok hRm lk_X1_98 dX1_step_27 hE (fun hE => mt_X1_checkArgument hl hE) rfl (Nat.le_of_ble_eq_true rfl) ⟨⟨Nat.le_of_ble_eq_true rfl, Nat.le_of_ble_eq_true rfl⟩, Nat.le_of_ble_eq_true rfl, Nat.le_of_ble_eq_true rfl⟩ (zg_retV (fun h3 hE => ?_)) (zg_xok ok tab fin ⟨Nat.le_of_ble_eq_true rfl, Nat.le_of_ble_eq_true rfl⟩)
  refine zg_cost (kc2 := 3) (ks2 := 18) ⟨rfl, rfl⟩ ?_
  refine zg_aload_n ok dX1_step_30 rfl 0 rfl ?_
  refine zg_callV (vs := []) (rest := []) (rm := rm_X1_change) ok hRm lk_X1_454 dX1_step_31 hE (fun hE => mt_X1_change hl hE) rfl (Nat.le_of_ble_eq_true rfl) ⟨⟨Nat.le_of_ble_eq_true rfl, Nat.le_of_ble_eq_true rfl⟩, Nat.le_of_ble_eq_true rfl, Nat.le_of_ble_eq_true rfl⟩ (zg_retA (fun v3 h4 hE => ?_)) (zg_xok ok tab fin ⟨Nat.le_of_ble_eq_true rfl, Nat.le_of_ble_eq_true rfl⟩)
  refine zg_cost (kc2 := 297) (ks2 := 2415) ⟨rfl, rfl⟩ ?_
  refine zg_iload_n ok dX1_step_34 rfl 1 rfl ?_
  refine zg_callV (vs := [zI l1]) (rest := []) (rm := rm_X4_steps) ok hRm lk_X1_352 dX1_step_35 hE (fun hE => mt_X4_steps hl hE) rfl (Nat.le_of_ble_eq_true rfl) ⟨⟨Nat.le_of_ble_eq_true rfl, Nat.le_of_ble_eq_true rfl⟩, Nat.le_of_ble_eq_true rfl, Nat.le_of_ble_eq_true rfl⟩ (zg_retI (fun v4 h5 hE => ?_)) (zg_xok ok tab fin ⟨Nat.le_of_ble_eq_true rfl, Nat.le_of_ble_eq_true rfl⟩)
  refine zg_cost (kc2 := 297) (ks2 := 2415) ⟨rfl, rfl⟩ ?_
  exact zg_iret ok fin dX1_step_38 ⟨Nat.le_of_ble_eq_true rfl, Nat.le_of_ble_eq_true rfl⟩ hE
set_option maxHeartbeats 8000000 in
theorem mt_X1_step {l : Launch} (hl : l.stackTraces = false) {Z : zw_Z} {a0 : Option Nat} {a1 : Int32} {h : zw_H} {Q : Int32 → zw_H → Prop} {X : String → Nat → zw_H → Prop} (hE : f_X1_step Z.2.2.2 a0 a1 h Q X) : zw_Met l Z yX1_step (ws_ yX1_step cX1_step 3 (Option.some Jvm.ClassFile.FieldType.int)) rm_X1_step [zA a0, zI a1] h (zq_I Q) X := by
  refine zg_start (own := "MultipoleLine") (by decide +kernel) rfl (Nat.le_of_ble_eq_true rfl) hl (fun Xc ok tab fin hRm hXl hXZ => ?_)
  subst hXl
  subst hXZ
  unfold f_X1_step at hE
  refine zg_aload_n ok dX1_step_0 rfl 0 rfl ?_
  refine zg_callV (vs := []) (rest := []) (rm := rm_X1_loaded) ok hRm lk_X1_76 dX1_step_1 hE (fun hE => mt_X1_loaded hl hE) rfl (Nat.le_of_ble_eq_true rfl) ⟨⟨Nat.le_of_ble_eq_true rfl, Nat.le_of_ble_eq_true rfl⟩, Nat.le_of_ble_eq_true rfl, Nat.le_of_ble_eq_true rfl⟩ (zg_retA (fun v1 h1 hE => ?_)) (zg_xok ok tab fin ⟨Nat.le_of_ble_eq_true rfl, Nat.le_of_ble_eq_true rfl⟩)
  refine zg_cost (kc2 := 1) (ks2 := 6) ⟨rfl, rfl⟩ ?_
  refine zg_astore_n (L' := [(2, va_rf v1), (0, va_rf a0), (1, .int a1)]) ok dX1_step_4 rfl (by decide) rfl ?_
  refine zg_iload_n ok dX1_step_5 rfl 2 rfl ?_
  refine zg_iconst (v := 1) ok dX1_step_6 (by decide) ?_
  refine zg_callS (vs := [zI a1, zI 1]) (rest := []) (rm := rm_X1_checkSteps) ok hRm lk_X1_346 dX1_step_7 hE (fun hE => mt_X1_checkSteps hl hE) rfl (Nat.le_of_ble_eq_true rfl) ⟨⟨Nat.le_of_ble_eq_true rfl, Nat.le_of_ble_eq_true rfl⟩, Nat.le_of_ble_eq_true rfl, Nat.le_of_ble_eq_true rfl⟩ (zg_retV (fun h2 hE => ?_)) (zg_xok ok tab fin ⟨Nat.le_of_ble_eq_true rfl, Nat.le_of_ble_eq_true rfl⟩)
  refine zg_cost (kc2 := 2) (ks2 := 12) ⟨rfl, rfl⟩ ?_
  refine zg_aload_n ok dX1_step_10 rfl 0 rfl ?_
  refine zg_getI ok lf_X1_149 dX1_step_11 hE (fun v2 hE => ?_)
  refine zg_iload_n ok dX1_step_14 rfl 2 rfl ?_
  refine zg_iadd ok dX1_step_15 ?_
  refine zg_sipush (v := 9999) ok dX1_step_16 (by decide) ?_
  refine zg_icmp_gt (tgt := 26) ok dX1_step_19 (by decide) hE (fun hE => ?_) (fun hE => ?_)
  · refine zg_iconst (v := 0) ok dX1_step_26 (by decide) ?_
    refine zg_sub (L' := [(0, va_rf a0), (1, .int a1)]) [1, 2] rfl ?_
    exact gt_f_X1_step_J27 hl ok tab fin hRm  hE
  · refine zg_iconst (v := 1) ok dX1_step_22 (by decide) ?_
    refine zg_goto (tgt := 27) ok dX1_step_23 (by decide) ?_
    refine zg_sub (L' := [(0, va_rf a0), (1, .int a1)]) [1, 2] rfl ?_
    exact gt_f_X1_step_J27 hl ok tab fin hRm  hE
set_option maxHeartbeats 8000000 in
theorem gt_f_X1_setNumber_J42 {Xc : zw_X} {Q : Int32 → zw_H → Prop} {X : String → Nat → zw_H → Prop} (hl : (zw_l Xc).stackTraces = false) (ok : zw_ok Xc cX1_setNumber "MultipoleLine" yX1_setNumber.name 5) (tab : zw_tab Xc []) (fin : zw_fin Xc (Option.some Jvm.ClassFile.FieldType.int) (zq_I Q) X 296 2409) (hRm : zw_rm Xc = rm_X1_setNumber)  {l0 : Option Nat} {l1 : Int32} {l2 : Int32} {l3 : Option Nat} {s0 : Int32} {h : zw_H} (hE : f_X1_setNumber_J42 (zw_Zf Xc).2.2.2 Q X  l0 l1 l2 l3 s0 h) : zw_G Xc 1 6 5 h 42 [(0, va_rf l0), (1, .int l1), (2, .int l2), (3, va_rf l3)] [.int s0] := by
  unfold f_X1_setNumber_J42 at hE
  refine zg_callS (vs := [zI s0]) (rest := []) (rm := rm_X1_checkArgument) ok hRm lk_X1_98 dX1_setNumber_42 hE (fun hE => mt_X1_checkArgument hl hE) rfl (Nat.le_of_ble_eq_true rfl) ⟨⟨Nat.le_of_ble_eq_true rfl, Nat.le_of_ble_eq_true rfl⟩, Nat.le_of_ble_eq_true rfl, Nat.le_of_ble_eq_true rfl⟩ (zg_retV (fun h3 hE => ?_)) (zg_xok ok tab fin ⟨Nat.le_of_ble_eq_true rfl, Nat.le_of_ble_eq_true rfl⟩)
  refine zg_cost (kc2 := 2) (ks2 := 12) ⟨rfl, rfl⟩ ?_
  refine zg_aload_n ok dX1_setNumber_45 rfl 3 rfl ?_
  refine zg_iload_n ok dX1_setNumber_46 rfl 1 rfl ?_
  refine zg_callV (vs := [zI l1]) (rest := []) (rm := rm_X4_number) ok hRm lk_X1_145 dX1_setNumber_47 hE (fun hE => mt_X4_number hl hE) rfl (Nat.le_of_ble_eq_true rfl) ⟨⟨Nat.le_of_ble_eq_true rfl, Nat.le_of_ble_eq_true rfl⟩, Nat.le_of_ble_eq_true rfl, Nat.le_of_ble_eq_true rfl⟩ (zg_retI (fun v3 h4 hE => ?_)) (zg_xok ok tab fin ⟨Nat.le_of_ble_eq_true rfl, Nat.le_of_ble_eq_true rfl⟩)
  refine zg_cost (kc2 := 2) (ks2 := 12) ⟨rfl, rfl⟩ ?_
  refine zg_istoreR (L' := [(4, .int v3), (0, va_rf l0), (1, .int l1), (2, .int l2), (3, va_rf l3)]) ok dX1_setNumber_50 (by decide) 3 rfl rfl rfl ?_
  refine zg_aload_n ok dX1_setNumber_52 rfl 1 rfl ?_
  refine zg_callV (vs := []) (rest := []) (rm := rm_X1_change) ok hRm lk_X1_454 dX1_setNumber_53 hE (fun hE => mt_X1_change hl hE) rfl (Nat.le_of_ble_eq_true rfl) ⟨⟨Nat.le_of_ble_eq_true rfl, Nat.le_of_ble_eq_true rfl⟩, Nat.le_of_ble_eq_true rfl, Nat.le_of_ble_eq_true rfl⟩ (zg_retA (fun v4 h5 hE => ?_)) (zg_xok ok tab fin ⟨Nat.le_of_ble_eq_true rfl, Nat.le_of_ble_eq_true rfl⟩)
  refine zg_cost (kc2 := 296) (ks2 := 2409) ⟨rfl, rfl⟩ ?_
  refine zg_iload_n ok dX1_setNumber_56 rfl 2 rfl ?_
  refine zg_iload_n ok dX1_setNumber_57 rfl 3 rfl ?_
  refine zg_callV (vs := [zI l1, zI l2]) (rest := []) (rm := rm_X4_sets) ok hRm lk_X1_487 dX1_setNumber_58 hE (fun hE => mt_X4_sets hl hE) rfl (Nat.le_of_ble_eq_true rfl) ⟨⟨Nat.le_of_ble_eq_true rfl, Nat.le_of_ble_eq_true rfl⟩, Nat.le_of_ble_eq_true rfl, Nat.le_of_ble_eq_true rfl⟩ (zg_retV (fun h6 hE => ?_)) (zg_xok ok tab fin ⟨Nat.le_of_ble_eq_true rfl, Nat.le_of_ble_eq_true rfl⟩)
  refine zg_cost (kc2 := 296) (ks2 := 2409) ⟨rfl, rfl⟩ ?_
  refine zg_iload ok dX1_setNumber_61 0 rfl ?_
  exact zg_iret ok fin dX1_setNumber_63 ⟨Nat.le_of_ble_eq_true rfl, Nat.le_of_ble_eq_true rfl⟩ hE
set_option maxHeartbeats 8000000 in
theorem gt_f_X1_setNumber_J41 {Xc : zw_X} {Q : Int32 → zw_H → Prop} {X : String → Nat → zw_H → Prop} (hl : (zw_l Xc).stackTraces = false) (ok : zw_ok Xc cX1_setNumber "MultipoleLine" yX1_setNumber.name 5) (tab : zw_tab Xc []) (fin : zw_fin Xc (Option.some Jvm.ClassFile.FieldType.int) (zq_I Q) X 296 2409) (hRm : zw_rm Xc = rm_X1_setNumber)  {l0 : Option Nat} {l1 : Int32} {l2 : Int32} {l3 : Option Nat}  {h : zw_H} (hE : f_X1_setNumber_J41 (zw_Zf Xc).2.2.2 Q X  l0 l1 l2 l3 h) : zw_G Xc 1 6 5 h 41 [(0, va_rf l0), (1, .int l1), (2, .int l2), (3, va_rf l3)] [] := by
  unfold f_X1_setNumber_J41 at hE
  refine zg_iconst (v := 0) ok dX1_setNumber_41 (by decide) ?_
  exact gt_f_X1_setNumber_J42 hl ok tab fin hRm  hE
set_option maxHeartbeats 8000000 in
theorem mt_X1_setNumber {l : Launch} (hl : l.stackTraces = false) {Z : zw_Z} {a0 : Option Nat} {a1 : Int32} {a2 : Int32} {h : zw_H} {Q : Int32 → zw_H → Prop} {X : String → Nat → zw_H → Prop} (hE : f_X1_setNumber Z.2.2.2 a0 a1 a2 h Q X) : zw_Met l Z yX1_setNumber (ws_ yX1_setNumber cX1_setNumber 5 (Option.some Jvm.ClassFile.FieldType.int)) rm_X1_setNumber [zA a0, zI a1, zI a2] h (zq_I Q) X := by
  refine zg_start (own := "MultipoleLine") (by decide +kernel) rfl (Nat.le_of_ble_eq_true rfl) hl (fun Xc ok tab fin hRm hXl hXZ => ?_)
  subst hXl
  subst hXZ
  unfold f_X1_setNumber at hE
  refine zg_aload_n ok dX1_setNumber_0 rfl 0 rfl ?_
  refine zg_callV (vs := []) (rest := []) (rm := rm_X1_loaded) ok hRm lk_X1_76 dX1_setNumber_1 hE (fun hE => mt_X1_loaded hl hE) rfl (Nat.le_of_ble_eq_true rfl) ⟨⟨Nat.le_of_ble_eq_true rfl, Nat.le_of_ble_eq_true rfl⟩, Nat.le_of_ble_eq_true rfl, Nat.le_of_ble_eq_true rfl⟩ (zg_retA (fun v1 h1 hE => ?_)) (zg_xok ok tab fin ⟨Nat.le_of_ble_eq_true rfl, Nat.le_of_ble_eq_true rfl⟩)
  refine zg_cost (kc2 := 1) (ks2 := 6) ⟨rfl, rfl⟩ ?_
  refine zg_astore_n (L' := [(3, va_rf v1), (0, va_rf a0), (1, .int a1), (2, .int a2)]) ok dX1_setNumber_4 rfl (by decide) rfl ?_
  refine zg_iload_n ok dX1_setNumber_5 rfl 2 rfl ?_
  refine zg_i2l ok dX1_setNumber_6 ?_
  refine zg_ldc2 (v := (3 : Int64)) ok q2090 dX1_setNumber_7 ?_
  refine zg_ldc2 (v := (5 : Int64)) ok q2361 dX1_setNumber_10 ?_
  refine zg_callS (vs := [zJ a1.toInt64, zJ (3 : Int64), zJ (5 : Int64)]) (rest := []) (rm := rm_X1_in) ok hRm lk_X1_58 dX1_setNumber_13 hE (fun hE => mt_X1_in hl hE) rfl (Nat.le_of_ble_eq_true rfl) ⟨⟨Nat.le_of_ble_eq_true rfl, Nat.le_of_ble_eq_true rfl⟩, Nat.le_of_ble_eq_true rfl, Nat.le_of_ble_eq_true rfl⟩ (zg_retI (fun v2 h2 hE => ?_)) (zg_xok ok tab fin ⟨Nat.le_of_ble_eq_true rfl, Nat.le_of_ble_eq_true rfl⟩)
  refine zg_cost (kc2 := 1) (ks2 := 6) ⟨rfl, rfl⟩ ?_
  refine zg_if_eq (tgt := 41) ok dX1_setNumber_16 (by decide) hE (fun hE => ?_) (fun hE => ?_)
  · refine zg_sub (L' := [(0, va_rf a0), (1, .int a1), (2, .int a2), (3, va_rf v1)]) [1, 2, 3, 0] rfl ?_
    exact gt_f_X1_setNumber_J41 hl ok tab fin hRm  hE
  · refine zg_iload_n ok dX1_setNumber_19 rfl 3 rfl ?_
    refine zg_i2l ok dX1_setNumber_20 ?_
    refine zg_iload_n ok dX1_setNumber_21 rfl 2 rfl ?_
    refine zg_callS (vs := [zI a1]) (rest := [.long a2.toInt64]) (rm := rm_X4_low) ok hRm lk_X1_481 dX1_setNumber_22 hE (fun hE => mt_X4_low hl hE) rfl (Nat.le_of_ble_eq_true rfl) ⟨⟨Nat.le_of_ble_eq_true rfl, Nat.le_of_ble_eq_true rfl⟩, Nat.le_of_ble_eq_true rfl, Nat.le_of_ble_eq_true rfl⟩ (zg_retI (fun v5 h7 hE => ?_)) (zg_xok ok tab fin ⟨Nat.le_of_ble_eq_true rfl, Nat.le_of_ble_eq_true rfl⟩)
    refine zg_cost (kc2 := 1) (ks2 := 6) ⟨rfl, rfl⟩ ?_
    refine zg_i2l ok dX1_setNumber_25 ?_
    refine zg_iload_n ok dX1_setNumber_26 rfl 2 rfl ?_
    refine zg_callS (vs := [zI a1]) (rest := [.long v5.toInt64, .long a2.toInt64]) (rm := rm_X4_high) ok hRm lk_X1_484 dX1_setNumber_27 hE (fun hE => mt_X4_high hl hE) rfl (Nat.le_of_ble_eq_true rfl) ⟨⟨Nat.le_of_ble_eq_true rfl, Nat.le_of_ble_eq_true rfl⟩, Nat.le_of_ble_eq_true rfl, Nat.le_of_ble_eq_true rfl⟩ (zg_retI (fun v6 h8 hE => ?_)) (zg_xok ok tab fin ⟨Nat.le_of_ble_eq_true rfl, Nat.le_of_ble_eq_true rfl⟩)
    refine zg_cost (kc2 := 1) (ks2 := 6) ⟨rfl, rfl⟩ ?_
    refine zg_i2l ok dX1_setNumber_30 ?_
    refine zg_callS (vs := [zJ a2.toInt64, zJ v5.toInt64, zJ v6.toInt64]) (rest := []) (rm := rm_X1_in) ok hRm lk_X1_58 dX1_setNumber_31 hE (fun hE => mt_X1_in hl hE) rfl (Nat.le_of_ble_eq_true rfl) ⟨⟨Nat.le_of_ble_eq_true rfl, Nat.le_of_ble_eq_true rfl⟩, Nat.le_of_ble_eq_true rfl, Nat.le_of_ble_eq_true rfl⟩ (zg_retI (fun v7 h9 hE => ?_)) (zg_xok ok tab fin ⟨Nat.le_of_ble_eq_true rfl, Nat.le_of_ble_eq_true rfl⟩)
    refine zg_cost (kc2 := 1) (ks2 := 6) ⟨rfl, rfl⟩ ?_
    refine zg_if_eq (tgt := 41) ok dX1_setNumber_34 (by decide) hE (fun hE => ?_) (fun hE => ?_)
    · refine zg_sub (L' := [(0, va_rf a0), (1, .int a1), (2, .int a2), (3, va_rf v1)]) [1, 2, 3, 0] rfl ?_
      exact gt_f_X1_setNumber_J41 hl ok tab fin hRm  hE
    · refine zg_iconst (v := 1) ok dX1_setNumber_37 (by decide) ?_
      refine zg_goto (tgt := 42) ok dX1_setNumber_38 (by decide) ?_
      refine zg_sub (L' := [(0, va_rf a0), (1, .int a1), (2, .int a2), (3, va_rf v1)]) [1, 2, 3, 0] rfl ?_
      exact gt_f_X1_setNumber_J42 hl ok tab fin hRm  hE
set_option maxHeartbeats 8000000 in
theorem mt_J1_isEmpty {l : Launch} (hl : l.stackTraces = false) {Z : zw_Z} {a0 : Option Nat} {h : zw_H} {Q : Int32 → zw_H → Prop} {X : String → Nat → zw_H → Prop} (hE : f_J1_isEmpty Z.2.2.2 a0 h Q X) : zw_Met l Z yJ1_isEmpty (ws_ yJ1_isEmpty cJ1_isEmpty 1 (Option.some Jvm.ClassFile.FieldType.boolean)) rm_J1_isEmpty [zA a0] h (zq_I Q) X := by
  refine zg_start (own := "java/util/ArrayDeque") (by decide +kernel) rfl (Nat.le_of_ble_eq_true rfl) hl (fun Xc ok tab fin hRm hXl hXZ => ?_)
  subst hXl
  subst hXZ
  unfold f_J1_isEmpty at hE
  refine zg_aload_n ok dJ1_isEmpty_0 rfl 0 rfl ?_
  refine zg_getI ok lf_J1_24 dJ1_isEmpty_1 hE (fun v1 hE => ?_)
  refine zg_aload_n ok dJ1_isEmpty_4 rfl 0 rfl ?_
  refine zg_getI ok lf_J1_20 dJ1_isEmpty_5 hE (fun v2 hE => ?_)
  refine zg_icmp_ne (tgt := 15) ok dJ1_isEmpty_8 (by decide) hE (fun hE => ?_) (fun hE => ?_)
  · refine zg_iconst (v := 0) ok dJ1_isEmpty_15 (by decide) ?_
    exact zg_zret ok fin dJ1_isEmpty_16 ⟨Nat.le_of_ble_eq_true rfl, Nat.le_of_ble_eq_true rfl⟩ rfl hE
  · refine zg_iconst (v := 1) ok dJ1_isEmpty_11 (by decide) ?_
    refine zg_goto (tgt := 16) ok dJ1_isEmpty_12 (by decide) ?_
    exact zg_zret ok fin dJ1_isEmpty_16 ⟨Nat.le_of_ble_eq_true rfl, Nat.le_of_ble_eq_true rfl⟩ rfl hE
set_option maxHeartbeats 8000000 in
theorem mt_J1_dec {l : Launch} (hl : l.stackTraces = false) {Z : zw_Z} {a0 : Int32} {a1 : Int32} {h : zw_H} {Q : Int32 → zw_H → Prop} {X : String → Nat → zw_H → Prop} (hE : f_J1_dec Z.2.2.2 a0 a1 h Q X) : zw_Met l Z yJ1_dec (ws_ yJ1_dec cJ1_dec 2 (Option.some Jvm.ClassFile.FieldType.int)) rm_J1_dec [zI a0, zI a1] h (zq_I Q) X := by
  refine zg_start (own := "java/util/ArrayDeque") (by decide +kernel) rfl (Nat.le_of_ble_eq_true rfl) hl (fun Xc ok tab fin hRm hXl hXZ => ?_)
  subst hXl
  subst hXZ
  unfold f_J1_dec at hE
  refine zg_iincL (k := 0) (L' := fun v1 => [(0, .int v1), (1, .int a1)]) ok dJ1_dec_0 (by decide +kernel) hE rfl (by decide) (fun _ => rfl) (fun v1 hE => ?_)
  refine zg_iload_n ok dJ1_dec_3 rfl 0 rfl ?_
  refine zg_if_ge (tgt := 11) ok dJ1_dec_4 (by decide) hE (fun hE => ?_) (fun hE => ?_)
  · refine zg_iload_n ok dJ1_dec_11 rfl 0 rfl ?_
    exact zg_iret ok fin dJ1_dec_12 ⟨Nat.le_of_ble_eq_true rfl, Nat.le_of_ble_eq_true rfl⟩ hE
  · refine zg_iload_n ok dJ1_dec_7 rfl 1 rfl ?_
    refine zg_iconst (v := 1) ok dJ1_dec_8 (by decide) ?_
    refine zg_isub ok dJ1_dec_9 ?_
    refine zg_letI hE (fun v2 hE => ?_)
    refine zg_istore_n (L' := [(0, .int v2), (1, .int a1)]) ok dJ1_dec_10 rfl (by decide) rfl ?_
    refine zg_iload_n ok dJ1_dec_11 rfl 0 rfl ?_
    exact zg_iret ok fin dJ1_dec_12 ⟨Nat.le_of_ble_eq_true rfl, Nat.le_of_ble_eq_true rfl⟩ hE
set_option maxHeartbeats 8000000 in
theorem mt_J1_pollLast {l : Launch} (hl : l.stackTraces = false) {Z : zw_Z} {a0 : Option Nat} {h : zw_H} {Q : Option Nat → zw_H → Prop} {X : String → Nat → zw_H → Prop} (hE : f_J1_pollLast Z.2.2.2 a0 h Q X) : zw_Met l Z yJ1_pollLast (ws_ yJ1_pollLast cJ1_pollLast 4 (Option.some (Jvm.ClassFile.FieldType.object "java/lang/Object"))) rm_J1_pollLast [zA a0] h (zq_A Q) X := by
  refine zg_start (own := "java/util/ArrayDeque") (by decide +kernel) rfl (Nat.le_of_ble_eq_true rfl) hl (fun Xc ok tab fin hRm hXl hXZ => ?_)
  subst hXl
  subst hXZ
  unfold f_J1_pollLast at hE
  refine zg_aload_n ok dJ1_pollLast_0 rfl 0 rfl ?_
  refine zg_getA ok lf_J1_3 dJ1_pollLast_1 hE (fun v1 hE => ?_)
  refine zg_dup ok dJ1_pollLast_4 (zw_rfc _) ?_
  refine zg_astore_nR (L' := [(1, va_rf v1), (0, va_rf a0)]) ok dJ1_pollLast_5 rfl (by decide) 0 rfl rfl rfl ?_
  refine zg_aload_n ok dJ1_pollLast_6 rfl 1 rfl ?_
  refine zg_getI ok lf_J1_20 dJ1_pollLast_7 hE (fun v2 hE => ?_)
  refine zg_aload_n ok dJ1_pollLast_10 rfl 0 rfl ?_
  refine zg_alen ok dJ1_pollLast_11 hE (fun v3 hE => ?_)
  refine zg_callS (vs := [zI v2, zI v3]) (rest := [va_rf v1]) (rm := rm_J1_dec) ok hRm lk_J1_68 dJ1_pollLast_12 hE (fun hE => mt_J1_dec hl hE) rfl (Nat.le_of_ble_eq_true rfl) ⟨⟨Nat.le_of_ble_eq_true rfl, Nat.le_of_ble_eq_true rfl⟩, Nat.le_of_ble_eq_true rfl, Nat.le_of_ble_eq_true rfl⟩ (zg_retI (fun v4 h1 hE => ?_)) (zg_xok ok tab fin ⟨Nat.le_of_ble_eq_true rfl, Nat.le_of_ble_eq_true rfl⟩)
  refine zg_cost (kc2 := 0) (ks2 := 0) ⟨rfl, rfl⟩ ?_
  refine zg_dup ok dJ1_pollLast_15 rfl ?_
  refine zg_istore_nR (L' := [(2, .int v4), (1, va_rf v1), (0, va_rf a0)]) ok dJ1_pollLast_16 rfl (by decide) 0 rfl rfl rfl ?_
  refine zg_callS (vs := [zA v1, zI v4]) (rest := []) (rm := rm_J1_elementAt) ok hRm lk_J1_103 dJ1_pollLast_17 hE (fun hE => mt_J1_elementAt hl hE) rfl (Nat.le_of_ble_eq_true rfl) ⟨⟨Nat.le_of_ble_eq_true rfl, Nat.le_of_ble_eq_true rfl⟩, Nat.le_of_ble_eq_true rfl, Nat.le_of_ble_eq_true rfl⟩ (zg_retA (fun v5 h2 hE => ?_)) (zg_xok ok tab fin ⟨Nat.le_of_ble_eq_true rfl, Nat.le_of_ble_eq_true rfl⟩)
  refine zg_cost (kc2 := 0) (ks2 := 0) ⟨rfl, rfl⟩ ?_
  refine zg_astore_n (L' := [(3, va_rf v5), (2, .int v4), (1, va_rf v1), (0, va_rf a0)]) ok dJ1_pollLast_20 rfl (by decide) rfl ?_
  refine zg_aload_n ok dJ1_pollLast_21 rfl 0 rfl ?_
  refine zg_ifnull (tgt := 34) ok dJ1_pollLast_22 (by decide) hE (fun hE => ?_) (fun hE => ?_)
  · refine zg_aload_n ok dJ1_pollLast_34 rfl 0 rfl ?_
    exact zg_aret ok fin (Or.inl ⟨_, rfl⟩) dJ1_pollLast_35 ⟨Nat.le_of_ble_eq_true rfl, Nat.le_of_ble_eq_true rfl⟩ hE
  · refine zg_aload_n ok dJ1_pollLast_25 rfl 2 rfl ?_
    refine zg_aload_n ok dJ1_pollLast_26 rfl 3 rfl ?_
    refine zg_iload_n ok dJ1_pollLast_27 rfl 1 rfl ?_
    refine zg_dup_x1 ok dJ1_pollLast_28 rfl (zw_rfc _) ?_
    refine zg_put (ty := .int) ok lf_J1_20 (Or.inl rfl) (by decide) (by decide +kernel) rfl rfl dJ1_pollLast_29 hE (fun h3 hE => ?_)
    refine zg_null ok dJ1_pollLast_32 ?_
    refine zg_aastO ok lt_5 dJ1_pollLast_33 hE (fun h4 hE => ?_)
    refine zg_aload_n ok dJ1_pollLast_34 rfl 0 rfl ?_
    exact zg_aret ok fin (Or.inl ⟨_, rfl⟩) dJ1_pollLast_35 ⟨Nat.le_of_ble_eq_true rfl, Nat.le_of_ble_eq_true rfl⟩ hE
set_option maxHeartbeats 8000000 in
theorem mt_J1_removeLast {l : Launch} (hl : l.stackTraces = false) {Z : zw_Z} {a0 : Option Nat} {h : zw_H} {Q : Option Nat → zw_H → Prop} {X : String → Nat → zw_H → Prop} (hE : f_J1_removeLast Z.2.2.2 a0 h Q X) : zw_Met l Z yJ1_removeLast (ws_ yJ1_removeLast cJ1_removeLast 2 (Option.some (Jvm.ClassFile.FieldType.object "java/lang/Object"))) rm_J1_removeLast [zA a0] h (zq_A Q) X := by
  refine zg_start (own := "java/util/ArrayDeque") (by decide +kernel) rfl (Nat.le_of_ble_eq_true rfl) hl (fun Xc ok tab fin hRm hXl hXZ => ?_)
  subst hXl
  subst hXZ
  unfold f_J1_removeLast at hE
  refine zg_aload_n ok dJ1_removeLast_0 rfl 0 rfl ?_
  refine zg_callV (vs := []) (rest := []) (rm := rm_J1_pollLast) ok hRm lk_J1_100 dJ1_removeLast_1 hE (fun hE => mt_J1_pollLast hl hE) rfl (Nat.le_of_ble_eq_true rfl) ⟨⟨Nat.le_of_ble_eq_true rfl, Nat.le_of_ble_eq_true rfl⟩, Nat.le_of_ble_eq_true rfl, Nat.le_of_ble_eq_true rfl⟩ (zg_retA (fun v1 h1 hE => ?_)) (zg_xok ok tab fin ⟨Nat.le_of_ble_eq_true rfl, Nat.le_of_ble_eq_true rfl⟩)
  refine zg_cost (kc2 := 0) (ks2 := 0) ⟨rfl, rfl⟩ ?_
  refine zg_astore_nR (L' := [(1, va_rf v1), (0, va_rf a0)]) ok dJ1_removeLast_4 rfl (by decide) 0 rfl rfl rfl ?_
  refine zg_aload_n ok dJ1_removeLast_5 rfl 0 rfl ?_
  refine zg_ifnonnull (tgt := 17) ok dJ1_removeLast_6 (by decide) hE (fun hE => ?_) (fun hE => ?_)
  · refine zg_aload_n ok dJ1_removeLast_17 rfl 0 rfl ?_
    exact zg_aret ok fin (Or.inl ⟨_, rfl⟩) dJ1_removeLast_18 ⟨Nat.le_of_ble_eq_true rfl, Nat.le_of_ble_eq_true rfl⟩ hE
  · exact hE.elim
set_option maxHeartbeats 8000000 in
theorem gt_f_X1_undo_J15 {Xc : zw_X} {Q : Int32 → zw_H → Prop} {X : String → Nat → zw_H → Prop} (hl : (zw_l Xc).stackTraces = false) (ok : zw_ok Xc cX1_undo "MultipoleLine" yX1_undo.name 1) (tab : zw_tab Xc []) (fin : zw_fin Xc (Option.some Jvm.ClassFile.FieldType.int) (zq_I Q) X 1 6) (hRm : zw_rm Xc = rm_X1_undo)  {l0 : Option Nat} {s0 : Int32} {h : zw_H} (hE : f_X1_undo_J15 (zw_Zf Xc).2.2.2 Q X  l0 s0 h) : zw_G Xc 0 0 1 h 15 [(0, va_rf l0)] [.int s0] := by
  unfold f_X1_undo_J15 at hE
  refine zg_callS (vs := [zI s0]) (rest := []) (rm := rm_X1_checkState) ok hRm lk_X1_72 dX1_undo_15 hE (fun hE => mt_X1_checkState hl hE) rfl (Nat.le_of_ble_eq_true rfl) ⟨⟨Nat.le_of_ble_eq_true rfl, Nat.le_of_ble_eq_true rfl⟩, Nat.le_of_ble_eq_true rfl, Nat.le_of_ble_eq_true rfl⟩ (zg_retV (fun h2 hE => ?_)) (zg_xok ok tab fin ⟨Nat.le_of_ble_eq_true rfl, Nat.le_of_ble_eq_true rfl⟩)
  refine zg_cost (kc2 := 1) (ks2 := 6) ⟨rfl, rfl⟩ ?_
  refine zg_aload_n ok dX1_undo_18 rfl 0 rfl ?_
  refine zg_aload_n ok dX1_undo_19 rfl 0 rfl ?_
  refine zg_getA ok lf_X1_38 dX1_undo_20 hE (fun v3 hE => ?_)
  refine zg_callV (vs := []) (rest := [va_rf l0]) (rm := rm_J1_removeLast) ok hRm lk_X1_493 dX1_undo_23 hE (fun hE => mt_J1_removeLast hl hE) rfl (Nat.le_of_ble_eq_true rfl) ⟨⟨Nat.le_of_ble_eq_true rfl, Nat.le_of_ble_eq_true rfl⟩, Nat.le_of_ble_eq_true rfl, Nat.le_of_ble_eq_true rfl⟩ (zg_retA (fun v4 h3 hE => ?_)) (zg_xok ok tab fin ⟨Nat.le_of_ble_eq_true rfl, Nat.le_of_ble_eq_true rfl⟩)
  refine zg_cost (kc2 := 1) (ks2 := 6) ⟨rfl, rfl⟩ ?_
  refine zg_castE ok lc_X1_42 dX1_undo_26 hE (fun hE => ?_)
  refine zg_put (ty := (.object "MultipoleLine$Line")) ok lf_X1_68 (Or.inl rfl) (by decide) (by decide +kernel) (zw_nrO _ _) (zw_frO _ _) dX1_undo_29 hE (fun h4 hE => ?_)
  refine zg_aload_n ok dX1_undo_32 rfl 0 rfl ?_
  refine zg_getA ok lf_X1_38 dX1_undo_33 hE (fun v5 hE => ?_)
  refine zg_callV (vs := []) (rest := []) (rm := rm_J1_size) ok hRm lk_X1_440 dX1_undo_36 hE (fun hE => mt_J1_size hl hE) rfl (Nat.le_of_ble_eq_true rfl) ⟨⟨Nat.le_of_ble_eq_true rfl, Nat.le_of_ble_eq_true rfl⟩, Nat.le_of_ble_eq_true rfl, Nat.le_of_ble_eq_true rfl⟩ (zg_retI (fun v6 h5 hE => ?_)) (zg_xok ok tab fin ⟨Nat.le_of_ble_eq_true rfl, Nat.le_of_ble_eq_true rfl⟩)
  refine zg_cost (kc2 := 1) (ks2 := 6) ⟨rfl, rfl⟩ ?_
  exact zg_iret ok fin dX1_undo_39 ⟨Nat.le_of_ble_eq_true rfl, Nat.le_of_ble_eq_true rfl⟩ hE
set_option maxHeartbeats 8000000 in
theorem mt_X1_undo {l : Launch} (hl : l.stackTraces = false) {Z : zw_Z} {a0 : Option Nat} {h : zw_H} {Q : Int32 → zw_H → Prop} {X : String → Nat → zw_H → Prop} (hE : f_X1_undo Z.2.2.2 a0 h Q X) : zw_Met l Z yX1_undo (ws_ yX1_undo cX1_undo 1 (Option.some Jvm.ClassFile.FieldType.int)) rm_X1_undo [zA a0] h (zq_I Q) X := by
  refine zg_start (own := "MultipoleLine") (by decide +kernel) rfl (Nat.le_of_ble_eq_true rfl) hl (fun Xc ok tab fin hRm hXl hXZ => ?_)
  subst hXl
  subst hXZ
  unfold f_X1_undo at hE
  refine zg_aload_n ok dX1_undo_0 rfl 0 rfl ?_
  refine zg_getA ok lf_X1_38 dX1_undo_1 hE (fun v1 hE => ?_)
  refine zg_callV (vs := []) (rest := []) (rm := rm_J1_isEmpty) ok hRm lk_X1_490 dX1_undo_4 hE (fun hE => mt_J1_isEmpty hl hE) rfl (Nat.le_of_ble_eq_true rfl) ⟨⟨Nat.le_of_ble_eq_true rfl, Nat.le_of_ble_eq_true rfl⟩, Nat.le_of_ble_eq_true rfl, Nat.le_of_ble_eq_true rfl⟩ (zg_retI (fun v2 h1 hE => ?_)) (zg_xok ok tab fin ⟨Nat.le_of_ble_eq_true rfl, Nat.le_of_ble_eq_true rfl⟩)
  refine zg_cost (kc2 := 0) (ks2 := 0) ⟨rfl, rfl⟩ ?_
  refine zg_if_ne (tgt := 14) ok dX1_undo_7 (by decide) hE (fun hE => ?_) (fun hE => ?_)
  · refine zg_iconst (v := 0) ok dX1_undo_14 (by decide) ?_
    exact gt_f_X1_undo_J15 hl ok tab fin hRm  hE
  · refine zg_iconst (v := 1) ok dX1_undo_10 (by decide) ?_
    refine zg_goto (tgt := 15) ok dX1_undo_11 (by decide) ?_
    exact gt_f_X1_undo_J15 hl ok tab fin hRm  hE
set_option maxHeartbeats 8000000 in
theorem mt_X1_save {l : Launch} (hl : l.stackTraces = false) {Z : zw_Z} {a0 : Option Nat} {a1 : Int32} {h : zw_H} {Q : Int32 → zw_H → Prop} {X : String → Nat → zw_H → Prop} (hE : f_X1_save Z.2.2.2 a0 a1 h Q X) : zw_Met l Z yX1_save (ws_ yX1_save cX1_save 3 (Option.some Jvm.ClassFile.FieldType.int)) rm_X1_save [zA a0, zI a1] h (zq_I Q) X := by
  refine zg_start (own := "MultipoleLine") (by decide +kernel) rfl (Nat.le_of_ble_eq_true rfl) hl (fun Xc ok tab fin hRm hXl hXZ => ?_)
  subst hXl
  subst hXZ
  unfold f_X1_save at hE
  refine zg_aload_n ok dX1_save_0 rfl 0 rfl ?_
  refine zg_callV (vs := []) (rest := []) (rm := rm_X1_loaded) ok hRm lk_X1_76 dX1_save_1 hE (fun hE => mt_X1_loaded hl hE) rfl (Nat.le_of_ble_eq_true rfl) ⟨⟨Nat.le_of_ble_eq_true rfl, Nat.le_of_ble_eq_true rfl⟩, Nat.le_of_ble_eq_true rfl, Nat.le_of_ble_eq_true rfl⟩ (zg_retA (fun v1 h1 hE => ?_)) (zg_xok ok tab fin ⟨Nat.le_of_ble_eq_true rfl, Nat.le_of_ble_eq_true rfl⟩)
  refine zg_cost (kc2 := 1) (ks2 := 6) ⟨rfl, rfl⟩ ?_
  refine zg_astore_n (L' := [(2, va_rf v1), (0, va_rf a0), (1, .int a1)]) ok dX1_save_4 rfl (by decide) rfl ?_
  refine zg_iload_n ok dX1_save_5 rfl 2 rfl ?_
  refine zg_iconst (v := 2) ok dX1_save_6 (by decide) ?_
  refine zg_callS (vs := [zI a1, zI 2]) (rest := []) (rm := rm_X1_checkIndex) ok hRm lk_X1_84 dX1_save_7 hE (fun hE => mt_X1_checkIndex hl hE) rfl (Nat.le_of_ble_eq_true rfl) ⟨⟨Nat.le_of_ble_eq_true rfl, Nat.le_of_ble_eq_true rfl⟩, Nat.le_of_ble_eq_true rfl, Nat.le_of_ble_eq_true rfl⟩ (zg_retV (fun h2 hE => ?_)) (zg_xok ok tab fin ⟨Nat.le_of_ble_eq_true rfl, Nat.le_of_ble_eq_true rfl⟩)
  refine zg_cost (kc2 := 2) (ks2 := 12) ⟨rfl, rfl⟩ ?_
  refine zg_aload_n ok dX1_save_10 rfl 1 rfl ?_
  refine zg_getA ok lf_X1_44 dX1_save_11 hE (fun v2 hE => ?_)
  refine zg_iload_n ok dX1_save_14 rfl 2 rfl ?_
  refine zg_aload_n ok dX1_save_15 rfl 0 rfl ?_
  refine zg_callV (vs := []) (rest := [.int a1, va_rf v2]) (rm := rm_X4_copy) ok hRm lk_X1_349 dX1_save_16 hE (fun hE => mt_X4_copy hl hE) rfl (Nat.le_of_ble_eq_true rfl) ⟨⟨Nat.le_of_ble_eq_true rfl, Nat.le_of_ble_eq_true rfl⟩, Nat.le_of_ble_eq_true rfl, Nat.le_of_ble_eq_true rfl⟩ (zg_retA (fun v3 h3 hE => ?_)) (zg_xok ok tab fin ⟨Nat.le_of_ble_eq_true rfl, Nat.le_of_ble_eq_true rfl⟩)
  refine zg_cost (kc2 := 295) (ks2 := 2369) ⟨rfl, rfl⟩ ?_
  refine zg_aastL ok lt_8 dX1_save_19 hE (fun h4 hE => ?_)
  refine zg_aload_n ok dX1_save_20 rfl 0 rfl ?_
  refine zg_getI ok lf_X1_149 dX1_save_21 hE (fun v4 hE => ?_)
  exact zg_iret ok fin dX1_save_24 ⟨Nat.le_of_ble_eq_true rfl, Nat.le_of_ble_eq_true rfl⟩ hE
set_option maxHeartbeats 8000000 in
theorem gt_f_X1_restore_J19 {Xc : zw_X} {Q : Int32 → zw_H → Prop} {X : String → Nat → zw_H → Prop} (hl : (zw_l Xc).stackTraces = false) (ok : zw_ok Xc cX1_restore "MultipoleLine" yX1_restore.name 2) (tab : zw_tab Xc []) (fin : zw_fin Xc (Option.some Jvm.ClassFile.FieldType.int) (zq_I Q) X 295 2369) (hRm : zw_rm Xc = rm_X1_restore)  {l0 : Option Nat} {l1 : Int32} {s0 : Int32} {h : zw_H} (hE : f_X1_restore_J19 (zw_Zf Xc).2.2.2 Q X  l0 l1 s0 h) : zw_G Xc 1 6 2 h 19 [(0, va_rf l0), (1, .int l1)] [.int s0] := by
  unfold f_X1_restore_J19 at hE
  refine zg_callS (vs := [zI s0]) (rest := []) (rm := rm_X1_checkState) ok hRm lk_X1_72 dX1_restore_19 hE (fun hE => mt_X1_checkState hl hE) rfl (Nat.le_of_ble_eq_true rfl) ⟨⟨Nat.le_of_ble_eq_true rfl, Nat.le_of_ble_eq_true rfl⟩, Nat.le_of_ble_eq_true rfl, Nat.le_of_ble_eq_true rfl⟩ (zg_retV (fun h2 hE => ?_)) (zg_xok ok tab fin ⟨Nat.le_of_ble_eq_true rfl, Nat.le_of_ble_eq_true rfl⟩)
  refine zg_cost (kc2 := 2) (ks2 := 12) ⟨rfl, rfl⟩ ?_
  refine zg_aload_n ok dX1_restore_22 rfl 0 rfl ?_
  refine zg_aload_n ok dX1_restore_23 rfl 0 rfl ?_
  refine zg_getA ok lf_X1_44 dX1_restore_24 hE (fun v3 hE => ?_)
  refine zg_iload_n ok dX1_restore_27 rfl 1 rfl ?_
  refine zg_aaldL ok dX1_restore_28 hE (fun v4 hE => ?_)
  refine zg_callV (vs := []) (rest := [va_rf l0]) (rm := rm_X4_copy) ok hRm lk_X1_349 dX1_restore_29 hE (fun hE => mt_X4_copy hl hE) rfl (Nat.le_of_ble_eq_true rfl) ⟨⟨Nat.le_of_ble_eq_true rfl, Nat.le_of_ble_eq_true rfl⟩, Nat.le_of_ble_eq_true rfl, Nat.le_of_ble_eq_true rfl⟩ (zg_retA (fun v5 h3 hE => ?_)) (zg_xok ok tab fin ⟨Nat.le_of_ble_eq_true rfl, Nat.le_of_ble_eq_true rfl⟩)
  refine zg_cost (kc2 := 295) (ks2 := 2369) ⟨rfl, rfl⟩ ?_
  refine zg_put (ty := (.object "MultipoleLine$Line")) ok lf_X1_68 (Or.inl rfl) (by decide) (by decide +kernel) (zw_nrO _ _) (zw_frO _ _) dX1_restore_32 hE (fun h4 hE => ?_)
  refine zg_aload_n ok dX1_restore_35 rfl 0 rfl ?_
  refine zg_getA ok lf_X1_38 dX1_restore_36 hE (fun v6 hE => ?_)
  refine zg_callV (vs := []) (rest := []) (rm := rm_J1_clear) ok hRm lk_X1_128 dX1_restore_39 hE (fun hE => mt_J1_clear hl hE) rfl (Nat.le_of_ble_eq_true rfl) ⟨⟨Nat.le_of_ble_eq_true rfl, Nat.le_of_ble_eq_true rfl⟩, Nat.le_of_ble_eq_true rfl, Nat.le_of_ble_eq_true rfl⟩ (zg_retV (fun h5 hE => ?_)) (zg_xok ok tab fin ⟨Nat.le_of_ble_eq_true rfl, Nat.le_of_ble_eq_true rfl⟩)
  refine zg_cost (kc2 := 295) (ks2 := 2369) ⟨rfl, rfl⟩ ?_
  refine zg_aload_n ok dX1_restore_42 rfl 0 rfl ?_
  refine zg_getA ok lf_X1_68 dX1_restore_43 hE (fun v7 hE => ?_)
  refine zg_getI ok lf_X1_149 dX1_restore_46 hE (fun v8 hE => ?_)
  exact zg_iret ok fin dX1_restore_49 ⟨Nat.le_of_ble_eq_true rfl, Nat.le_of_ble_eq_true rfl⟩ hE
set_option maxHeartbeats 8000000 in
theorem mt_X1_restore {l : Launch} (hl : l.stackTraces = false) {Z : zw_Z} {a0 : Option Nat} {a1 : Int32} {h : zw_H} {Q : Int32 → zw_H → Prop} {X : String → Nat → zw_H → Prop} (hE : f_X1_restore Z.2.2.2 a0 a1 h Q X) : zw_Met l Z yX1_restore (ws_ yX1_restore cX1_restore 2 (Option.some Jvm.ClassFile.FieldType.int)) rm_X1_restore [zA a0, zI a1] h (zq_I Q) X := by
  refine zg_start (own := "MultipoleLine") (by decide +kernel) rfl (Nat.le_of_ble_eq_true rfl) hl (fun Xc ok tab fin hRm hXl hXZ => ?_)
  subst hXl
  subst hXZ
  unfold f_X1_restore at hE
  refine zg_iload_n ok dX1_restore_0 rfl 1 rfl ?_
  refine zg_iconst (v := 2) ok dX1_restore_1 (by decide) ?_
  refine zg_callS (vs := [zI a1, zI 2]) (rest := []) (rm := rm_X1_checkIndex) ok hRm lk_X1_84 dX1_restore_2 hE (fun hE => mt_X1_checkIndex hl hE) rfl (Nat.le_of_ble_eq_true rfl) ⟨⟨Nat.le_of_ble_eq_true rfl, Nat.le_of_ble_eq_true rfl⟩, Nat.le_of_ble_eq_true rfl, Nat.le_of_ble_eq_true rfl⟩ (zg_retV (fun h1 hE => ?_)) (zg_xok ok tab fin ⟨Nat.le_of_ble_eq_true rfl, Nat.le_of_ble_eq_true rfl⟩)
  refine zg_cost (kc2 := 1) (ks2 := 6) ⟨rfl, rfl⟩ ?_
  refine zg_aload_n ok dX1_restore_5 rfl 0 rfl ?_
  refine zg_getA ok lf_X1_44 dX1_restore_6 hE (fun v1 hE => ?_)
  refine zg_iload_n ok dX1_restore_9 rfl 1 rfl ?_
  refine zg_aaldL ok dX1_restore_10 hE (fun v2 hE => ?_)
  refine zg_ifnull (tgt := 18) ok dX1_restore_11 (by decide) hE (fun hE => ?_) (fun hE => ?_)
  · refine zg_iconst (v := 0) ok dX1_restore_18 (by decide) ?_
    exact gt_f_X1_restore_J19 hl ok tab fin hRm  hE
  · refine zg_iconst (v := 1) ok dX1_restore_14 (by decide) ?_
    refine zg_goto (tgt := 19) ok dX1_restore_15 (by decide) ?_
    exact gt_f_X1_restore_J19 hl ok tab fin hRm  hE
set_option maxHeartbeats 8000000 in
theorem mt_X0_load {l : Launch} (hl : l.stackTraces = false) {Z : zw_Z} {a0 : Option Nat} {a1 : Int32} {a2 : Option Nat} {h : zw_H} {Q : Int32 → zw_H → Prop} {X : String → Nat → zw_H → Prop} (hE : f_X0_load Z.2.2.2 a0 a1 a2 h Q X) : zw_Met l Z yX0_load (wsW_ yX0_load cX0_load 4 (Option.some Jvm.ClassFile.FieldType.int) [((0 : Nat), (9 : Nat), (12 : Nat), (13 : Nat)), ((0 : Nat), (9 : Nat), (15 : Nat), (15 : Nat))]) rm_X0_load [zA a0, zI a1, zA a2] h (zq_I Q) X := by
  refine zg_startW (own := "MultipoleLineLaw") (by decide +kernel) rfl (Nat.le_of_ble_eq_true rfl) hl (fun Xc ok tab fin hRm hXl hXZ => ?_)
  subst hXl
  subst hXZ
  unfold f_X0_load at hE
  refine zg_aload_n ok dX0_load_0 rfl 2 rfl ?_
  refine zg_iconst (v := 0) ok dX0_load_1 (by decide) ?_
  refine zg_aload_n ok dX0_load_2 rfl 0 rfl ?_
  refine zg_iload_n ok dX0_load_3 rfl 1 rfl ?_
  refine zg_callVX (vs := [zI a1]) (rest := [.int 0, va_rf a2]) (rm := rm_X1_load) ok hRm lk_X0_7 dX0_load_4 hE (fun hE => mt_X1_load hl hE) rfl (Nat.le_of_ble_eq_true rfl) ⟨⟨Nat.le_of_ble_eq_true rfl, Nat.le_of_ble_eq_true rfl⟩, Nat.le_of_ble_eq_true rfl, Nat.le_of_ble_eq_true rfl⟩ (zg_retI (fun v1 h1 hE => ?_)) (fun E9 q9 h9 hE => ?_)
  · refine zg_cost (kc2 := 1139) (ks2 := 10211) ⟨rfl, rfl⟩ ?_
    refine zg_i2l ok dX0_load_7 ?_
    refine zg_last ok dX0_load_8 hE (fun h2 hE => ?_)
    refine zg_goto (tgt := 18) ok dX0_load_9 (by decide) ?_
    refine zg_iconst (v := 0) ok dX0_load_18 (by decide) ?_
    exact zg_iret ok fin dX0_load_19 ⟨Nat.le_of_ble_eq_true rfl, Nat.le_of_ble_eq_true rfl⟩ hE
  · by_cases c9 : E9 = "java/lang/IndexOutOfBoundsException"
    · rw [if_pos c9] at hE
      subst c9
      refine zg_catch ok tab ((tableOf [((0 : Nat), (9 : Nat), (12 : Nat), (13 : Nat)), ((0 : Nat), (9 : Nat), (15 : Nat), (15 : Nat))]).take 0) ((tableOf [((0 : Nat), (9 : Nat), (12 : Nat), (13 : Nat)), ((0 : Nat), (9 : Nat), (15 : Nat), (15 : Nat))])[0]) ((tableOf [((0 : Nat), (9 : Nat), (12 : Nat), (13 : Nat)), ((0 : Nat), (9 : Nat), (15 : Nat), (15 : Nat))]).drop 1) rfl (fun z hz => by cases hz) (by decide +kernel) (by decide) q274 q368 ?_
      refine zg_astore_nR (L' := [(3, va_rf (some q9)), (0, va_rf a0), (1, .int a1), (2, va_rf a2)]) ok dX0_load_12 rfl (by decide) 2 rfl rfl rfl ?_
      refine zg_iconst (v := 1) ok dX0_load_13 (by decide) ?_
      exact zg_iret ok fin dX0_load_14 ⟨Nat.le_of_ble_eq_true rfl, Nat.le_of_ble_eq_true rfl⟩ hE
    rw [if_neg c9] at hE
    by_cases c9 : E9 = "java/lang/IllegalArgumentException"
    · rw [if_pos c9] at hE
      subst c9
      refine zg_catch ok tab ((tableOf [((0 : Nat), (9 : Nat), (12 : Nat), (13 : Nat)), ((0 : Nat), (9 : Nat), (15 : Nat), (15 : Nat))]).take 1) ((tableOf [((0 : Nat), (9 : Nat), (12 : Nat), (13 : Nat)), ((0 : Nat), (9 : Nat), (15 : Nat), (15 : Nat))])[1]) ((tableOf [((0 : Nat), (9 : Nat), (12 : Nat), (13 : Nat)), ((0 : Nat), (9 : Nat), (15 : Nat), (15 : Nat))]).drop 2) rfl (by
          intro z hz
          cases hz with
          | head => exact Or.inr ⟨by decide, "java/lang/IndexOutOfBoundsException", q274, List.mem_of_getElem? (i := 6) rfl⟩
          | tail _ hz =>
            cases hz) (by decide +kernel) (by decide) q354 q652 ?_
      refine zg_astore_nR (L' := [(3, va_rf (some q9)), (0, va_rf a0), (1, .int a1), (2, va_rf a2)]) ok dX0_load_15 rfl (by decide) 2 rfl rfl rfl ?_
      refine zg_iconst (v := 2) ok dX0_load_16 (by decide) ?_
      exact zg_iret ok fin dX0_load_17 ⟨Nat.le_of_ble_eq_true rfl, Nat.le_of_ble_eq_true rfl⟩ hE
    rw [if_neg c9] at hE
    exact hE.elim
set_option maxHeartbeats 8000000 in
theorem mt_X0_count {l : Launch} (hl : l.stackTraces = false) {Z : zw_Z} {a0 : Option Nat} {a1 : Int32} {a2 : Option Nat} {h : zw_H} {Q : Int32 → zw_H → Prop} {X : String → Nat → zw_H → Prop} (hE : f_X0_count Z.2.2.2 a0 a1 a2 h Q X) : zw_Met l Z yX0_count (wsW_ yX0_count cX0_count 4 (Option.some Jvm.ClassFile.FieldType.int) [((0 : Nat), (9 : Nat), (12 : Nat), (20 : Nat)), ((0 : Nat), (9 : Nat), (15 : Nat), (15 : Nat))]) rm_X0_count [zA a0, zI a1, zA a2] h (zq_I Q) X := by
  refine zg_startW (own := "MultipoleLineLaw") (by decide +kernel) rfl (Nat.le_of_ble_eq_true rfl) hl (fun Xc ok tab fin hRm hXl hXZ => ?_)
  subst hXl
  subst hXZ
  unfold f_X0_count at hE
  refine zg_aload_n ok dX0_count_0 rfl 2 rfl ?_
  refine zg_iconst (v := 0) ok dX0_count_1 (by decide) ?_
  refine zg_aload_n ok dX0_count_2 rfl 0 rfl ?_
  refine zg_iload_n ok dX0_count_3 rfl 1 rfl ?_
  refine zg_callV (vs := [zI a1]) (rest := [.int 0, va_rf a2]) (rm := rm_X1_count) ok hRm lk_X0_17 dX0_count_4 hE (fun hE => mt_X1_count hl hE) rfl (Nat.le_of_ble_eq_true rfl) ⟨⟨Nat.le_of_ble_eq_true rfl, Nat.le_of_ble_eq_true rfl⟩, Nat.le_of_ble_eq_true rfl, Nat.le_of_ble_eq_true rfl⟩ (zg_retI (fun v1 h1 hE => ?_)) (fun E9 q9 h9 hE => ?_)
  · refine zg_cost (kc2 := 3) (ks2 := 13) ⟨rfl, rfl⟩ ?_
    refine zg_i2l ok dX0_count_7 ?_
    refine zg_last ok dX0_count_8 hE (fun h2 hE => ?_)
    refine zg_goto (tgt := 18) ok dX0_count_9 (by decide) ?_
    refine zg_iconst (v := 0) ok dX0_count_18 (by decide) ?_
    exact zg_iret ok fin dX0_count_19 ⟨Nat.le_of_ble_eq_true rfl, Nat.le_of_ble_eq_true rfl⟩ hE
  · by_cases c9 : E9 = "java/lang/IllegalStateException"
    · rw [if_pos c9] at hE
      subst c9
      refine zg_catch ok tab ((tableOf [((0 : Nat), (9 : Nat), (12 : Nat), (20 : Nat)), ((0 : Nat), (9 : Nat), (15 : Nat), (15 : Nat))]).take 0) ((tableOf [((0 : Nat), (9 : Nat), (12 : Nat), (20 : Nat)), ((0 : Nat), (9 : Nat), (15 : Nat), (15 : Nat))])[0]) ((tableOf [((0 : Nat), (9 : Nat), (12 : Nat), (20 : Nat)), ((0 : Nat), (9 : Nat), (15 : Nat), (15 : Nat))]).drop 1) rfl (fun z hz => by cases hz) (by decide +kernel) (by decide) q1112 q1126 ?_
      refine zg_astore_nR (L' := [(3, va_rf (some q9)), (0, va_rf a0), (1, .int a1), (2, va_rf a2)]) ok dX0_count_12 rfl (by decide) 2 rfl rfl rfl ?_
      refine zg_iconst (v := 1) ok dX0_count_13 (by decide) ?_
      exact zg_iret ok fin dX0_count_14 ⟨Nat.le_of_ble_eq_true rfl, Nat.le_of_ble_eq_true rfl⟩ hE
    rw [if_neg c9] at hE
    by_cases c9 : E9 = "java/lang/IllegalArgumentException"
    · rw [if_pos c9] at hE
      subst c9
      refine zg_catch ok tab ((tableOf [((0 : Nat), (9 : Nat), (12 : Nat), (20 : Nat)), ((0 : Nat), (9 : Nat), (15 : Nat), (15 : Nat))]).take 1) ((tableOf [((0 : Nat), (9 : Nat), (12 : Nat), (20 : Nat)), ((0 : Nat), (9 : Nat), (15 : Nat), (15 : Nat))])[1]) ((tableOf [((0 : Nat), (9 : Nat), (12 : Nat), (20 : Nat)), ((0 : Nat), (9 : Nat), (15 : Nat), (15 : Nat))]).drop 2) rfl (by
          intro z hz
          cases hz with
          | head => exact Or.inr ⟨by decide, "java/lang/IllegalStateException", q1112, List.mem_of_getElem? (i := 5) rfl⟩
          | tail _ hz =>
            cases hz) (by decide +kernel) (by decide) q354 q652 ?_
      refine zg_astore_nR (L' := [(3, va_rf (some q9)), (0, va_rf a0), (1, .int a1), (2, va_rf a2)]) ok dX0_count_15 rfl (by decide) 2 rfl rfl rfl ?_
      refine zg_iconst (v := 2) ok dX0_count_16 (by decide) ?_
      exact zg_iret ok fin dX0_count_17 ⟨Nat.le_of_ble_eq_true rfl, Nat.le_of_ble_eq_true rfl⟩ hE
    rw [if_neg c9] at hE
    exact hE.elim
set_option maxHeartbeats 8000000 in
theorem mt_X0_body {l : Launch} (hl : l.stackTraces = false) {Z : zw_Z} {a0 : Option Nat} {a1 : Int32} {a2 : Int32} {a3 : Option Nat} {h : zw_H} {Q : Int32 → zw_H → Prop} {X : String → Nat → zw_H → Prop} (hE : f_X0_body Z.2.2.2 a0 a1 a2 a3 h Q X) : zw_Met l Z yX0_body (wsW_ yX0_body cX0_body 5 (Option.some Jvm.ClassFile.FieldType.int) [((0 : Nat), (10 : Nat), (13 : Nat), (20 : Nat)), ((0 : Nat), (10 : Nat), (17 : Nat), (13 : Nat)), ((0 : Nat), (10 : Nat), (21 : Nat), (15 : Nat))]) rm_X0_body [zA a0, zI a1, zI a2, zA a3] h (zq_I Q) X := by
  refine zg_startW (own := "MultipoleLineLaw") (by decide +kernel) rfl (Nat.le_of_ble_eq_true rfl) hl (fun Xc ok tab fin hRm hXl hXZ => ?_)
  subst hXl
  subst hXZ
  unfold f_X0_body at hE
  refine zg_aload_n ok dX0_body_0 rfl 3 rfl ?_
  refine zg_iconst (v := 0) ok dX0_body_1 (by decide) ?_
  refine zg_aload_n ok dX0_body_2 rfl 0 rfl ?_
  refine zg_iload_n ok dX0_body_3 rfl 1 rfl ?_
  refine zg_iload_n ok dX0_body_4 rfl 2 rfl ?_
  refine zg_callV (vs := [zI a1, zI a2]) (rest := [.int 0, va_rf a3]) (rm := rm_X1_body_2) ok hRm lk_X0_22 dX0_body_5 hE (fun hE => mt_X1_body_2 hl hE) rfl (Nat.le_of_ble_eq_true rfl) ⟨⟨Nat.le_of_ble_eq_true rfl, Nat.le_of_ble_eq_true rfl⟩, Nat.le_of_ble_eq_true rfl, Nat.le_of_ble_eq_true rfl⟩ (zg_retI (fun v1 h1 hE => ?_)) (fun E9 q9 h9 hE => ?_)
  · refine zg_cost (kc2 := 3) (ks2 := 18) ⟨rfl, rfl⟩ ?_
    refine zg_i2l ok dX0_body_8 ?_
    refine zg_last ok dX0_body_9 hE (fun h2 hE => ?_)
    refine zg_goto (tgt := 25) ok dX0_body_10 (by decide) ?_
    refine zg_iconst (v := 0) ok dX0_body_25 (by decide) ?_
    exact zg_iret ok fin dX0_body_26 ⟨Nat.le_of_ble_eq_true rfl, Nat.le_of_ble_eq_true rfl⟩ hE
  · by_cases c9 : E9 = "java/lang/IllegalStateException"
    · rw [if_pos c9] at hE
      subst c9
      refine zg_catch ok tab ((tableOf [((0 : Nat), (10 : Nat), (13 : Nat), (20 : Nat)), ((0 : Nat), (10 : Nat), (17 : Nat), (13 : Nat)), ((0 : Nat), (10 : Nat), (21 : Nat), (15 : Nat))]).take 0) ((tableOf [((0 : Nat), (10 : Nat), (13 : Nat), (20 : Nat)), ((0 : Nat), (10 : Nat), (17 : Nat), (13 : Nat)), ((0 : Nat), (10 : Nat), (21 : Nat), (15 : Nat))])[0]) ((tableOf [((0 : Nat), (10 : Nat), (13 : Nat), (20 : Nat)), ((0 : Nat), (10 : Nat), (17 : Nat), (13 : Nat)), ((0 : Nat), (10 : Nat), (21 : Nat), (15 : Nat))]).drop 1) rfl (fun z hz => by cases hz) (by decide +kernel) (by decide) q1112 q1126 ?_
      refine zg_astoreR (L' := [(4, va_rf (some q9)), (0, va_rf a0), (1, .int a1), (2, .int a2), (3, va_rf a3)]) ok dX0_body_13 (by decide) 3 rfl rfl rfl ?_
      refine zg_iconst (v := 1) ok dX0_body_15 (by decide) ?_
      exact zg_iret ok fin dX0_body_16 ⟨Nat.le_of_ble_eq_true rfl, Nat.le_of_ble_eq_true rfl⟩ hE
    rw [if_neg c9] at hE
    by_cases c9 : E9 = "java/lang/IndexOutOfBoundsException"
    · rw [if_pos c9] at hE
      subst c9
      refine zg_catch ok tab ((tableOf [((0 : Nat), (10 : Nat), (13 : Nat), (20 : Nat)), ((0 : Nat), (10 : Nat), (17 : Nat), (13 : Nat)), ((0 : Nat), (10 : Nat), (21 : Nat), (15 : Nat))]).take 1) ((tableOf [((0 : Nat), (10 : Nat), (13 : Nat), (20 : Nat)), ((0 : Nat), (10 : Nat), (17 : Nat), (13 : Nat)), ((0 : Nat), (10 : Nat), (21 : Nat), (15 : Nat))])[1]) ((tableOf [((0 : Nat), (10 : Nat), (13 : Nat), (20 : Nat)), ((0 : Nat), (10 : Nat), (17 : Nat), (13 : Nat)), ((0 : Nat), (10 : Nat), (21 : Nat), (15 : Nat))]).drop 2) rfl (by
          intro z hz
          cases hz with
          | head => exact Or.inr ⟨by decide, "java/lang/IllegalStateException", q1112, List.mem_of_getElem? (i := 3) rfl⟩
          | tail _ hz =>
            cases hz) (by decide +kernel) (by decide) q274 q368 ?_
      refine zg_astoreR (L' := [(4, va_rf (some q9)), (0, va_rf a0), (1, .int a1), (2, .int a2), (3, va_rf a3)]) ok dX0_body_17 (by decide) 3 rfl rfl rfl ?_
      refine zg_iconst (v := 2) ok dX0_body_19 (by decide) ?_
      exact zg_iret ok fin dX0_body_20 ⟨Nat.le_of_ble_eq_true rfl, Nat.le_of_ble_eq_true rfl⟩ hE
    rw [if_neg c9] at hE
    by_cases c9 : E9 = "java/lang/IllegalArgumentException"
    · rw [if_pos c9] at hE
      subst c9
      refine zg_catch ok tab ((tableOf [((0 : Nat), (10 : Nat), (13 : Nat), (20 : Nat)), ((0 : Nat), (10 : Nat), (17 : Nat), (13 : Nat)), ((0 : Nat), (10 : Nat), (21 : Nat), (15 : Nat))]).take 2) ((tableOf [((0 : Nat), (10 : Nat), (13 : Nat), (20 : Nat)), ((0 : Nat), (10 : Nat), (17 : Nat), (13 : Nat)), ((0 : Nat), (10 : Nat), (21 : Nat), (15 : Nat))])[2]) ((tableOf [((0 : Nat), (10 : Nat), (13 : Nat), (20 : Nat)), ((0 : Nat), (10 : Nat), (17 : Nat), (13 : Nat)), ((0 : Nat), (10 : Nat), (21 : Nat), (15 : Nat))]).drop 3) rfl (by
          intro z hz
          cases hz with
          | head => exact Or.inr ⟨by decide, "java/lang/IllegalStateException", q1112, List.mem_of_getElem? (i := 5) rfl⟩
          | tail _ hz =>
            cases hz with
            | head => exact Or.inr ⟨by decide, "java/lang/IndexOutOfBoundsException", q274, List.mem_of_getElem? (i := 6) rfl⟩
            | tail _ hz =>
              cases hz) (by decide +kernel) (by decide) q354 q652 ?_
      refine zg_astoreR (L' := [(4, va_rf (some q9)), (0, va_rf a0), (1, .int a1), (2, .int a2), (3, va_rf a3)]) ok dX0_body_21 (by decide) 3 rfl rfl rfl ?_
      refine zg_iconst (v := 3) ok dX0_body_23 (by decide) ?_
      exact zg_iret ok fin dX0_body_24 ⟨Nat.le_of_ble_eq_true rfl, Nat.le_of_ble_eq_true rfl⟩ hE
    rw [if_neg c9] at hE
    exact hE.elim
set_option maxHeartbeats 8000000 in
theorem mt_X0_bodyAt {l : Launch} (hl : l.stackTraces = false) {Z : zw_Z} {a0 : Option Nat} {a1 : Int32} {a2 : Option Nat} {h : zw_H} {Q : Int32 → zw_H → Prop} {X : String → Nat → zw_H → Prop} (hE : f_X0_bodyAt Z.2.2.2 a0 a1 a2 h Q X) : zw_Met l Z yX0_bodyAt (wsW_ yX0_bodyAt cX0_bodyAt 4 (Option.some Jvm.ClassFile.FieldType.int) [((0 : Nat), (9 : Nat), (12 : Nat), (20 : Nat)), ((0 : Nat), (9 : Nat), (15 : Nat), (15 : Nat))]) rm_X0_bodyAt [zA a0, zI a1, zA a2] h (zq_I Q) X := by
  refine zg_startW (own := "MultipoleLineLaw") (by decide +kernel) rfl (Nat.le_of_ble_eq_true rfl) hl (fun Xc ok tab fin hRm hXl hXZ => ?_)
  subst hXl
  subst hXZ
  unfold f_X0_bodyAt at hE
  refine zg_aload_n ok dX0_bodyAt_0 rfl 2 rfl ?_
  refine zg_iconst (v := 0) ok dX0_bodyAt_1 (by decide) ?_
  refine zg_aload_n ok dX0_bodyAt_2 rfl 0 rfl ?_
  refine zg_iload_n ok dX0_bodyAt_3 rfl 1 rfl ?_
  refine zg_callV (vs := [zI a1]) (rest := [.int 0, va_rf a2]) (rm := rm_X1_bodyAt) ok hRm lk_X0_26 dX0_bodyAt_4 hE (fun hE => mt_X1_bodyAt hl hE) rfl (Nat.le_of_ble_eq_true rfl) ⟨⟨Nat.le_of_ble_eq_true rfl, Nat.le_of_ble_eq_true rfl⟩, Nat.le_of_ble_eq_true rfl, Nat.le_of_ble_eq_true rfl⟩ (zg_retI (fun v1 h1 hE => ?_)) (fun E9 q9 h9 hE => ?_)
  · refine zg_cost (kc2 := 2) (ks2 := 12) ⟨rfl, rfl⟩ ?_
    refine zg_i2l ok dX0_bodyAt_7 ?_
    refine zg_last ok dX0_bodyAt_8 hE (fun h2 hE => ?_)
    refine zg_goto (tgt := 18) ok dX0_bodyAt_9 (by decide) ?_
    refine zg_iconst (v := 0) ok dX0_bodyAt_18 (by decide) ?_
    exact zg_iret ok fin dX0_bodyAt_19 ⟨Nat.le_of_ble_eq_true rfl, Nat.le_of_ble_eq_true rfl⟩ hE
  · by_cases c9 : E9 = "java/lang/IllegalStateException"
    · rw [if_pos c9] at hE
      subst c9
      refine zg_catch ok tab ((tableOf [((0 : Nat), (9 : Nat), (12 : Nat), (20 : Nat)), ((0 : Nat), (9 : Nat), (15 : Nat), (15 : Nat))]).take 0) ((tableOf [((0 : Nat), (9 : Nat), (12 : Nat), (20 : Nat)), ((0 : Nat), (9 : Nat), (15 : Nat), (15 : Nat))])[0]) ((tableOf [((0 : Nat), (9 : Nat), (12 : Nat), (20 : Nat)), ((0 : Nat), (9 : Nat), (15 : Nat), (15 : Nat))]).drop 1) rfl (fun z hz => by cases hz) (by decide +kernel) (by decide) q1112 q1126 ?_
      refine zg_astore_nR (L' := [(3, va_rf (some q9)), (0, va_rf a0), (1, .int a1), (2, va_rf a2)]) ok dX0_bodyAt_12 rfl (by decide) 2 rfl rfl rfl ?_
      refine zg_iconst (v := 1) ok dX0_bodyAt_13 (by decide) ?_
      exact zg_iret ok fin dX0_bodyAt_14 ⟨Nat.le_of_ble_eq_true rfl, Nat.le_of_ble_eq_true rfl⟩ hE
    rw [if_neg c9] at hE
    by_cases c9 : E9 = "java/lang/IllegalArgumentException"
    · rw [if_pos c9] at hE
      subst c9
      refine zg_catch ok tab ((tableOf [((0 : Nat), (9 : Nat), (12 : Nat), (20 : Nat)), ((0 : Nat), (9 : Nat), (15 : Nat), (15 : Nat))]).take 1) ((tableOf [((0 : Nat), (9 : Nat), (12 : Nat), (20 : Nat)), ((0 : Nat), (9 : Nat), (15 : Nat), (15 : Nat))])[1]) ((tableOf [((0 : Nat), (9 : Nat), (12 : Nat), (20 : Nat)), ((0 : Nat), (9 : Nat), (15 : Nat), (15 : Nat))]).drop 2) rfl (by
          intro z hz
          cases hz with
          | head => exact Or.inr ⟨by decide, "java/lang/IllegalStateException", q1112, List.mem_of_getElem? (i := 5) rfl⟩
          | tail _ hz =>
            cases hz) (by decide +kernel) (by decide) q354 q652 ?_
      refine zg_astore_nR (L' := [(3, va_rf (some q9)), (0, va_rf a0), (1, .int a1), (2, va_rf a2)]) ok dX0_bodyAt_15 rfl (by decide) 2 rfl rfl rfl ?_
      refine zg_iconst (v := 2) ok dX0_bodyAt_16 (by decide) ?_
      exact zg_iret ok fin dX0_bodyAt_17 ⟨Nat.le_of_ble_eq_true rfl, Nat.le_of_ble_eq_true rfl⟩ hE
    rw [if_neg c9] at hE
    exact hE.elim
set_option maxHeartbeats 8000000 in
theorem mt_X0_box {l : Launch} (hl : l.stackTraces = false) {Z : zw_Z} {a0 : Option Nat} {a1 : Int32} {a2 : Int32} {a3 : Int32} {a4 : Option Nat} {h : zw_H} {Q : Int32 → zw_H → Prop} {X : String → Nat → zw_H → Prop} (hE : f_X0_box Z.2.2.2 a0 a1 a2 a3 a4 h Q X) : zw_Met l Z yX0_box (wsW_ yX0_box cX0_box 6 (Option.some Jvm.ClassFile.FieldType.int) [((0 : Nat), (12 : Nat), (15 : Nat), (20 : Nat)), ((0 : Nat), (12 : Nat), (19 : Nat), (13 : Nat)), ((0 : Nat), (12 : Nat), (23 : Nat), (15 : Nat))]) rm_X0_box [zA a0, zI a1, zI a2, zI a3, zA a4] h (zq_I Q) X := by
  refine zg_startW (own := "MultipoleLineLaw") (by decide +kernel) rfl (Nat.le_of_ble_eq_true rfl) hl (fun Xc ok tab fin hRm hXl hXZ => ?_)
  subst hXl
  subst hXZ
  unfold f_X0_box at hE
  refine zg_aload ok dX0_box_0 4 rfl ?_
  refine zg_iconst (v := 0) ok dX0_box_2 (by decide) ?_
  refine zg_aload_n ok dX0_box_3 rfl 0 rfl ?_
  refine zg_iload_n ok dX0_box_4 rfl 1 rfl ?_
  refine zg_iload_n ok dX0_box_5 rfl 2 rfl ?_
  refine zg_iload_n ok dX0_box_6 rfl 3 rfl ?_
  refine zg_callV (vs := [zI a1, zI a2, zI a3]) (rest := [.int 0, va_rf a4]) (rm := rm_X1_box) ok hRm lk_X0_29 dX0_box_7 hE (fun hE => mt_X1_box hl hE) rfl (Nat.le_of_ble_eq_true rfl) ⟨⟨Nat.le_of_ble_eq_true rfl, Nat.le_of_ble_eq_true rfl⟩, Nat.le_of_ble_eq_true rfl, Nat.le_of_ble_eq_true rfl⟩ (zg_retI (fun v1 h1 hE => ?_)) (fun E9 q9 h9 hE => ?_)
  · refine zg_cost (kc2 := 4) (ks2 := 24) ⟨rfl, rfl⟩ ?_
    refine zg_i2l ok dX0_box_10 ?_
    refine zg_last ok dX0_box_11 hE (fun h2 hE => ?_)
    refine zg_goto (tgt := 27) ok dX0_box_12 (by decide) ?_
    refine zg_iconst (v := 0) ok dX0_box_27 (by decide) ?_
    exact zg_iret ok fin dX0_box_28 ⟨Nat.le_of_ble_eq_true rfl, Nat.le_of_ble_eq_true rfl⟩ hE
  · by_cases c9 : E9 = "java/lang/IllegalStateException"
    · rw [if_pos c9] at hE
      subst c9
      refine zg_catch ok tab ((tableOf [((0 : Nat), (12 : Nat), (15 : Nat), (20 : Nat)), ((0 : Nat), (12 : Nat), (19 : Nat), (13 : Nat)), ((0 : Nat), (12 : Nat), (23 : Nat), (15 : Nat))]).take 0) ((tableOf [((0 : Nat), (12 : Nat), (15 : Nat), (20 : Nat)), ((0 : Nat), (12 : Nat), (19 : Nat), (13 : Nat)), ((0 : Nat), (12 : Nat), (23 : Nat), (15 : Nat))])[0]) ((tableOf [((0 : Nat), (12 : Nat), (15 : Nat), (20 : Nat)), ((0 : Nat), (12 : Nat), (19 : Nat), (13 : Nat)), ((0 : Nat), (12 : Nat), (23 : Nat), (15 : Nat))]).drop 1) rfl (fun z hz => by cases hz) (by decide +kernel) (by decide) q1112 q1126 ?_
      refine zg_astoreR (L' := [(5, va_rf (some q9)), (0, va_rf a0), (1, .int a1), (2, .int a2), (3, .int a3), (4, va_rf a4)]) ok dX0_box_15 (by decide) 4 rfl rfl rfl ?_
      refine zg_iconst (v := 1) ok dX0_box_17 (by decide) ?_
      exact zg_iret ok fin dX0_box_18 ⟨Nat.le_of_ble_eq_true rfl, Nat.le_of_ble_eq_true rfl⟩ hE
    rw [if_neg c9] at hE
    by_cases c9 : E9 = "java/lang/IndexOutOfBoundsException"
    · rw [if_pos c9] at hE
      subst c9
      refine zg_catch ok tab ((tableOf [((0 : Nat), (12 : Nat), (15 : Nat), (20 : Nat)), ((0 : Nat), (12 : Nat), (19 : Nat), (13 : Nat)), ((0 : Nat), (12 : Nat), (23 : Nat), (15 : Nat))]).take 1) ((tableOf [((0 : Nat), (12 : Nat), (15 : Nat), (20 : Nat)), ((0 : Nat), (12 : Nat), (19 : Nat), (13 : Nat)), ((0 : Nat), (12 : Nat), (23 : Nat), (15 : Nat))])[1]) ((tableOf [((0 : Nat), (12 : Nat), (15 : Nat), (20 : Nat)), ((0 : Nat), (12 : Nat), (19 : Nat), (13 : Nat)), ((0 : Nat), (12 : Nat), (23 : Nat), (15 : Nat))]).drop 2) rfl (by
          intro z hz
          cases hz with
          | head => exact Or.inr ⟨by decide, "java/lang/IllegalStateException", q1112, List.mem_of_getElem? (i := 3) rfl⟩
          | tail _ hz =>
            cases hz) (by decide +kernel) (by decide) q274 q368 ?_
      refine zg_astoreR (L' := [(5, va_rf (some q9)), (0, va_rf a0), (1, .int a1), (2, .int a2), (3, .int a3), (4, va_rf a4)]) ok dX0_box_19 (by decide) 4 rfl rfl rfl ?_
      refine zg_iconst (v := 2) ok dX0_box_21 (by decide) ?_
      exact zg_iret ok fin dX0_box_22 ⟨Nat.le_of_ble_eq_true rfl, Nat.le_of_ble_eq_true rfl⟩ hE
    rw [if_neg c9] at hE
    by_cases c9 : E9 = "java/lang/IllegalArgumentException"
    · rw [if_pos c9] at hE
      subst c9
      refine zg_catch ok tab ((tableOf [((0 : Nat), (12 : Nat), (15 : Nat), (20 : Nat)), ((0 : Nat), (12 : Nat), (19 : Nat), (13 : Nat)), ((0 : Nat), (12 : Nat), (23 : Nat), (15 : Nat))]).take 2) ((tableOf [((0 : Nat), (12 : Nat), (15 : Nat), (20 : Nat)), ((0 : Nat), (12 : Nat), (19 : Nat), (13 : Nat)), ((0 : Nat), (12 : Nat), (23 : Nat), (15 : Nat))])[2]) ((tableOf [((0 : Nat), (12 : Nat), (15 : Nat), (20 : Nat)), ((0 : Nat), (12 : Nat), (19 : Nat), (13 : Nat)), ((0 : Nat), (12 : Nat), (23 : Nat), (15 : Nat))]).drop 3) rfl (by
          intro z hz
          cases hz with
          | head => exact Or.inr ⟨by decide, "java/lang/IllegalStateException", q1112, List.mem_of_getElem? (i := 5) rfl⟩
          | tail _ hz =>
            cases hz with
            | head => exact Or.inr ⟨by decide, "java/lang/IndexOutOfBoundsException", q274, List.mem_of_getElem? (i := 6) rfl⟩
            | tail _ hz =>
              cases hz) (by decide +kernel) (by decide) q354 q652 ?_
      refine zg_astoreR (L' := [(5, va_rf (some q9)), (0, va_rf a0), (1, .int a1), (2, .int a2), (3, .int a3), (4, va_rf a4)]) ok dX0_box_23 (by decide) 4 rfl rfl rfl ?_
      refine zg_iconst (v := 3) ok dX0_box_25 (by decide) ?_
      exact zg_iret ok fin dX0_box_26 ⟨Nat.le_of_ble_eq_true rfl, Nat.le_of_ble_eq_true rfl⟩ hE
    rw [if_neg c9] at hE
    exact hE.elim
set_option maxHeartbeats 8000000 in
theorem mt_X0_boxAt {l : Launch} (hl : l.stackTraces = false) {Z : zw_Z} {a0 : Option Nat} {a1 : Int32} {a2 : Int32} {a3 : Option Nat} {h : zw_H} {Q : Int32 → zw_H → Prop} {X : String → Nat → zw_H → Prop} (hE : f_X0_boxAt Z.2.2.2 a0 a1 a2 a3 h Q X) : zw_Met l Z yX0_boxAt (wsW_ yX0_boxAt cX0_boxAt 5 (Option.some Jvm.ClassFile.FieldType.int) [((0 : Nat), (10 : Nat), (13 : Nat), (20 : Nat)), ((0 : Nat), (10 : Nat), (17 : Nat), (13 : Nat)), ((0 : Nat), (10 : Nat), (21 : Nat), (15 : Nat))]) rm_X0_boxAt [zA a0, zI a1, zI a2, zA a3] h (zq_I Q) X := by
  refine zg_startW (own := "MultipoleLineLaw") (by decide +kernel) rfl (Nat.le_of_ble_eq_true rfl) hl (fun Xc ok tab fin hRm hXl hXZ => ?_)
  subst hXl
  subst hXZ
  unfold f_X0_boxAt at hE
  refine zg_aload_n ok dX0_boxAt_0 rfl 3 rfl ?_
  refine zg_iconst (v := 0) ok dX0_boxAt_1 (by decide) ?_
  refine zg_aload_n ok dX0_boxAt_2 rfl 0 rfl ?_
  refine zg_iload_n ok dX0_boxAt_3 rfl 1 rfl ?_
  refine zg_iload_n ok dX0_boxAt_4 rfl 2 rfl ?_
  refine zg_callV (vs := [zI a1, zI a2]) (rest := [.int 0, va_rf a3]) (rm := rm_X1_boxAt) ok hRm lk_X0_33 dX0_boxAt_5 hE (fun hE => mt_X1_boxAt hl hE) rfl (Nat.le_of_ble_eq_true rfl) ⟨⟨Nat.le_of_ble_eq_true rfl, Nat.le_of_ble_eq_true rfl⟩, Nat.le_of_ble_eq_true rfl, Nat.le_of_ble_eq_true rfl⟩ (zg_retI (fun v1 h1 hE => ?_)) (fun E9 q9 h9 hE => ?_)
  · refine zg_cost (kc2 := 5) (ks2 := 30) ⟨rfl, rfl⟩ ?_
    refine zg_i2l ok dX0_boxAt_8 ?_
    refine zg_last ok dX0_boxAt_9 hE (fun h2 hE => ?_)
    refine zg_goto (tgt := 25) ok dX0_boxAt_10 (by decide) ?_
    refine zg_iconst (v := 0) ok dX0_boxAt_25 (by decide) ?_
    exact zg_iret ok fin dX0_boxAt_26 ⟨Nat.le_of_ble_eq_true rfl, Nat.le_of_ble_eq_true rfl⟩ hE
  · by_cases c9 : E9 = "java/lang/IllegalStateException"
    · rw [if_pos c9] at hE
      subst c9
      refine zg_catch ok tab ((tableOf [((0 : Nat), (10 : Nat), (13 : Nat), (20 : Nat)), ((0 : Nat), (10 : Nat), (17 : Nat), (13 : Nat)), ((0 : Nat), (10 : Nat), (21 : Nat), (15 : Nat))]).take 0) ((tableOf [((0 : Nat), (10 : Nat), (13 : Nat), (20 : Nat)), ((0 : Nat), (10 : Nat), (17 : Nat), (13 : Nat)), ((0 : Nat), (10 : Nat), (21 : Nat), (15 : Nat))])[0]) ((tableOf [((0 : Nat), (10 : Nat), (13 : Nat), (20 : Nat)), ((0 : Nat), (10 : Nat), (17 : Nat), (13 : Nat)), ((0 : Nat), (10 : Nat), (21 : Nat), (15 : Nat))]).drop 1) rfl (fun z hz => by cases hz) (by decide +kernel) (by decide) q1112 q1126 ?_
      refine zg_astoreR (L' := [(4, va_rf (some q9)), (0, va_rf a0), (1, .int a1), (2, .int a2), (3, va_rf a3)]) ok dX0_boxAt_13 (by decide) 3 rfl rfl rfl ?_
      refine zg_iconst (v := 1) ok dX0_boxAt_15 (by decide) ?_
      exact zg_iret ok fin dX0_boxAt_16 ⟨Nat.le_of_ble_eq_true rfl, Nat.le_of_ble_eq_true rfl⟩ hE
    rw [if_neg c9] at hE
    by_cases c9 : E9 = "java/lang/IndexOutOfBoundsException"
    · rw [if_pos c9] at hE
      subst c9
      refine zg_catch ok tab ((tableOf [((0 : Nat), (10 : Nat), (13 : Nat), (20 : Nat)), ((0 : Nat), (10 : Nat), (17 : Nat), (13 : Nat)), ((0 : Nat), (10 : Nat), (21 : Nat), (15 : Nat))]).take 1) ((tableOf [((0 : Nat), (10 : Nat), (13 : Nat), (20 : Nat)), ((0 : Nat), (10 : Nat), (17 : Nat), (13 : Nat)), ((0 : Nat), (10 : Nat), (21 : Nat), (15 : Nat))])[1]) ((tableOf [((0 : Nat), (10 : Nat), (13 : Nat), (20 : Nat)), ((0 : Nat), (10 : Nat), (17 : Nat), (13 : Nat)), ((0 : Nat), (10 : Nat), (21 : Nat), (15 : Nat))]).drop 2) rfl (by
          intro z hz
          cases hz with
          | head => exact Or.inr ⟨by decide, "java/lang/IllegalStateException", q1112, List.mem_of_getElem? (i := 3) rfl⟩
          | tail _ hz =>
            cases hz) (by decide +kernel) (by decide) q274 q368 ?_
      refine zg_astoreR (L' := [(4, va_rf (some q9)), (0, va_rf a0), (1, .int a1), (2, .int a2), (3, va_rf a3)]) ok dX0_boxAt_17 (by decide) 3 rfl rfl rfl ?_
      refine zg_iconst (v := 2) ok dX0_boxAt_19 (by decide) ?_
      exact zg_iret ok fin dX0_boxAt_20 ⟨Nat.le_of_ble_eq_true rfl, Nat.le_of_ble_eq_true rfl⟩ hE
    rw [if_neg c9] at hE
    by_cases c9 : E9 = "java/lang/IllegalArgumentException"
    · rw [if_pos c9] at hE
      subst c9
      refine zg_catch ok tab ((tableOf [((0 : Nat), (10 : Nat), (13 : Nat), (20 : Nat)), ((0 : Nat), (10 : Nat), (17 : Nat), (13 : Nat)), ((0 : Nat), (10 : Nat), (21 : Nat), (15 : Nat))]).take 2) ((tableOf [((0 : Nat), (10 : Nat), (13 : Nat), (20 : Nat)), ((0 : Nat), (10 : Nat), (17 : Nat), (13 : Nat)), ((0 : Nat), (10 : Nat), (21 : Nat), (15 : Nat))])[2]) ((tableOf [((0 : Nat), (10 : Nat), (13 : Nat), (20 : Nat)), ((0 : Nat), (10 : Nat), (17 : Nat), (13 : Nat)), ((0 : Nat), (10 : Nat), (21 : Nat), (15 : Nat))]).drop 3) rfl (by
          intro z hz
          cases hz with
          | head => exact Or.inr ⟨by decide, "java/lang/IllegalStateException", q1112, List.mem_of_getElem? (i := 5) rfl⟩
          | tail _ hz =>
            cases hz with
            | head => exact Or.inr ⟨by decide, "java/lang/IndexOutOfBoundsException", q274, List.mem_of_getElem? (i := 6) rfl⟩
            | tail _ hz =>
              cases hz) (by decide +kernel) (by decide) q354 q652 ?_
      refine zg_astoreR (L' := [(4, va_rf (some q9)), (0, va_rf a0), (1, .int a1), (2, .int a2), (3, va_rf a3)]) ok dX0_boxAt_21 (by decide) 3 rfl rfl rfl ?_
      refine zg_iconst (v := 3) ok dX0_boxAt_23 (by decide) ?_
      exact zg_iret ok fin dX0_boxAt_24 ⟨Nat.le_of_ble_eq_true rfl, Nat.le_of_ble_eq_true rfl⟩ hE
    rw [if_neg c9] at hE
    exact hE.elim
set_option maxHeartbeats 8000000 in
theorem mt_X0_firstEmpty {l : Launch} (hl : l.stackTraces = false) {Z : zw_Z} {a0 : Option Nat} {a1 : Option Nat} {h : zw_H} {Q : Int32 → zw_H → Prop} {X : String → Nat → zw_H → Prop} (hE : f_X0_firstEmpty Z.2.2.2 a0 a1 h Q X) : zw_Met l Z yX0_firstEmpty (wsW_ yX0_firstEmpty cX0_firstEmpty 3 (Option.some Jvm.ClassFile.FieldType.int) [((0 : Nat), (8 : Nat), (11 : Nat), (20 : Nat))]) rm_X0_firstEmpty [zA a0, zA a1] h (zq_I Q) X := by
  refine zg_startW (own := "MultipoleLineLaw") (by decide +kernel) rfl (Nat.le_of_ble_eq_true rfl) hl (fun Xc ok tab fin hRm hXl hXZ => ?_)
  subst hXl
  subst hXZ
  unfold f_X0_firstEmpty at hE
  refine zg_aload_n ok dX0_firstEmpty_0 rfl 1 rfl ?_
  refine zg_iconst (v := 0) ok dX0_firstEmpty_1 (by decide) ?_
  refine zg_aload_n ok dX0_firstEmpty_2 rfl 0 rfl ?_
  refine zg_callV (vs := []) (rest := [.int 0, va_rf a1]) (rm := rm_X1_firstEmpty) ok hRm lk_X0_36 dX0_firstEmpty_3 hE (fun hE => mt_X1_firstEmpty hl hE) rfl (Nat.le_of_ble_eq_true rfl) ⟨⟨Nat.le_of_ble_eq_true rfl, Nat.le_of_ble_eq_true rfl⟩, Nat.le_of_ble_eq_true rfl, Nat.le_of_ble_eq_true rfl⟩ (zg_retI (fun v1 h1 hE => ?_)) (fun E9 q9 h9 hE => ?_)
  · refine zg_cost (kc2 := 3) (ks2 := 13) ⟨rfl, rfl⟩ ?_
    refine zg_i2l ok dX0_firstEmpty_6 ?_
    refine zg_last ok dX0_firstEmpty_7 hE (fun h2 hE => ?_)
    refine zg_goto (tgt := 14) ok dX0_firstEmpty_8 (by decide) ?_
    refine zg_iconst (v := 0) ok dX0_firstEmpty_14 (by decide) ?_
    exact zg_iret ok fin dX0_firstEmpty_15 ⟨Nat.le_of_ble_eq_true rfl, Nat.le_of_ble_eq_true rfl⟩ hE
  · by_cases c9 : E9 = "java/lang/IllegalStateException"
    · rw [if_pos c9] at hE
      subst c9
      refine zg_catch ok tab ((tableOf [((0 : Nat), (8 : Nat), (11 : Nat), (20 : Nat))]).take 0) ((tableOf [((0 : Nat), (8 : Nat), (11 : Nat), (20 : Nat))])[0]) ((tableOf [((0 : Nat), (8 : Nat), (11 : Nat), (20 : Nat))]).drop 1) rfl (fun z hz => by cases hz) (by decide +kernel) (by decide) q1112 q1126 ?_
      refine zg_astore_nR (L' := [(2, va_rf (some q9)), (0, va_rf a0), (1, va_rf a1)]) ok dX0_firstEmpty_11 rfl (by decide) 1 rfl rfl rfl ?_
      refine zg_iconst (v := 1) ok dX0_firstEmpty_12 (by decide) ?_
      exact zg_iret ok fin dX0_firstEmpty_13 ⟨Nat.le_of_ble_eq_true rfl, Nat.le_of_ble_eq_true rfl⟩ hE
    rw [if_neg c9] at hE
    exact hE.elim
set_option maxHeartbeats 8000000 in
theorem mt_X0_densest {l : Launch} (hl : l.stackTraces = false) {Z : zw_Z} {a0 : Option Nat} {a1 : Option Nat} {h : zw_H} {Q : Int32 → zw_H → Prop} {X : String → Nat → zw_H → Prop} (hE : f_X0_densest Z.2.2.2 a0 a1 h Q X) : zw_Met l Z yX0_densest (wsW_ yX0_densest cX0_densest 3 (Option.some Jvm.ClassFile.FieldType.int) [((0 : Nat), (8 : Nat), (11 : Nat), (20 : Nat))]) rm_X0_densest [zA a0, zA a1] h (zq_I Q) X := by
  refine zg_startW (own := "MultipoleLineLaw") (by decide +kernel) rfl (Nat.le_of_ble_eq_true rfl) hl (fun Xc ok tab fin hRm hXl hXZ => ?_)
  subst hXl
  subst hXZ
  unfold f_X0_densest at hE
  refine zg_aload_n ok dX0_densest_0 rfl 1 rfl ?_
  refine zg_iconst (v := 0) ok dX0_densest_1 (by decide) ?_
  refine zg_aload_n ok dX0_densest_2 rfl 0 rfl ?_
  refine zg_callV (vs := []) (rest := [.int 0, va_rf a1]) (rm := rm_X1_densest) ok hRm lk_X0_40 dX0_densest_3 hE (fun hE => mt_X1_densest hl hE) rfl (Nat.le_of_ble_eq_true rfl) ⟨⟨Nat.le_of_ble_eq_true rfl, Nat.le_of_ble_eq_true rfl⟩, Nat.le_of_ble_eq_true rfl, Nat.le_of_ble_eq_true rfl⟩ (zg_retI (fun v1 h1 hE => ?_)) (fun E9 q9 h9 hE => ?_)
  · refine zg_cost (kc2 := 3) (ks2 := 13) ⟨rfl, rfl⟩ ?_
    refine zg_i2l ok dX0_densest_6 ?_
    refine zg_last ok dX0_densest_7 hE (fun h2 hE => ?_)
    refine zg_goto (tgt := 14) ok dX0_densest_8 (by decide) ?_
    refine zg_iconst (v := 0) ok dX0_densest_14 (by decide) ?_
    exact zg_iret ok fin dX0_densest_15 ⟨Nat.le_of_ble_eq_true rfl, Nat.le_of_ble_eq_true rfl⟩ hE
  · by_cases c9 : E9 = "java/lang/IllegalStateException"
    · rw [if_pos c9] at hE
      subst c9
      refine zg_catch ok tab ((tableOf [((0 : Nat), (8 : Nat), (11 : Nat), (20 : Nat))]).take 0) ((tableOf [((0 : Nat), (8 : Nat), (11 : Nat), (20 : Nat))])[0]) ((tableOf [((0 : Nat), (8 : Nat), (11 : Nat), (20 : Nat))]).drop 1) rfl (fun z hz => by cases hz) (by decide +kernel) (by decide) q1112 q1126 ?_
      refine zg_astore_nR (L' := [(2, va_rf (some q9)), (0, va_rf a0), (1, va_rf a1)]) ok dX0_densest_11 rfl (by decide) 1 rfl rfl rfl ?_
      refine zg_iconst (v := 1) ok dX0_densest_12 (by decide) ?_
      exact zg_iret ok fin dX0_densest_13 ⟨Nat.le_of_ble_eq_true rfl, Nat.le_of_ble_eq_true rfl⟩ hE
    rw [if_neg c9] at hE
    exact hE.elim
set_option maxHeartbeats 8000000 in
theorem mt_X0_moment {l : Launch} (hl : l.stackTraces = false) {Z : zw_Z} {a0 : Option Nat} {a1 : Int32} {a2 : Int32} {a3 : Int32} {a4 : Option Nat} {h : zw_H} {Q : Int32 → zw_H → Prop} {X : String → Nat → zw_H → Prop} (hE : f_X0_moment Z.2.2.2 a0 a1 a2 a3 a4 h Q X) : zw_Met l Z yX0_moment (wsW_ yX0_moment cX0_moment 6 (Option.some Jvm.ClassFile.FieldType.int) [((0 : Nat), (11 : Nat), (14 : Nat), (20 : Nat)), ((0 : Nat), (11 : Nat), (18 : Nat), (13 : Nat)), ((0 : Nat), (11 : Nat), (22 : Nat), (15 : Nat))]) rm_X0_moment [zA a0, zI a1, zI a2, zI a3, zA a4] h (zq_I Q) X := by
  refine zg_startW (own := "MultipoleLineLaw") (by decide +kernel) rfl (Nat.le_of_ble_eq_true rfl) hl (fun Xc ok tab fin hRm hXl hXZ => ?_)
  subst hXl
  subst hXZ
  unfold f_X0_moment at hE
  refine zg_aload ok dX0_moment_0 4 rfl ?_
  refine zg_iconst (v := 0) ok dX0_moment_2 (by decide) ?_
  refine zg_aload_n ok dX0_moment_3 rfl 0 rfl ?_
  refine zg_iload_n ok dX0_moment_4 rfl 1 rfl ?_
  refine zg_iload_n ok dX0_moment_5 rfl 2 rfl ?_
  refine zg_iload_n ok dX0_moment_6 rfl 3 rfl ?_
  refine zg_callV (vs := [zI a1, zI a2, zI a3]) (rest := [.int 0, va_rf a4]) (rm := rm_X1_moment) ok hRm lk_X0_43 dX0_moment_7 hE (fun hE => mt_X1_moment hl hE) rfl (Nat.le_of_ble_eq_true rfl) ⟨⟨Nat.le_of_ble_eq_true rfl, Nat.le_of_ble_eq_true rfl⟩, Nat.le_of_ble_eq_true rfl, Nat.le_of_ble_eq_true rfl⟩ (zg_retJ (fun v1 h1 hE => ?_)) (fun E9 q9 h9 hE => ?_)
  · refine zg_cost (kc2 := 4) (ks2 := 24) ⟨rfl, rfl⟩ ?_
    refine zg_last ok dX0_moment_10 hE (fun h2 hE => ?_)
    refine zg_goto (tgt := 26) ok dX0_moment_11 (by decide) ?_
    refine zg_iconst (v := 0) ok dX0_moment_26 (by decide) ?_
    exact zg_iret ok fin dX0_moment_27 ⟨Nat.le_of_ble_eq_true rfl, Nat.le_of_ble_eq_true rfl⟩ hE
  · by_cases c9 : E9 = "java/lang/IllegalStateException"
    · rw [if_pos c9] at hE
      subst c9
      refine zg_catch ok tab ((tableOf [((0 : Nat), (11 : Nat), (14 : Nat), (20 : Nat)), ((0 : Nat), (11 : Nat), (18 : Nat), (13 : Nat)), ((0 : Nat), (11 : Nat), (22 : Nat), (15 : Nat))]).take 0) ((tableOf [((0 : Nat), (11 : Nat), (14 : Nat), (20 : Nat)), ((0 : Nat), (11 : Nat), (18 : Nat), (13 : Nat)), ((0 : Nat), (11 : Nat), (22 : Nat), (15 : Nat))])[0]) ((tableOf [((0 : Nat), (11 : Nat), (14 : Nat), (20 : Nat)), ((0 : Nat), (11 : Nat), (18 : Nat), (13 : Nat)), ((0 : Nat), (11 : Nat), (22 : Nat), (15 : Nat))]).drop 1) rfl (fun z hz => by cases hz) (by decide +kernel) (by decide) q1112 q1126 ?_
      refine zg_astoreR (L' := [(5, va_rf (some q9)), (0, va_rf a0), (1, .int a1), (2, .int a2), (3, .int a3), (4, va_rf a4)]) ok dX0_moment_14 (by decide) 4 rfl rfl rfl ?_
      refine zg_iconst (v := 1) ok dX0_moment_16 (by decide) ?_
      exact zg_iret ok fin dX0_moment_17 ⟨Nat.le_of_ble_eq_true rfl, Nat.le_of_ble_eq_true rfl⟩ hE
    rw [if_neg c9] at hE
    by_cases c9 : E9 = "java/lang/IndexOutOfBoundsException"
    · rw [if_pos c9] at hE
      subst c9
      refine zg_catch ok tab ((tableOf [((0 : Nat), (11 : Nat), (14 : Nat), (20 : Nat)), ((0 : Nat), (11 : Nat), (18 : Nat), (13 : Nat)), ((0 : Nat), (11 : Nat), (22 : Nat), (15 : Nat))]).take 1) ((tableOf [((0 : Nat), (11 : Nat), (14 : Nat), (20 : Nat)), ((0 : Nat), (11 : Nat), (18 : Nat), (13 : Nat)), ((0 : Nat), (11 : Nat), (22 : Nat), (15 : Nat))])[1]) ((tableOf [((0 : Nat), (11 : Nat), (14 : Nat), (20 : Nat)), ((0 : Nat), (11 : Nat), (18 : Nat), (13 : Nat)), ((0 : Nat), (11 : Nat), (22 : Nat), (15 : Nat))]).drop 2) rfl (by
          intro z hz
          cases hz with
          | head => exact Or.inr ⟨by decide, "java/lang/IllegalStateException", q1112, List.mem_of_getElem? (i := 3) rfl⟩
          | tail _ hz =>
            cases hz) (by decide +kernel) (by decide) q274 q368 ?_
      refine zg_astoreR (L' := [(5, va_rf (some q9)), (0, va_rf a0), (1, .int a1), (2, .int a2), (3, .int a3), (4, va_rf a4)]) ok dX0_moment_18 (by decide) 4 rfl rfl rfl ?_
      refine zg_iconst (v := 2) ok dX0_moment_20 (by decide) ?_
      exact zg_iret ok fin dX0_moment_21 ⟨Nat.le_of_ble_eq_true rfl, Nat.le_of_ble_eq_true rfl⟩ hE
    rw [if_neg c9] at hE
    by_cases c9 : E9 = "java/lang/IllegalArgumentException"
    · rw [if_pos c9] at hE
      subst c9
      refine zg_catch ok tab ((tableOf [((0 : Nat), (11 : Nat), (14 : Nat), (20 : Nat)), ((0 : Nat), (11 : Nat), (18 : Nat), (13 : Nat)), ((0 : Nat), (11 : Nat), (22 : Nat), (15 : Nat))]).take 2) ((tableOf [((0 : Nat), (11 : Nat), (14 : Nat), (20 : Nat)), ((0 : Nat), (11 : Nat), (18 : Nat), (13 : Nat)), ((0 : Nat), (11 : Nat), (22 : Nat), (15 : Nat))])[2]) ((tableOf [((0 : Nat), (11 : Nat), (14 : Nat), (20 : Nat)), ((0 : Nat), (11 : Nat), (18 : Nat), (13 : Nat)), ((0 : Nat), (11 : Nat), (22 : Nat), (15 : Nat))]).drop 3) rfl (by
          intro z hz
          cases hz with
          | head => exact Or.inr ⟨by decide, "java/lang/IllegalStateException", q1112, List.mem_of_getElem? (i := 5) rfl⟩
          | tail _ hz =>
            cases hz with
            | head => exact Or.inr ⟨by decide, "java/lang/IndexOutOfBoundsException", q274, List.mem_of_getElem? (i := 6) rfl⟩
            | tail _ hz =>
              cases hz) (by decide +kernel) (by decide) q354 q652 ?_
      refine zg_astoreR (L' := [(5, va_rf (some q9)), (0, va_rf a0), (1, .int a1), (2, .int a2), (3, .int a3), (4, va_rf a4)]) ok dX0_moment_22 (by decide) 4 rfl rfl rfl ?_
      refine zg_iconst (v := 3) ok dX0_moment_24 (by decide) ?_
      exact zg_iret ok fin dX0_moment_25 ⟨Nat.le_of_ble_eq_true rfl, Nat.le_of_ble_eq_true rfl⟩ hE
    rw [if_neg c9] at hE
    exact hE.elim
set_option maxHeartbeats 8000000 in
theorem mt_X0_shifted {l : Launch} (hl : l.stackTraces = false) {Z : zw_Z} {a0 : Option Nat} {a1 : Int32} {a2 : Int32} {a3 : Int32} {a4 : Option Nat} {h : zw_H} {Q : Int32 → zw_H → Prop} {X : String → Nat → zw_H → Prop} (hE : f_X0_shifted Z.2.2.2 a0 a1 a2 a3 a4 h Q X) : zw_Met l Z yX0_shifted (wsW_ yX0_shifted cX0_shifted 6 (Option.some Jvm.ClassFile.FieldType.int) [((0 : Nat), (11 : Nat), (14 : Nat), (20 : Nat)), ((0 : Nat), (11 : Nat), (18 : Nat), (13 : Nat)), ((0 : Nat), (11 : Nat), (22 : Nat), (15 : Nat))]) rm_X0_shifted [zA a0, zI a1, zI a2, zI a3, zA a4] h (zq_I Q) X := by
  refine zg_startW (own := "MultipoleLineLaw") (by decide +kernel) rfl (Nat.le_of_ble_eq_true rfl) hl (fun Xc ok tab fin hRm hXl hXZ => ?_)
  subst hXl
  subst hXZ
  unfold f_X0_shifted at hE
  refine zg_aload ok dX0_shifted_0 4 rfl ?_
  refine zg_iconst (v := 0) ok dX0_shifted_2 (by decide) ?_
  refine zg_aload_n ok dX0_shifted_3 rfl 0 rfl ?_
  refine zg_iload_n ok dX0_shifted_4 rfl 1 rfl ?_
  refine zg_iload_n ok dX0_shifted_5 rfl 2 rfl ?_
  refine zg_iload_n ok dX0_shifted_6 rfl 3 rfl ?_
  refine zg_callV (vs := [zI a1, zI a2, zI a3]) (rest := [.int 0, va_rf a4]) (rm := rm_X1_shifted) ok hRm lk_X0_47 dX0_shifted_7 hE (fun hE => mt_X1_shifted hl hE) rfl (Nat.le_of_ble_eq_true rfl) ⟨⟨Nat.le_of_ble_eq_true rfl, Nat.le_of_ble_eq_true rfl⟩, Nat.le_of_ble_eq_true rfl, Nat.le_of_ble_eq_true rfl⟩ (zg_retJ (fun v1 h1 hE => ?_)) (fun E9 q9 h9 hE => ?_)
  · refine zg_cost (kc2 := 4) (ks2 := 24) ⟨rfl, rfl⟩ ?_
    refine zg_last ok dX0_shifted_10 hE (fun h2 hE => ?_)
    refine zg_goto (tgt := 26) ok dX0_shifted_11 (by decide) ?_
    refine zg_iconst (v := 0) ok dX0_shifted_26 (by decide) ?_
    exact zg_iret ok fin dX0_shifted_27 ⟨Nat.le_of_ble_eq_true rfl, Nat.le_of_ble_eq_true rfl⟩ hE
  · by_cases c9 : E9 = "java/lang/IllegalStateException"
    · rw [if_pos c9] at hE
      subst c9
      refine zg_catch ok tab ((tableOf [((0 : Nat), (11 : Nat), (14 : Nat), (20 : Nat)), ((0 : Nat), (11 : Nat), (18 : Nat), (13 : Nat)), ((0 : Nat), (11 : Nat), (22 : Nat), (15 : Nat))]).take 0) ((tableOf [((0 : Nat), (11 : Nat), (14 : Nat), (20 : Nat)), ((0 : Nat), (11 : Nat), (18 : Nat), (13 : Nat)), ((0 : Nat), (11 : Nat), (22 : Nat), (15 : Nat))])[0]) ((tableOf [((0 : Nat), (11 : Nat), (14 : Nat), (20 : Nat)), ((0 : Nat), (11 : Nat), (18 : Nat), (13 : Nat)), ((0 : Nat), (11 : Nat), (22 : Nat), (15 : Nat))]).drop 1) rfl (fun z hz => by cases hz) (by decide +kernel) (by decide) q1112 q1126 ?_
      refine zg_astoreR (L' := [(5, va_rf (some q9)), (0, va_rf a0), (1, .int a1), (2, .int a2), (3, .int a3), (4, va_rf a4)]) ok dX0_shifted_14 (by decide) 4 rfl rfl rfl ?_
      refine zg_iconst (v := 1) ok dX0_shifted_16 (by decide) ?_
      exact zg_iret ok fin dX0_shifted_17 ⟨Nat.le_of_ble_eq_true rfl, Nat.le_of_ble_eq_true rfl⟩ hE
    rw [if_neg c9] at hE
    by_cases c9 : E9 = "java/lang/IndexOutOfBoundsException"
    · rw [if_pos c9] at hE
      subst c9
      refine zg_catch ok tab ((tableOf [((0 : Nat), (11 : Nat), (14 : Nat), (20 : Nat)), ((0 : Nat), (11 : Nat), (18 : Nat), (13 : Nat)), ((0 : Nat), (11 : Nat), (22 : Nat), (15 : Nat))]).take 1) ((tableOf [((0 : Nat), (11 : Nat), (14 : Nat), (20 : Nat)), ((0 : Nat), (11 : Nat), (18 : Nat), (13 : Nat)), ((0 : Nat), (11 : Nat), (22 : Nat), (15 : Nat))])[1]) ((tableOf [((0 : Nat), (11 : Nat), (14 : Nat), (20 : Nat)), ((0 : Nat), (11 : Nat), (18 : Nat), (13 : Nat)), ((0 : Nat), (11 : Nat), (22 : Nat), (15 : Nat))]).drop 2) rfl (by
          intro z hz
          cases hz with
          | head => exact Or.inr ⟨by decide, "java/lang/IllegalStateException", q1112, List.mem_of_getElem? (i := 3) rfl⟩
          | tail _ hz =>
            cases hz) (by decide +kernel) (by decide) q274 q368 ?_
      refine zg_astoreR (L' := [(5, va_rf (some q9)), (0, va_rf a0), (1, .int a1), (2, .int a2), (3, .int a3), (4, va_rf a4)]) ok dX0_shifted_18 (by decide) 4 rfl rfl rfl ?_
      refine zg_iconst (v := 2) ok dX0_shifted_20 (by decide) ?_
      exact zg_iret ok fin dX0_shifted_21 ⟨Nat.le_of_ble_eq_true rfl, Nat.le_of_ble_eq_true rfl⟩ hE
    rw [if_neg c9] at hE
    by_cases c9 : E9 = "java/lang/IllegalArgumentException"
    · rw [if_pos c9] at hE
      subst c9
      refine zg_catch ok tab ((tableOf [((0 : Nat), (11 : Nat), (14 : Nat), (20 : Nat)), ((0 : Nat), (11 : Nat), (18 : Nat), (13 : Nat)), ((0 : Nat), (11 : Nat), (22 : Nat), (15 : Nat))]).take 2) ((tableOf [((0 : Nat), (11 : Nat), (14 : Nat), (20 : Nat)), ((0 : Nat), (11 : Nat), (18 : Nat), (13 : Nat)), ((0 : Nat), (11 : Nat), (22 : Nat), (15 : Nat))])[2]) ((tableOf [((0 : Nat), (11 : Nat), (14 : Nat), (20 : Nat)), ((0 : Nat), (11 : Nat), (18 : Nat), (13 : Nat)), ((0 : Nat), (11 : Nat), (22 : Nat), (15 : Nat))]).drop 3) rfl (by
          intro z hz
          cases hz with
          | head => exact Or.inr ⟨by decide, "java/lang/IllegalStateException", q1112, List.mem_of_getElem? (i := 5) rfl⟩
          | tail _ hz =>
            cases hz with
            | head => exact Or.inr ⟨by decide, "java/lang/IndexOutOfBoundsException", q274, List.mem_of_getElem? (i := 6) rfl⟩
            | tail _ hz =>
              cases hz) (by decide +kernel) (by decide) q354 q652 ?_
      refine zg_astoreR (L' := [(5, va_rf (some q9)), (0, va_rf a0), (1, .int a1), (2, .int a2), (3, .int a3), (4, va_rf a4)]) ok dX0_shifted_22 (by decide) 4 rfl rfl rfl ?_
      refine zg_iconst (v := 3) ok dX0_shifted_24 (by decide) ?_
      exact zg_iret ok fin dX0_shifted_25 ⟨Nat.le_of_ble_eq_true rfl, Nat.le_of_ble_eq_true rfl⟩ hE
    rw [if_neg c9] at hE
    exact hE.elim
set_option maxHeartbeats 8000000 in
theorem mt_X0_momentGap {l : Launch} (hl : l.stackTraces = false) {Z : zw_Z} {a0 : Option Nat} {a1 : Option Nat} {h : zw_H} {Q : Int32 → zw_H → Prop} {X : String → Nat → zw_H → Prop} (hE : f_X0_momentGap Z.2.2.2 a0 a1 h Q X) : zw_Met l Z yX0_momentGap (wsW_ yX0_momentGap cX0_momentGap 3 (Option.some Jvm.ClassFile.FieldType.int) [((0 : Nat), (7 : Nat), (10 : Nat), (20 : Nat))]) rm_X0_momentGap [zA a0, zA a1] h (zq_I Q) X := by
  refine zg_startW (own := "MultipoleLineLaw") (by decide +kernel) rfl (Nat.le_of_ble_eq_true rfl) hl (fun Xc ok tab fin hRm hXl hXZ => ?_)
  subst hXl
  subst hXZ
  unfold f_X0_momentGap at hE
  refine zg_aload_n ok dX0_momentGap_0 rfl 1 rfl ?_
  refine zg_iconst (v := 0) ok dX0_momentGap_1 (by decide) ?_
  refine zg_aload_n ok dX0_momentGap_2 rfl 0 rfl ?_
  refine zg_callV (vs := []) (rest := [.int 0, va_rf a1]) (rm := rm_X1_momentGap) ok hRm lk_X0_50 dX0_momentGap_3 hE (fun hE => mt_X1_momentGap hl hE) rfl (Nat.le_of_ble_eq_true rfl) ⟨⟨Nat.le_of_ble_eq_true rfl, Nat.le_of_ble_eq_true rfl⟩, Nat.le_of_ble_eq_true rfl, Nat.le_of_ble_eq_true rfl⟩ (zg_retJ (fun v1 h1 hE => ?_)) (fun E9 q9 h9 hE => ?_)
  · refine zg_cost (kc2 := 1) (ks2 := 6) ⟨rfl, rfl⟩ ?_
    refine zg_last ok dX0_momentGap_6 hE (fun h2 hE => ?_)
    refine zg_goto (tgt := 13) ok dX0_momentGap_7 (by decide) ?_
    refine zg_iconst (v := 0) ok dX0_momentGap_13 (by decide) ?_
    exact zg_iret ok fin dX0_momentGap_14 ⟨Nat.le_of_ble_eq_true rfl, Nat.le_of_ble_eq_true rfl⟩ hE
  · by_cases c9 : E9 = "java/lang/IllegalStateException"
    · rw [if_pos c9] at hE
      subst c9
      refine zg_catch ok tab ((tableOf [((0 : Nat), (7 : Nat), (10 : Nat), (20 : Nat))]).take 0) ((tableOf [((0 : Nat), (7 : Nat), (10 : Nat), (20 : Nat))])[0]) ((tableOf [((0 : Nat), (7 : Nat), (10 : Nat), (20 : Nat))]).drop 1) rfl (fun z hz => by cases hz) (by decide +kernel) (by decide) q1112 q1126 ?_
      refine zg_astore_nR (L' := [(2, va_rf (some q9)), (0, va_rf a0), (1, va_rf a1)]) ok dX0_momentGap_10 rfl (by decide) 1 rfl rfl rfl ?_
      refine zg_iconst (v := 1) ok dX0_momentGap_11 (by decide) ?_
      exact zg_iret ok fin dX0_momentGap_12 ⟨Nat.le_of_ble_eq_true rfl, Nat.le_of_ble_eq_true rfl⟩ hE
    rw [if_neg c9] at hE
    exact hE.elim
set_option maxHeartbeats 8000000 in
theorem mt_X0_nearMany {l : Launch} (hl : l.stackTraces = false) {Z : zw_Z} {a0 : Option Nat} {a1 : Int32} {a2 : Option Nat} {h : zw_H} {Q : Int32 → zw_H → Prop} {X : String → Nat → zw_H → Prop} (hE : f_X0_nearMany Z.2.2.2 a0 a1 a2 h Q X) : zw_Met l Z yX0_nearMany (wsW_ yX0_nearMany cX0_nearMany 4 (Option.some Jvm.ClassFile.FieldType.int) [((0 : Nat), (9 : Nat), (12 : Nat), (20 : Nat)), ((0 : Nat), (9 : Nat), (15 : Nat), (15 : Nat))]) rm_X0_nearMany [zA a0, zI a1, zA a2] h (zq_I Q) X := by
  refine zg_startW (own := "MultipoleLineLaw") (by decide +kernel) rfl (Nat.le_of_ble_eq_true rfl) hl (fun Xc ok tab fin hRm hXl hXZ => ?_)
  subst hXl
  subst hXZ
  unfold f_X0_nearMany at hE
  refine zg_aload_n ok dX0_nearMany_0 rfl 2 rfl ?_
  refine zg_iconst (v := 0) ok dX0_nearMany_1 (by decide) ?_
  refine zg_aload_n ok dX0_nearMany_2 rfl 0 rfl ?_
  refine zg_iload_n ok dX0_nearMany_3 rfl 1 rfl ?_
  refine zg_callV (vs := [zI a1]) (rest := [.int 0, va_rf a2]) (rm := rm_X1_nearMany) ok hRm lk_X0_54 dX0_nearMany_4 hE (fun hE => mt_X1_nearMany hl hE) rfl (Nat.le_of_ble_eq_true rfl) ⟨⟨Nat.le_of_ble_eq_true rfl, Nat.le_of_ble_eq_true rfl⟩, Nat.le_of_ble_eq_true rfl, Nat.le_of_ble_eq_true rfl⟩ (zg_retI (fun v1 h1 hE => ?_)) (fun E9 q9 h9 hE => ?_)
  · refine zg_cost (kc2 := 53) (ks2 := 116) ⟨rfl, rfl⟩ ?_
    refine zg_i2l ok dX0_nearMany_7 ?_
    refine zg_last ok dX0_nearMany_8 hE (fun h2 hE => ?_)
    refine zg_goto (tgt := 18) ok dX0_nearMany_9 (by decide) ?_
    refine zg_iconst (v := 0) ok dX0_nearMany_18 (by decide) ?_
    exact zg_iret ok fin dX0_nearMany_19 ⟨Nat.le_of_ble_eq_true rfl, Nat.le_of_ble_eq_true rfl⟩ hE
  · by_cases c9 : E9 = "java/lang/IllegalStateException"
    · rw [if_pos c9] at hE
      subst c9
      refine zg_catch ok tab ((tableOf [((0 : Nat), (9 : Nat), (12 : Nat), (20 : Nat)), ((0 : Nat), (9 : Nat), (15 : Nat), (15 : Nat))]).take 0) ((tableOf [((0 : Nat), (9 : Nat), (12 : Nat), (20 : Nat)), ((0 : Nat), (9 : Nat), (15 : Nat), (15 : Nat))])[0]) ((tableOf [((0 : Nat), (9 : Nat), (12 : Nat), (20 : Nat)), ((0 : Nat), (9 : Nat), (15 : Nat), (15 : Nat))]).drop 1) rfl (fun z hz => by cases hz) (by decide +kernel) (by decide) q1112 q1126 ?_
      refine zg_astore_nR (L' := [(3, va_rf (some q9)), (0, va_rf a0), (1, .int a1), (2, va_rf a2)]) ok dX0_nearMany_12 rfl (by decide) 2 rfl rfl rfl ?_
      refine zg_iconst (v := 1) ok dX0_nearMany_13 (by decide) ?_
      exact zg_iret ok fin dX0_nearMany_14 ⟨Nat.le_of_ble_eq_true rfl, Nat.le_of_ble_eq_true rfl⟩ hE
    rw [if_neg c9] at hE
    by_cases c9 : E9 = "java/lang/IllegalArgumentException"
    · rw [if_pos c9] at hE
      subst c9
      refine zg_catch ok tab ((tableOf [((0 : Nat), (9 : Nat), (12 : Nat), (20 : Nat)), ((0 : Nat), (9 : Nat), (15 : Nat), (15 : Nat))]).take 1) ((tableOf [((0 : Nat), (9 : Nat), (12 : Nat), (20 : Nat)), ((0 : Nat), (9 : Nat), (15 : Nat), (15 : Nat))])[1]) ((tableOf [((0 : Nat), (9 : Nat), (12 : Nat), (20 : Nat)), ((0 : Nat), (9 : Nat), (15 : Nat), (15 : Nat))]).drop 2) rfl (by
          intro z hz
          cases hz with
          | head => exact Or.inr ⟨by decide, "java/lang/IllegalStateException", q1112, List.mem_of_getElem? (i := 5) rfl⟩
          | tail _ hz =>
            cases hz) (by decide +kernel) (by decide) q354 q652 ?_
      refine zg_astore_nR (L' := [(3, va_rf (some q9)), (0, va_rf a0), (1, .int a1), (2, va_rf a2)]) ok dX0_nearMany_15 rfl (by decide) 2 rfl rfl rfl ?_
      refine zg_iconst (v := 2) ok dX0_nearMany_16 (by decide) ?_
      exact zg_iret ok fin dX0_nearMany_17 ⟨Nat.le_of_ble_eq_true rfl, Nat.le_of_ble_eq_true rfl⟩ hE
    rw [if_neg c9] at hE
    exact hE.elim
set_option maxHeartbeats 8000000 in
theorem mt_X0_nearBody {l : Launch} (hl : l.stackTraces = false) {Z : zw_Z} {a0 : Option Nat} {a1 : Int32} {a2 : Int32} {a3 : Option Nat} {h : zw_H} {Q : Int32 → zw_H → Prop} {X : String → Nat → zw_H → Prop} (hE : f_X0_nearBody Z.2.2.2 a0 a1 a2 a3 h Q X) : zw_Met l Z yX0_nearBody (wsW_ yX0_nearBody cX0_nearBody 5 (Option.some Jvm.ClassFile.FieldType.int) [((0 : Nat), (10 : Nat), (13 : Nat), (20 : Nat)), ((0 : Nat), (10 : Nat), (17 : Nat), (15 : Nat))]) rm_X0_nearBody [zA a0, zI a1, zI a2, zA a3] h (zq_I Q) X := by
  refine zg_startW (own := "MultipoleLineLaw") (by decide +kernel) rfl (Nat.le_of_ble_eq_true rfl) hl (fun Xc ok tab fin hRm hXl hXZ => ?_)
  subst hXl
  subst hXZ
  unfold f_X0_nearBody at hE
  refine zg_aload_n ok dX0_nearBody_0 rfl 3 rfl ?_
  refine zg_iconst (v := 0) ok dX0_nearBody_1 (by decide) ?_
  refine zg_aload_n ok dX0_nearBody_2 rfl 0 rfl ?_
  refine zg_iload_n ok dX0_nearBody_3 rfl 1 rfl ?_
  refine zg_iload_n ok dX0_nearBody_4 rfl 2 rfl ?_
  refine zg_callV (vs := [zI a1, zI a2]) (rest := [.int 0, va_rf a3]) (rm := rm_X1_nearBody) ok hRm lk_X0_57 dX0_nearBody_5 hE (fun hE => mt_X1_nearBody hl hE) rfl (Nat.le_of_ble_eq_true rfl) ⟨⟨Nat.le_of_ble_eq_true rfl, Nat.le_of_ble_eq_true rfl⟩, Nat.le_of_ble_eq_true rfl, Nat.le_of_ble_eq_true rfl⟩ (zg_retI (fun v1 h1 hE => ?_)) (fun E9 q9 h9 hE => ?_)
  · refine zg_cost (kc2 := 54) (ks2 := 121) ⟨rfl, rfl⟩ ?_
    refine zg_i2l ok dX0_nearBody_8 ?_
    refine zg_last ok dX0_nearBody_9 hE (fun h2 hE => ?_)
    refine zg_goto (tgt := 21) ok dX0_nearBody_10 (by decide) ?_
    refine zg_iconst (v := 0) ok dX0_nearBody_21 (by decide) ?_
    exact zg_iret ok fin dX0_nearBody_22 ⟨Nat.le_of_ble_eq_true rfl, Nat.le_of_ble_eq_true rfl⟩ hE
  · by_cases c9 : E9 = "java/lang/IllegalStateException"
    · rw [if_pos c9] at hE
      subst c9
      refine zg_catch ok tab ((tableOf [((0 : Nat), (10 : Nat), (13 : Nat), (20 : Nat)), ((0 : Nat), (10 : Nat), (17 : Nat), (15 : Nat))]).take 0) ((tableOf [((0 : Nat), (10 : Nat), (13 : Nat), (20 : Nat)), ((0 : Nat), (10 : Nat), (17 : Nat), (15 : Nat))])[0]) ((tableOf [((0 : Nat), (10 : Nat), (13 : Nat), (20 : Nat)), ((0 : Nat), (10 : Nat), (17 : Nat), (15 : Nat))]).drop 1) rfl (fun z hz => by cases hz) (by decide +kernel) (by decide) q1112 q1126 ?_
      refine zg_astoreR (L' := [(4, va_rf (some q9)), (0, va_rf a0), (1, .int a1), (2, .int a2), (3, va_rf a3)]) ok dX0_nearBody_13 (by decide) 3 rfl rfl rfl ?_
      refine zg_iconst (v := 1) ok dX0_nearBody_15 (by decide) ?_
      exact zg_iret ok fin dX0_nearBody_16 ⟨Nat.le_of_ble_eq_true rfl, Nat.le_of_ble_eq_true rfl⟩ hE
    rw [if_neg c9] at hE
    by_cases c9 : E9 = "java/lang/IllegalArgumentException"
    · rw [if_pos c9] at hE
      subst c9
      refine zg_catch ok tab ((tableOf [((0 : Nat), (10 : Nat), (13 : Nat), (20 : Nat)), ((0 : Nat), (10 : Nat), (17 : Nat), (15 : Nat))]).take 1) ((tableOf [((0 : Nat), (10 : Nat), (13 : Nat), (20 : Nat)), ((0 : Nat), (10 : Nat), (17 : Nat), (15 : Nat))])[1]) ((tableOf [((0 : Nat), (10 : Nat), (13 : Nat), (20 : Nat)), ((0 : Nat), (10 : Nat), (17 : Nat), (15 : Nat))]).drop 2) rfl (by
          intro z hz
          cases hz with
          | head => exact Or.inr ⟨by decide, "java/lang/IllegalStateException", q1112, List.mem_of_getElem? (i := 5) rfl⟩
          | tail _ hz =>
            cases hz) (by decide +kernel) (by decide) q354 q652 ?_
      refine zg_astoreR (L' := [(4, va_rf (some q9)), (0, va_rf a0), (1, .int a1), (2, .int a2), (3, va_rf a3)]) ok dX0_nearBody_17 (by decide) 3 rfl rfl rfl ?_
      refine zg_iconst (v := 2) ok dX0_nearBody_19 (by decide) ?_
      exact zg_iret ok fin dX0_nearBody_20 ⟨Nat.le_of_ble_eq_true rfl, Nat.le_of_ble_eq_true rfl⟩ hE
    rw [if_neg c9] at hE
    exact hE.elim
set_option maxHeartbeats 8000000 in
theorem mt_X0_farMany {l : Launch} (hl : l.stackTraces = false) {Z : zw_Z} {a0 : Option Nat} {a1 : Int32} {a2 : Option Nat} {h : zw_H} {Q : Int32 → zw_H → Prop} {X : String → Nat → zw_H → Prop} (hE : f_X0_farMany Z.2.2.2 a0 a1 a2 h Q X) : zw_Met l Z yX0_farMany (wsW_ yX0_farMany cX0_farMany 4 (Option.some Jvm.ClassFile.FieldType.int) [((0 : Nat), (9 : Nat), (12 : Nat), (20 : Nat)), ((0 : Nat), (9 : Nat), (15 : Nat), (15 : Nat))]) rm_X0_farMany [zA a0, zI a1, zA a2] h (zq_I Q) X := by
  refine zg_startW (own := "MultipoleLineLaw") (by decide +kernel) rfl (Nat.le_of_ble_eq_true rfl) hl (fun Xc ok tab fin hRm hXl hXZ => ?_)
  subst hXl
  subst hXZ
  unfold f_X0_farMany at hE
  refine zg_aload_n ok dX0_farMany_0 rfl 2 rfl ?_
  refine zg_iconst (v := 0) ok dX0_farMany_1 (by decide) ?_
  refine zg_aload_n ok dX0_farMany_2 rfl 0 rfl ?_
  refine zg_iload_n ok dX0_farMany_3 rfl 1 rfl ?_
  refine zg_callV (vs := [zI a1]) (rest := [.int 0, va_rf a2]) (rm := rm_X1_farMany) ok hRm lk_X0_60 dX0_farMany_4 hE (fun hE => mt_X1_farMany hl hE) rfl (Nat.le_of_ble_eq_true rfl) ⟨⟨Nat.le_of_ble_eq_true rfl, Nat.le_of_ble_eq_true rfl⟩, Nat.le_of_ble_eq_true rfl, Nat.le_of_ble_eq_true rfl⟩ (zg_retI (fun v1 h1 hE => ?_)) (fun E9 q9 h9 hE => ?_)
  · refine zg_cost (kc2 := 2) (ks2 := 12) ⟨rfl, rfl⟩ ?_
    refine zg_i2l ok dX0_farMany_7 ?_
    refine zg_last ok dX0_farMany_8 hE (fun h2 hE => ?_)
    refine zg_goto (tgt := 18) ok dX0_farMany_9 (by decide) ?_
    refine zg_iconst (v := 0) ok dX0_farMany_18 (by decide) ?_
    exact zg_iret ok fin dX0_farMany_19 ⟨Nat.le_of_ble_eq_true rfl, Nat.le_of_ble_eq_true rfl⟩ hE
  · by_cases c9 : E9 = "java/lang/IllegalStateException"
    · rw [if_pos c9] at hE
      subst c9
      refine zg_catch ok tab ((tableOf [((0 : Nat), (9 : Nat), (12 : Nat), (20 : Nat)), ((0 : Nat), (9 : Nat), (15 : Nat), (15 : Nat))]).take 0) ((tableOf [((0 : Nat), (9 : Nat), (12 : Nat), (20 : Nat)), ((0 : Nat), (9 : Nat), (15 : Nat), (15 : Nat))])[0]) ((tableOf [((0 : Nat), (9 : Nat), (12 : Nat), (20 : Nat)), ((0 : Nat), (9 : Nat), (15 : Nat), (15 : Nat))]).drop 1) rfl (fun z hz => by cases hz) (by decide +kernel) (by decide) q1112 q1126 ?_
      refine zg_astore_nR (L' := [(3, va_rf (some q9)), (0, va_rf a0), (1, .int a1), (2, va_rf a2)]) ok dX0_farMany_12 rfl (by decide) 2 rfl rfl rfl ?_
      refine zg_iconst (v := 1) ok dX0_farMany_13 (by decide) ?_
      exact zg_iret ok fin dX0_farMany_14 ⟨Nat.le_of_ble_eq_true rfl, Nat.le_of_ble_eq_true rfl⟩ hE
    rw [if_neg c9] at hE
    by_cases c9 : E9 = "java/lang/IllegalArgumentException"
    · rw [if_pos c9] at hE
      subst c9
      refine zg_catch ok tab ((tableOf [((0 : Nat), (9 : Nat), (12 : Nat), (20 : Nat)), ((0 : Nat), (9 : Nat), (15 : Nat), (15 : Nat))]).take 1) ((tableOf [((0 : Nat), (9 : Nat), (12 : Nat), (20 : Nat)), ((0 : Nat), (9 : Nat), (15 : Nat), (15 : Nat))])[1]) ((tableOf [((0 : Nat), (9 : Nat), (12 : Nat), (20 : Nat)), ((0 : Nat), (9 : Nat), (15 : Nat), (15 : Nat))]).drop 2) rfl (by
          intro z hz
          cases hz with
          | head => exact Or.inr ⟨by decide, "java/lang/IllegalStateException", q1112, List.mem_of_getElem? (i := 5) rfl⟩
          | tail _ hz =>
            cases hz) (by decide +kernel) (by decide) q354 q652 ?_
      refine zg_astore_nR (L' := [(3, va_rf (some q9)), (0, va_rf a0), (1, .int a1), (2, va_rf a2)]) ok dX0_farMany_15 rfl (by decide) 2 rfl rfl rfl ?_
      refine zg_iconst (v := 2) ok dX0_farMany_16 (by decide) ?_
      exact zg_iret ok fin dX0_farMany_17 ⟨Nat.le_of_ble_eq_true rfl, Nat.le_of_ble_eq_true rfl⟩ hE
    rw [if_neg c9] at hE
    exact hE.elim
set_option maxHeartbeats 8000000 in
theorem mt_X0_farBox {l : Launch} (hl : l.stackTraces = false) {Z : zw_Z} {a0 : Option Nat} {a1 : Int32} {a2 : Int32} {a3 : Option Nat} {h : zw_H} {Q : Int32 → zw_H → Prop} {X : String → Nat → zw_H → Prop} (hE : f_X0_farBox Z.2.2.2 a0 a1 a2 a3 h Q X) : zw_Met l Z yX0_farBox (wsW_ yX0_farBox cX0_farBox 5 (Option.some Jvm.ClassFile.FieldType.int) [((0 : Nat), (10 : Nat), (13 : Nat), (20 : Nat)), ((0 : Nat), (10 : Nat), (17 : Nat), (15 : Nat))]) rm_X0_farBox [zA a0, zI a1, zI a2, zA a3] h (zq_I Q) X := by
  refine zg_startW (own := "MultipoleLineLaw") (by decide +kernel) rfl (Nat.le_of_ble_eq_true rfl) hl (fun Xc ok tab fin hRm hXl hXZ => ?_)
  subst hXl
  subst hXZ
  unfold f_X0_farBox at hE
  refine zg_aload_n ok dX0_farBox_0 rfl 3 rfl ?_
  refine zg_iconst (v := 0) ok dX0_farBox_1 (by decide) ?_
  refine zg_aload_n ok dX0_farBox_2 rfl 0 rfl ?_
  refine zg_iload_n ok dX0_farBox_3 rfl 1 rfl ?_
  refine zg_iload_n ok dX0_farBox_4 rfl 2 rfl ?_
  refine zg_callV (vs := [zI a1, zI a2]) (rest := [.int 0, va_rf a3]) (rm := rm_X1_farBox) ok hRm lk_X0_63 dX0_farBox_5 hE (fun hE => mt_X1_farBox hl hE) rfl (Nat.le_of_ble_eq_true rfl) ⟨⟨Nat.le_of_ble_eq_true rfl, Nat.le_of_ble_eq_true rfl⟩, Nat.le_of_ble_eq_true rfl, Nat.le_of_ble_eq_true rfl⟩ (zg_retI (fun v1 h1 hE => ?_)) (fun E9 q9 h9 hE => ?_)
  · refine zg_cost (kc2 := 2) (ks2 := 12) ⟨rfl, rfl⟩ ?_
    refine zg_i2l ok dX0_farBox_8 ?_
    refine zg_last ok dX0_farBox_9 hE (fun h2 hE => ?_)
    refine zg_goto (tgt := 21) ok dX0_farBox_10 (by decide) ?_
    refine zg_iconst (v := 0) ok dX0_farBox_21 (by decide) ?_
    exact zg_iret ok fin dX0_farBox_22 ⟨Nat.le_of_ble_eq_true rfl, Nat.le_of_ble_eq_true rfl⟩ hE
  · by_cases c9 : E9 = "java/lang/IllegalStateException"
    · rw [if_pos c9] at hE
      subst c9
      refine zg_catch ok tab ((tableOf [((0 : Nat), (10 : Nat), (13 : Nat), (20 : Nat)), ((0 : Nat), (10 : Nat), (17 : Nat), (15 : Nat))]).take 0) ((tableOf [((0 : Nat), (10 : Nat), (13 : Nat), (20 : Nat)), ((0 : Nat), (10 : Nat), (17 : Nat), (15 : Nat))])[0]) ((tableOf [((0 : Nat), (10 : Nat), (13 : Nat), (20 : Nat)), ((0 : Nat), (10 : Nat), (17 : Nat), (15 : Nat))]).drop 1) rfl (fun z hz => by cases hz) (by decide +kernel) (by decide) q1112 q1126 ?_
      refine zg_astoreR (L' := [(4, va_rf (some q9)), (0, va_rf a0), (1, .int a1), (2, .int a2), (3, va_rf a3)]) ok dX0_farBox_13 (by decide) 3 rfl rfl rfl ?_
      refine zg_iconst (v := 1) ok dX0_farBox_15 (by decide) ?_
      exact zg_iret ok fin dX0_farBox_16 ⟨Nat.le_of_ble_eq_true rfl, Nat.le_of_ble_eq_true rfl⟩ hE
    rw [if_neg c9] at hE
    by_cases c9 : E9 = "java/lang/IllegalArgumentException"
    · rw [if_pos c9] at hE
      subst c9
      refine zg_catch ok tab ((tableOf [((0 : Nat), (10 : Nat), (13 : Nat), (20 : Nat)), ((0 : Nat), (10 : Nat), (17 : Nat), (15 : Nat))]).take 1) ((tableOf [((0 : Nat), (10 : Nat), (13 : Nat), (20 : Nat)), ((0 : Nat), (10 : Nat), (17 : Nat), (15 : Nat))])[1]) ((tableOf [((0 : Nat), (10 : Nat), (13 : Nat), (20 : Nat)), ((0 : Nat), (10 : Nat), (17 : Nat), (15 : Nat))]).drop 2) rfl (by
          intro z hz
          cases hz with
          | head => exact Or.inr ⟨by decide, "java/lang/IllegalStateException", q1112, List.mem_of_getElem? (i := 5) rfl⟩
          | tail _ hz =>
            cases hz) (by decide +kernel) (by decide) q354 q652 ?_
      refine zg_astoreR (L' := [(4, va_rf (some q9)), (0, va_rf a0), (1, .int a1), (2, .int a2), (3, va_rf a3)]) ok dX0_farBox_17 (by decide) 3 rfl rfl rfl ?_
      refine zg_iconst (v := 2) ok dX0_farBox_19 (by decide) ?_
      exact zg_iret ok fin dX0_farBox_20 ⟨Nat.le_of_ble_eq_true rfl, Nat.le_of_ble_eq_true rfl⟩ hE
    rw [if_neg c9] at hE
    exact hE.elim
set_option maxHeartbeats 8000000 in
theorem mt_X0_farBodies {l : Launch} (hl : l.stackTraces = false) {Z : zw_Z} {a0 : Option Nat} {a1 : Int32} {a2 : Option Nat} {h : zw_H} {Q : Int32 → zw_H → Prop} {X : String → Nat → zw_H → Prop} (hE : f_X0_farBodies Z.2.2.2 a0 a1 a2 h Q X) : zw_Met l Z yX0_farBodies (wsW_ yX0_farBodies cX0_farBodies 4 (Option.some Jvm.ClassFile.FieldType.int) [((0 : Nat), (9 : Nat), (12 : Nat), (20 : Nat)), ((0 : Nat), (9 : Nat), (15 : Nat), (15 : Nat))]) rm_X0_farBodies [zA a0, zI a1, zA a2] h (zq_I Q) X := by
  refine zg_startW (own := "MultipoleLineLaw") (by decide +kernel) rfl (Nat.le_of_ble_eq_true rfl) hl (fun Xc ok tab fin hRm hXl hXZ => ?_)
  subst hXl
  subst hXZ
  unfold f_X0_farBodies at hE
  refine zg_aload_n ok dX0_farBodies_0 rfl 2 rfl ?_
  refine zg_iconst (v := 0) ok dX0_farBodies_1 (by decide) ?_
  refine zg_aload_n ok dX0_farBodies_2 rfl 0 rfl ?_
  refine zg_iload_n ok dX0_farBodies_3 rfl 1 rfl ?_
  refine zg_callV (vs := [zI a1]) (rest := [.int 0, va_rf a2]) (rm := rm_X1_farBodies) ok hRm lk_X0_66 dX0_farBodies_4 hE (fun hE => mt_X1_farBodies hl hE) rfl (Nat.le_of_ble_eq_true rfl) ⟨⟨Nat.le_of_ble_eq_true rfl, Nat.le_of_ble_eq_true rfl⟩, Nat.le_of_ble_eq_true rfl, Nat.le_of_ble_eq_true rfl⟩ (zg_retI (fun v1 h1 hE => ?_)) (fun E9 q9 h9 hE => ?_)
  · refine zg_cost (kc2 := 2) (ks2 := 12) ⟨rfl, rfl⟩ ?_
    refine zg_i2l ok dX0_farBodies_7 ?_
    refine zg_last ok dX0_farBodies_8 hE (fun h2 hE => ?_)
    refine zg_goto (tgt := 18) ok dX0_farBodies_9 (by decide) ?_
    refine zg_iconst (v := 0) ok dX0_farBodies_18 (by decide) ?_
    exact zg_iret ok fin dX0_farBodies_19 ⟨Nat.le_of_ble_eq_true rfl, Nat.le_of_ble_eq_true rfl⟩ hE
  · by_cases c9 : E9 = "java/lang/IllegalStateException"
    · rw [if_pos c9] at hE
      subst c9
      refine zg_catch ok tab ((tableOf [((0 : Nat), (9 : Nat), (12 : Nat), (20 : Nat)), ((0 : Nat), (9 : Nat), (15 : Nat), (15 : Nat))]).take 0) ((tableOf [((0 : Nat), (9 : Nat), (12 : Nat), (20 : Nat)), ((0 : Nat), (9 : Nat), (15 : Nat), (15 : Nat))])[0]) ((tableOf [((0 : Nat), (9 : Nat), (12 : Nat), (20 : Nat)), ((0 : Nat), (9 : Nat), (15 : Nat), (15 : Nat))]).drop 1) rfl (fun z hz => by cases hz) (by decide +kernel) (by decide) q1112 q1126 ?_
      refine zg_astore_nR (L' := [(3, va_rf (some q9)), (0, va_rf a0), (1, .int a1), (2, va_rf a2)]) ok dX0_farBodies_12 rfl (by decide) 2 rfl rfl rfl ?_
      refine zg_iconst (v := 1) ok dX0_farBodies_13 (by decide) ?_
      exact zg_iret ok fin dX0_farBodies_14 ⟨Nat.le_of_ble_eq_true rfl, Nat.le_of_ble_eq_true rfl⟩ hE
    rw [if_neg c9] at hE
    by_cases c9 : E9 = "java/lang/IllegalArgumentException"
    · rw [if_pos c9] at hE
      subst c9
      refine zg_catch ok tab ((tableOf [((0 : Nat), (9 : Nat), (12 : Nat), (20 : Nat)), ((0 : Nat), (9 : Nat), (15 : Nat), (15 : Nat))]).take 1) ((tableOf [((0 : Nat), (9 : Nat), (12 : Nat), (20 : Nat)), ((0 : Nat), (9 : Nat), (15 : Nat), (15 : Nat))])[1]) ((tableOf [((0 : Nat), (9 : Nat), (12 : Nat), (20 : Nat)), ((0 : Nat), (9 : Nat), (15 : Nat), (15 : Nat))]).drop 2) rfl (by
          intro z hz
          cases hz with
          | head => exact Or.inr ⟨by decide, "java/lang/IllegalStateException", q1112, List.mem_of_getElem? (i := 5) rfl⟩
          | tail _ hz =>
            cases hz) (by decide +kernel) (by decide) q354 q652 ?_
      refine zg_astore_nR (L' := [(3, va_rf (some q9)), (0, va_rf a0), (1, .int a1), (2, va_rf a2)]) ok dX0_farBodies_15 rfl (by decide) 2 rfl rfl rfl ?_
      refine zg_iconst (v := 2) ok dX0_farBodies_16 (by decide) ?_
      exact zg_iret ok fin dX0_farBodies_17 ⟨Nat.le_of_ble_eq_true rfl, Nat.le_of_ble_eq_true rfl⟩ hE
    rw [if_neg c9] at hE
    exact hE.elim
set_option maxHeartbeats 8000000 in
theorem mt_X0_cost {l : Launch} (hl : l.stackTraces = false) {Z : zw_Z} {a0 : Option Nat} {a1 : Int32} {a2 : Int32} {a3 : Option Nat} {h : zw_H} {Q : Int32 → zw_H → Prop} {X : String → Nat → zw_H → Prop} (hE : f_X0_cost Z.2.2.2 a0 a1 a2 a3 h Q X) : zw_Met l Z yX0_cost (wsW_ yX0_cost cX0_cost 5 (Option.some Jvm.ClassFile.FieldType.int) [((0 : Nat), (10 : Nat), (13 : Nat), (20 : Nat)), ((0 : Nat), (10 : Nat), (17 : Nat), (15 : Nat))]) rm_X0_cost [zA a0, zI a1, zI a2, zA a3] h (zq_I Q) X := by
  refine zg_startW (own := "MultipoleLineLaw") (by decide +kernel) rfl (Nat.le_of_ble_eq_true rfl) hl (fun Xc ok tab fin hRm hXl hXZ => ?_)
  subst hXl
  subst hXZ
  unfold f_X0_cost at hE
  refine zg_aload_n ok dX0_cost_0 rfl 3 rfl ?_
  refine zg_iconst (v := 0) ok dX0_cost_1 (by decide) ?_
  refine zg_aload_n ok dX0_cost_2 rfl 0 rfl ?_
  refine zg_iload_n ok dX0_cost_3 rfl 1 rfl ?_
  refine zg_iload_n ok dX0_cost_4 rfl 2 rfl ?_
  refine zg_callV (vs := [zI a1, zI a2]) (rest := [.int 0, va_rf a3]) (rm := rm_X1_cost) ok hRm lk_X0_69 dX0_cost_5 hE (fun hE => mt_X1_cost hl hE) rfl (Nat.le_of_ble_eq_true rfl) ⟨⟨Nat.le_of_ble_eq_true rfl, Nat.le_of_ble_eq_true rfl⟩, Nat.le_of_ble_eq_true rfl, Nat.le_of_ble_eq_true rfl⟩ (zg_retI (fun v1 h1 hE => ?_)) (fun E9 q9 h9 hE => ?_)
  · refine zg_cost (kc2 := 2) (ks2 := 12) ⟨rfl, rfl⟩ ?_
    refine zg_i2l ok dX0_cost_8 ?_
    refine zg_last ok dX0_cost_9 hE (fun h2 hE => ?_)
    refine zg_goto (tgt := 21) ok dX0_cost_10 (by decide) ?_
    refine zg_iconst (v := 0) ok dX0_cost_21 (by decide) ?_
    exact zg_iret ok fin dX0_cost_22 ⟨Nat.le_of_ble_eq_true rfl, Nat.le_of_ble_eq_true rfl⟩ hE
  · by_cases c9 : E9 = "java/lang/IllegalStateException"
    · rw [if_pos c9] at hE
      subst c9
      refine zg_catch ok tab ((tableOf [((0 : Nat), (10 : Nat), (13 : Nat), (20 : Nat)), ((0 : Nat), (10 : Nat), (17 : Nat), (15 : Nat))]).take 0) ((tableOf [((0 : Nat), (10 : Nat), (13 : Nat), (20 : Nat)), ((0 : Nat), (10 : Nat), (17 : Nat), (15 : Nat))])[0]) ((tableOf [((0 : Nat), (10 : Nat), (13 : Nat), (20 : Nat)), ((0 : Nat), (10 : Nat), (17 : Nat), (15 : Nat))]).drop 1) rfl (fun z hz => by cases hz) (by decide +kernel) (by decide) q1112 q1126 ?_
      refine zg_astoreR (L' := [(4, va_rf (some q9)), (0, va_rf a0), (1, .int a1), (2, .int a2), (3, va_rf a3)]) ok dX0_cost_13 (by decide) 3 rfl rfl rfl ?_
      refine zg_iconst (v := 1) ok dX0_cost_15 (by decide) ?_
      exact zg_iret ok fin dX0_cost_16 ⟨Nat.le_of_ble_eq_true rfl, Nat.le_of_ble_eq_true rfl⟩ hE
    rw [if_neg c9] at hE
    by_cases c9 : E9 = "java/lang/IllegalArgumentException"
    · rw [if_pos c9] at hE
      subst c9
      refine zg_catch ok tab ((tableOf [((0 : Nat), (10 : Nat), (13 : Nat), (20 : Nat)), ((0 : Nat), (10 : Nat), (17 : Nat), (15 : Nat))]).take 1) ((tableOf [((0 : Nat), (10 : Nat), (13 : Nat), (20 : Nat)), ((0 : Nat), (10 : Nat), (17 : Nat), (15 : Nat))])[1]) ((tableOf [((0 : Nat), (10 : Nat), (13 : Nat), (20 : Nat)), ((0 : Nat), (10 : Nat), (17 : Nat), (15 : Nat))]).drop 2) rfl (by
          intro z hz
          cases hz with
          | head => exact Or.inr ⟨by decide, "java/lang/IllegalStateException", q1112, List.mem_of_getElem? (i := 5) rfl⟩
          | tail _ hz =>
            cases hz) (by decide +kernel) (by decide) q354 q652 ?_
      refine zg_astoreR (L' := [(4, va_rf (some q9)), (0, va_rf a0), (1, .int a1), (2, .int a2), (3, va_rf a3)]) ok dX0_cost_17 (by decide) 3 rfl rfl rfl ?_
      refine zg_iconst (v := 2) ok dX0_cost_19 (by decide) ?_
      exact zg_iret ok fin dX0_cost_20 ⟨Nat.le_of_ble_eq_true rfl, Nat.le_of_ble_eq_true rfl⟩ hE
    rw [if_neg c9] at hE
    exact hE.elim
set_option maxHeartbeats 8000000 in
theorem mt_X0_plain {l : Launch} (hl : l.stackTraces = false) {Z : zw_Z} {a0 : Option Nat} {a1 : Int32} {a2 : Option Nat} {h : zw_H} {Q : Int32 → zw_H → Prop} {X : String → Nat → zw_H → Prop} (hE : f_X0_plain Z.2.2.2 a0 a1 a2 h Q X) : zw_Met l Z yX0_plain (wsW_ yX0_plain cX0_plain 4 (Option.some Jvm.ClassFile.FieldType.int) [((0 : Nat), (8 : Nat), (11 : Nat), (20 : Nat)), ((0 : Nat), (8 : Nat), (14 : Nat), (15 : Nat))]) rm_X0_plain [zA a0, zI a1, zA a2] h (zq_I Q) X := by
  refine zg_startW (own := "MultipoleLineLaw") (by decide +kernel) rfl (Nat.le_of_ble_eq_true rfl) hl (fun Xc ok tab fin hRm hXl hXZ => ?_)
  subst hXl
  subst hXZ
  unfold f_X0_plain at hE
  refine zg_aload_n ok dX0_plain_0 rfl 2 rfl ?_
  refine zg_iconst (v := 0) ok dX0_plain_1 (by decide) ?_
  refine zg_aload_n ok dX0_plain_2 rfl 0 rfl ?_
  refine zg_iload_n ok dX0_plain_3 rfl 1 rfl ?_
  refine zg_callV (vs := [zI a1]) (rest := [.int 0, va_rf a2]) (rm := rm_X1_plain) ok hRm lk_X0_73 dX0_plain_4 hE (fun hE => mt_X1_plain hl hE) rfl (Nat.le_of_ble_eq_true rfl) ⟨⟨Nat.le_of_ble_eq_true rfl, Nat.le_of_ble_eq_true rfl⟩, Nat.le_of_ble_eq_true rfl, Nat.le_of_ble_eq_true rfl⟩ (zg_retD (fun v1 h1 hE => ?_)) (fun E9 q9 h9 hE => ?_)
  · refine zg_cost (kc2 := 2) (ks2 := 12) ⟨rfl, rfl⟩ ?_
    refine zg_dast ok dX0_plain_7 hE (fun h2 hE => ?_)
    refine zg_goto (tgt := 17) ok dX0_plain_8 (by decide) ?_
    refine zg_iconst (v := 0) ok dX0_plain_17 (by decide) ?_
    exact zg_iret ok fin dX0_plain_18 ⟨Nat.le_of_ble_eq_true rfl, Nat.le_of_ble_eq_true rfl⟩ hE
  · by_cases c9 : E9 = "java/lang/IllegalStateException"
    · rw [if_pos c9] at hE
      subst c9
      refine zg_catch ok tab ((tableOf [((0 : Nat), (8 : Nat), (11 : Nat), (20 : Nat)), ((0 : Nat), (8 : Nat), (14 : Nat), (15 : Nat))]).take 0) ((tableOf [((0 : Nat), (8 : Nat), (11 : Nat), (20 : Nat)), ((0 : Nat), (8 : Nat), (14 : Nat), (15 : Nat))])[0]) ((tableOf [((0 : Nat), (8 : Nat), (11 : Nat), (20 : Nat)), ((0 : Nat), (8 : Nat), (14 : Nat), (15 : Nat))]).drop 1) rfl (fun z hz => by cases hz) (by decide +kernel) (by decide) q1112 q1126 ?_
      refine zg_astore_nR (L' := [(3, va_rf (some q9)), (0, va_rf a0), (1, .int a1), (2, va_rf a2)]) ok dX0_plain_11 rfl (by decide) 2 rfl rfl rfl ?_
      refine zg_iconst (v := 1) ok dX0_plain_12 (by decide) ?_
      exact zg_iret ok fin dX0_plain_13 ⟨Nat.le_of_ble_eq_true rfl, Nat.le_of_ble_eq_true rfl⟩ hE
    rw [if_neg c9] at hE
    by_cases c9 : E9 = "java/lang/IllegalArgumentException"
    · rw [if_pos c9] at hE
      subst c9
      refine zg_catch ok tab ((tableOf [((0 : Nat), (8 : Nat), (11 : Nat), (20 : Nat)), ((0 : Nat), (8 : Nat), (14 : Nat), (15 : Nat))]).take 1) ((tableOf [((0 : Nat), (8 : Nat), (11 : Nat), (20 : Nat)), ((0 : Nat), (8 : Nat), (14 : Nat), (15 : Nat))])[1]) ((tableOf [((0 : Nat), (8 : Nat), (11 : Nat), (20 : Nat)), ((0 : Nat), (8 : Nat), (14 : Nat), (15 : Nat))]).drop 2) rfl (by
          intro z hz
          cases hz with
          | head => exact Or.inr ⟨by decide, "java/lang/IllegalStateException", q1112, List.mem_of_getElem? (i := 5) rfl⟩
          | tail _ hz =>
            cases hz) (by decide +kernel) (by decide) q354 q652 ?_
      refine zg_astore_nR (L' := [(3, va_rf (some q9)), (0, va_rf a0), (1, .int a1), (2, va_rf a2)]) ok dX0_plain_14 rfl (by decide) 2 rfl rfl rfl ?_
      refine zg_iconst (v := 2) ok dX0_plain_15 (by decide) ?_
      exact zg_iret ok fin dX0_plain_16 ⟨Nat.le_of_ble_eq_true rfl, Nat.le_of_ble_eq_true rfl⟩ hE
    rw [if_neg c9] at hE
    exact hE.elim
set_option maxHeartbeats 8000000 in
theorem mt_X0_nearSum {l : Launch} (hl : l.stackTraces = false) {Z : zw_Z} {a0 : Option Nat} {a1 : Int32} {a2 : Option Nat} {h : zw_H} {Q : Int32 → zw_H → Prop} {X : String → Nat → zw_H → Prop} (hE : f_X0_nearSum Z.2.2.2 a0 a1 a2 h Q X) : zw_Met l Z yX0_nearSum (wsW_ yX0_nearSum cX0_nearSum 4 (Option.some Jvm.ClassFile.FieldType.int) [((0 : Nat), (8 : Nat), (11 : Nat), (20 : Nat)), ((0 : Nat), (8 : Nat), (14 : Nat), (15 : Nat))]) rm_X0_nearSum [zA a0, zI a1, zA a2] h (zq_I Q) X := by
  refine zg_startW (own := "MultipoleLineLaw") (by decide +kernel) rfl (Nat.le_of_ble_eq_true rfl) hl (fun Xc ok tab fin hRm hXl hXZ => ?_)
  subst hXl
  subst hXZ
  unfold f_X0_nearSum at hE
  refine zg_aload_n ok dX0_nearSum_0 rfl 2 rfl ?_
  refine zg_iconst (v := 0) ok dX0_nearSum_1 (by decide) ?_
  refine zg_aload_n ok dX0_nearSum_2 rfl 0 rfl ?_
  refine zg_iload_n ok dX0_nearSum_3 rfl 1 rfl ?_
  refine zg_callV (vs := [zI a1]) (rest := [.int 0, va_rf a2]) (rm := rm_X1_nearSum) ok hRm lk_X0_77 dX0_nearSum_4 hE (fun hE => mt_X1_nearSum hl hE) rfl (Nat.le_of_ble_eq_true rfl) ⟨⟨Nat.le_of_ble_eq_true rfl, Nat.le_of_ble_eq_true rfl⟩, Nat.le_of_ble_eq_true rfl, Nat.le_of_ble_eq_true rfl⟩ (zg_retD (fun v1 h1 hE => ?_)) (fun E9 q9 h9 hE => ?_)
  · refine zg_cost (kc2 := 2) (ks2 := 12) ⟨rfl, rfl⟩ ?_
    refine zg_dast ok dX0_nearSum_7 hE (fun h2 hE => ?_)
    refine zg_goto (tgt := 17) ok dX0_nearSum_8 (by decide) ?_
    refine zg_iconst (v := 0) ok dX0_nearSum_17 (by decide) ?_
    exact zg_iret ok fin dX0_nearSum_18 ⟨Nat.le_of_ble_eq_true rfl, Nat.le_of_ble_eq_true rfl⟩ hE
  · by_cases c9 : E9 = "java/lang/IllegalStateException"
    · rw [if_pos c9] at hE
      subst c9
      refine zg_catch ok tab ((tableOf [((0 : Nat), (8 : Nat), (11 : Nat), (20 : Nat)), ((0 : Nat), (8 : Nat), (14 : Nat), (15 : Nat))]).take 0) ((tableOf [((0 : Nat), (8 : Nat), (11 : Nat), (20 : Nat)), ((0 : Nat), (8 : Nat), (14 : Nat), (15 : Nat))])[0]) ((tableOf [((0 : Nat), (8 : Nat), (11 : Nat), (20 : Nat)), ((0 : Nat), (8 : Nat), (14 : Nat), (15 : Nat))]).drop 1) rfl (fun z hz => by cases hz) (by decide +kernel) (by decide) q1112 q1126 ?_
      refine zg_astore_nR (L' := [(3, va_rf (some q9)), (0, va_rf a0), (1, .int a1), (2, va_rf a2)]) ok dX0_nearSum_11 rfl (by decide) 2 rfl rfl rfl ?_
      refine zg_iconst (v := 1) ok dX0_nearSum_12 (by decide) ?_
      exact zg_iret ok fin dX0_nearSum_13 ⟨Nat.le_of_ble_eq_true rfl, Nat.le_of_ble_eq_true rfl⟩ hE
    rw [if_neg c9] at hE
    by_cases c9 : E9 = "java/lang/IllegalArgumentException"
    · rw [if_pos c9] at hE
      subst c9
      refine zg_catch ok tab ((tableOf [((0 : Nat), (8 : Nat), (11 : Nat), (20 : Nat)), ((0 : Nat), (8 : Nat), (14 : Nat), (15 : Nat))]).take 1) ((tableOf [((0 : Nat), (8 : Nat), (11 : Nat), (20 : Nat)), ((0 : Nat), (8 : Nat), (14 : Nat), (15 : Nat))])[1]) ((tableOf [((0 : Nat), (8 : Nat), (11 : Nat), (20 : Nat)), ((0 : Nat), (8 : Nat), (14 : Nat), (15 : Nat))]).drop 2) rfl (by
          intro z hz
          cases hz with
          | head => exact Or.inr ⟨by decide, "java/lang/IllegalStateException", q1112, List.mem_of_getElem? (i := 5) rfl⟩
          | tail _ hz =>
            cases hz) (by decide +kernel) (by decide) q354 q652 ?_
      refine zg_astore_nR (L' := [(3, va_rf (some q9)), (0, va_rf a0), (1, .int a1), (2, va_rf a2)]) ok dX0_nearSum_14 rfl (by decide) 2 rfl rfl rfl ?_
      refine zg_iconst (v := 2) ok dX0_nearSum_15 (by decide) ?_
      exact zg_iret ok fin dX0_nearSum_16 ⟨Nat.le_of_ble_eq_true rfl, Nat.le_of_ble_eq_true rfl⟩ hE
    rw [if_neg c9] at hE
    exact hE.elim
set_option maxHeartbeats 8000000 in
theorem mt_X0_farSum {l : Launch} (hl : l.stackTraces = false) {Z : zw_Z} {a0 : Option Nat} {a1 : Int32} {a2 : Option Nat} {h : zw_H} {Q : Int32 → zw_H → Prop} {X : String → Nat → zw_H → Prop} (hE : f_X0_farSum Z.2.2.2 a0 a1 a2 h Q X) : zw_Met l Z yX0_farSum (wsW_ yX0_farSum cX0_farSum 4 (Option.some Jvm.ClassFile.FieldType.int) [((0 : Nat), (8 : Nat), (11 : Nat), (20 : Nat)), ((0 : Nat), (8 : Nat), (14 : Nat), (15 : Nat))]) rm_X0_farSum [zA a0, zI a1, zA a2] h (zq_I Q) X := by
  refine zg_startW (own := "MultipoleLineLaw") (by decide +kernel) rfl (Nat.le_of_ble_eq_true rfl) hl (fun Xc ok tab fin hRm hXl hXZ => ?_)
  subst hXl
  subst hXZ
  unfold f_X0_farSum at hE
  refine zg_aload_n ok dX0_farSum_0 rfl 2 rfl ?_
  refine zg_iconst (v := 0) ok dX0_farSum_1 (by decide) ?_
  refine zg_aload_n ok dX0_farSum_2 rfl 0 rfl ?_
  refine zg_iload_n ok dX0_farSum_3 rfl 1 rfl ?_
  refine zg_callV (vs := [zI a1]) (rest := [.int 0, va_rf a2]) (rm := rm_X1_farSum) ok hRm lk_X0_80 dX0_farSum_4 hE (fun hE => mt_X1_farSum hl hE) rfl (Nat.le_of_ble_eq_true rfl) ⟨⟨Nat.le_of_ble_eq_true rfl, Nat.le_of_ble_eq_true rfl⟩, Nat.le_of_ble_eq_true rfl, Nat.le_of_ble_eq_true rfl⟩ (zg_retD (fun v1 h1 hE => ?_)) (fun E9 q9 h9 hE => ?_)
  · refine zg_cost (kc2 := 2) (ks2 := 12) ⟨rfl, rfl⟩ ?_
    refine zg_dast ok dX0_farSum_7 hE (fun h2 hE => ?_)
    refine zg_goto (tgt := 17) ok dX0_farSum_8 (by decide) ?_
    refine zg_iconst (v := 0) ok dX0_farSum_17 (by decide) ?_
    exact zg_iret ok fin dX0_farSum_18 ⟨Nat.le_of_ble_eq_true rfl, Nat.le_of_ble_eq_true rfl⟩ hE
  · by_cases c9 : E9 = "java/lang/IllegalStateException"
    · rw [if_pos c9] at hE
      subst c9
      refine zg_catch ok tab ((tableOf [((0 : Nat), (8 : Nat), (11 : Nat), (20 : Nat)), ((0 : Nat), (8 : Nat), (14 : Nat), (15 : Nat))]).take 0) ((tableOf [((0 : Nat), (8 : Nat), (11 : Nat), (20 : Nat)), ((0 : Nat), (8 : Nat), (14 : Nat), (15 : Nat))])[0]) ((tableOf [((0 : Nat), (8 : Nat), (11 : Nat), (20 : Nat)), ((0 : Nat), (8 : Nat), (14 : Nat), (15 : Nat))]).drop 1) rfl (fun z hz => by cases hz) (by decide +kernel) (by decide) q1112 q1126 ?_
      refine zg_astore_nR (L' := [(3, va_rf (some q9)), (0, va_rf a0), (1, .int a1), (2, va_rf a2)]) ok dX0_farSum_11 rfl (by decide) 2 rfl rfl rfl ?_
      refine zg_iconst (v := 1) ok dX0_farSum_12 (by decide) ?_
      exact zg_iret ok fin dX0_farSum_13 ⟨Nat.le_of_ble_eq_true rfl, Nat.le_of_ble_eq_true rfl⟩ hE
    rw [if_neg c9] at hE
    by_cases c9 : E9 = "java/lang/IllegalArgumentException"
    · rw [if_pos c9] at hE
      subst c9
      refine zg_catch ok tab ((tableOf [((0 : Nat), (8 : Nat), (11 : Nat), (20 : Nat)), ((0 : Nat), (8 : Nat), (14 : Nat), (15 : Nat))]).take 1) ((tableOf [((0 : Nat), (8 : Nat), (11 : Nat), (20 : Nat)), ((0 : Nat), (8 : Nat), (14 : Nat), (15 : Nat))])[1]) ((tableOf [((0 : Nat), (8 : Nat), (11 : Nat), (20 : Nat)), ((0 : Nat), (8 : Nat), (14 : Nat), (15 : Nat))]).drop 2) rfl (by
          intro z hz
          cases hz with
          | head => exact Or.inr ⟨by decide, "java/lang/IllegalStateException", q1112, List.mem_of_getElem? (i := 5) rfl⟩
          | tail _ hz =>
            cases hz) (by decide +kernel) (by decide) q354 q652 ?_
      refine zg_astore_nR (L' := [(3, va_rf (some q9)), (0, va_rf a0), (1, .int a1), (2, va_rf a2)]) ok dX0_farSum_14 rfl (by decide) 2 rfl rfl rfl ?_
      refine zg_iconst (v := 2) ok dX0_farSum_15 (by decide) ?_
      exact zg_iret ok fin dX0_farSum_16 ⟨Nat.le_of_ble_eq_true rfl, Nat.le_of_ble_eq_true rfl⟩ hE
    rw [if_neg c9] at hE
    exact hE.elim
set_option maxHeartbeats 8000000 in
theorem mt_X0_farBits {l : Launch} (hl : l.stackTraces = false) {Z : zw_Z} {a0 : Option Nat} {a1 : Int32} {a2 : Option Nat} {h : zw_H} {Q : Int32 → zw_H → Prop} {X : String → Nat → zw_H → Prop} (hE : f_X0_farBits Z.2.2.2 a0 a1 a2 h Q X) : zw_Met l Z yX0_farBits (wsW_ yX0_farBits cX0_farBits 4 (Option.some Jvm.ClassFile.FieldType.int) [((0 : Nat), (8 : Nat), (11 : Nat), (20 : Nat)), ((0 : Nat), (8 : Nat), (14 : Nat), (15 : Nat))]) rm_X0_farBits [zA a0, zI a1, zA a2] h (zq_I Q) X := by
  refine zg_startW (own := "MultipoleLineLaw") (by decide +kernel) rfl (Nat.le_of_ble_eq_true rfl) hl (fun Xc ok tab fin hRm hXl hXZ => ?_)
  subst hXl
  subst hXZ
  unfold f_X0_farBits at hE
  refine zg_aload_n ok dX0_farBits_0 rfl 2 rfl ?_
  refine zg_iconst (v := 0) ok dX0_farBits_1 (by decide) ?_
  refine zg_aload_n ok dX0_farBits_2 rfl 0 rfl ?_
  refine zg_iload_n ok dX0_farBits_3 rfl 1 rfl ?_
  refine zg_callV (vs := [zI a1]) (rest := [.int 0, va_rf a2]) (rm := rm_X1_farBits) ok hRm lk_X0_83 dX0_farBits_4 hE (fun hE => mt_X1_farBits hl hE) rfl (Nat.le_of_ble_eq_true rfl) ⟨⟨Nat.le_of_ble_eq_true rfl, Nat.le_of_ble_eq_true rfl⟩, Nat.le_of_ble_eq_true rfl, Nat.le_of_ble_eq_true rfl⟩ (zg_retJ (fun v1 h1 hE => ?_)) (fun E9 q9 h9 hE => ?_)
  · refine zg_cost (kc2 := 2) (ks2 := 12) ⟨rfl, rfl⟩ ?_
    refine zg_last ok dX0_farBits_7 hE (fun h2 hE => ?_)
    refine zg_goto (tgt := 17) ok dX0_farBits_8 (by decide) ?_
    refine zg_iconst (v := 0) ok dX0_farBits_17 (by decide) ?_
    exact zg_iret ok fin dX0_farBits_18 ⟨Nat.le_of_ble_eq_true rfl, Nat.le_of_ble_eq_true rfl⟩ hE
  · by_cases c9 : E9 = "java/lang/IllegalStateException"
    · rw [if_pos c9] at hE
      subst c9
      refine zg_catch ok tab ((tableOf [((0 : Nat), (8 : Nat), (11 : Nat), (20 : Nat)), ((0 : Nat), (8 : Nat), (14 : Nat), (15 : Nat))]).take 0) ((tableOf [((0 : Nat), (8 : Nat), (11 : Nat), (20 : Nat)), ((0 : Nat), (8 : Nat), (14 : Nat), (15 : Nat))])[0]) ((tableOf [((0 : Nat), (8 : Nat), (11 : Nat), (20 : Nat)), ((0 : Nat), (8 : Nat), (14 : Nat), (15 : Nat))]).drop 1) rfl (fun z hz => by cases hz) (by decide +kernel) (by decide) q1112 q1126 ?_
      refine zg_astore_nR (L' := [(3, va_rf (some q9)), (0, va_rf a0), (1, .int a1), (2, va_rf a2)]) ok dX0_farBits_11 rfl (by decide) 2 rfl rfl rfl ?_
      refine zg_iconst (v := 1) ok dX0_farBits_12 (by decide) ?_
      exact zg_iret ok fin dX0_farBits_13 ⟨Nat.le_of_ble_eq_true rfl, Nat.le_of_ble_eq_true rfl⟩ hE
    rw [if_neg c9] at hE
    by_cases c9 : E9 = "java/lang/IllegalArgumentException"
    · rw [if_pos c9] at hE
      subst c9
      refine zg_catch ok tab ((tableOf [((0 : Nat), (8 : Nat), (11 : Nat), (20 : Nat)), ((0 : Nat), (8 : Nat), (14 : Nat), (15 : Nat))]).take 1) ((tableOf [((0 : Nat), (8 : Nat), (11 : Nat), (20 : Nat)), ((0 : Nat), (8 : Nat), (14 : Nat), (15 : Nat))])[1]) ((tableOf [((0 : Nat), (8 : Nat), (11 : Nat), (20 : Nat)), ((0 : Nat), (8 : Nat), (14 : Nat), (15 : Nat))]).drop 2) rfl (by
          intro z hz
          cases hz with
          | head => exact Or.inr ⟨by decide, "java/lang/IllegalStateException", q1112, List.mem_of_getElem? (i := 5) rfl⟩
          | tail _ hz =>
            cases hz) (by decide +kernel) (by decide) q354 q652 ?_
      refine zg_astore_nR (L' := [(3, va_rf (some q9)), (0, va_rf a0), (1, .int a1), (2, va_rf a2)]) ok dX0_farBits_14 rfl (by decide) 2 rfl rfl rfl ?_
      refine zg_iconst (v := 2) ok dX0_farBits_15 (by decide) ?_
      exact zg_iret ok fin dX0_farBits_16 ⟨Nat.le_of_ble_eq_true rfl, Nat.le_of_ble_eq_true rfl⟩ hE
    rw [if_neg c9] at hE
    exact hE.elim
set_option maxHeartbeats 8000000 in
theorem mt_X0_value {l : Launch} (hl : l.stackTraces = false) {Z : zw_Z} {a0 : Option Nat} {a1 : Int32} {a2 : Int32} {a3 : Int32} {a4 : Option Nat} {h : zw_H} {Q : Int32 → zw_H → Prop} {X : String → Nat → zw_H → Prop} (hE : f_X0_value Z.2.2.2 a0 a1 a2 a3 a4 h Q X) : zw_Met l Z yX0_value (wsW_ yX0_value cX0_value 6 (Option.some Jvm.ClassFile.FieldType.int) [((0 : Nat), (11 : Nat), (14 : Nat), (20 : Nat)), ((0 : Nat), (11 : Nat), (18 : Nat), (13 : Nat)), ((0 : Nat), (11 : Nat), (22 : Nat), (15 : Nat))]) rm_X0_value [zA a0, zI a1, zI a2, zI a3, zA a4] h (zq_I Q) X := by
  refine zg_startW (own := "MultipoleLineLaw") (by decide +kernel) rfl (Nat.le_of_ble_eq_true rfl) hl (fun Xc ok tab fin hRm hXl hXZ => ?_)
  subst hXl
  subst hXZ
  unfold f_X0_value at hE
  refine zg_aload ok dX0_value_0 4 rfl ?_
  refine zg_iconst (v := 0) ok dX0_value_2 (by decide) ?_
  refine zg_aload_n ok dX0_value_3 rfl 0 rfl ?_
  refine zg_iload_n ok dX0_value_4 rfl 1 rfl ?_
  refine zg_iload_n ok dX0_value_5 rfl 2 rfl ?_
  refine zg_iload_n ok dX0_value_6 rfl 3 rfl ?_
  refine zg_callV (vs := [zI a1, zI a2, zI a3]) (rest := [.int 0, va_rf a4]) (rm := rm_X1_value) ok hRm lk_X0_87 dX0_value_7 hE (fun hE => mt_X1_value hl hE) rfl (Nat.le_of_ble_eq_true rfl) ⟨⟨Nat.le_of_ble_eq_true rfl, Nat.le_of_ble_eq_true rfl⟩, Nat.le_of_ble_eq_true rfl, Nat.le_of_ble_eq_true rfl⟩ (zg_retD (fun v1 h1 hE => ?_)) (fun E9 q9 h9 hE => ?_)
  · refine zg_cost (kc2 := 4) (ks2 := 24) ⟨rfl, rfl⟩ ?_
    refine zg_dast ok dX0_value_10 hE (fun h2 hE => ?_)
    refine zg_goto (tgt := 26) ok dX0_value_11 (by decide) ?_
    refine zg_iconst (v := 0) ok dX0_value_26 (by decide) ?_
    exact zg_iret ok fin dX0_value_27 ⟨Nat.le_of_ble_eq_true rfl, Nat.le_of_ble_eq_true rfl⟩ hE
  · by_cases c9 : E9 = "java/lang/IllegalStateException"
    · rw [if_pos c9] at hE
      subst c9
      refine zg_catch ok tab ((tableOf [((0 : Nat), (11 : Nat), (14 : Nat), (20 : Nat)), ((0 : Nat), (11 : Nat), (18 : Nat), (13 : Nat)), ((0 : Nat), (11 : Nat), (22 : Nat), (15 : Nat))]).take 0) ((tableOf [((0 : Nat), (11 : Nat), (14 : Nat), (20 : Nat)), ((0 : Nat), (11 : Nat), (18 : Nat), (13 : Nat)), ((0 : Nat), (11 : Nat), (22 : Nat), (15 : Nat))])[0]) ((tableOf [((0 : Nat), (11 : Nat), (14 : Nat), (20 : Nat)), ((0 : Nat), (11 : Nat), (18 : Nat), (13 : Nat)), ((0 : Nat), (11 : Nat), (22 : Nat), (15 : Nat))]).drop 1) rfl (fun z hz => by cases hz) (by decide +kernel) (by decide) q1112 q1126 ?_
      refine zg_astoreR (L' := [(5, va_rf (some q9)), (0, va_rf a0), (1, .int a1), (2, .int a2), (3, .int a3), (4, va_rf a4)]) ok dX0_value_14 (by decide) 4 rfl rfl rfl ?_
      refine zg_iconst (v := 1) ok dX0_value_16 (by decide) ?_
      exact zg_iret ok fin dX0_value_17 ⟨Nat.le_of_ble_eq_true rfl, Nat.le_of_ble_eq_true rfl⟩ hE
    rw [if_neg c9] at hE
    by_cases c9 : E9 = "java/lang/IndexOutOfBoundsException"
    · rw [if_pos c9] at hE
      subst c9
      refine zg_catch ok tab ((tableOf [((0 : Nat), (11 : Nat), (14 : Nat), (20 : Nat)), ((0 : Nat), (11 : Nat), (18 : Nat), (13 : Nat)), ((0 : Nat), (11 : Nat), (22 : Nat), (15 : Nat))]).take 1) ((tableOf [((0 : Nat), (11 : Nat), (14 : Nat), (20 : Nat)), ((0 : Nat), (11 : Nat), (18 : Nat), (13 : Nat)), ((0 : Nat), (11 : Nat), (22 : Nat), (15 : Nat))])[1]) ((tableOf [((0 : Nat), (11 : Nat), (14 : Nat), (20 : Nat)), ((0 : Nat), (11 : Nat), (18 : Nat), (13 : Nat)), ((0 : Nat), (11 : Nat), (22 : Nat), (15 : Nat))]).drop 2) rfl (by
          intro z hz
          cases hz with
          | head => exact Or.inr ⟨by decide, "java/lang/IllegalStateException", q1112, List.mem_of_getElem? (i := 3) rfl⟩
          | tail _ hz =>
            cases hz) (by decide +kernel) (by decide) q274 q368 ?_
      refine zg_astoreR (L' := [(5, va_rf (some q9)), (0, va_rf a0), (1, .int a1), (2, .int a2), (3, .int a3), (4, va_rf a4)]) ok dX0_value_18 (by decide) 4 rfl rfl rfl ?_
      refine zg_iconst (v := 2) ok dX0_value_20 (by decide) ?_
      exact zg_iret ok fin dX0_value_21 ⟨Nat.le_of_ble_eq_true rfl, Nat.le_of_ble_eq_true rfl⟩ hE
    rw [if_neg c9] at hE
    by_cases c9 : E9 = "java/lang/IllegalArgumentException"
    · rw [if_pos c9] at hE
      subst c9
      refine zg_catch ok tab ((tableOf [((0 : Nat), (11 : Nat), (14 : Nat), (20 : Nat)), ((0 : Nat), (11 : Nat), (18 : Nat), (13 : Nat)), ((0 : Nat), (11 : Nat), (22 : Nat), (15 : Nat))]).take 2) ((tableOf [((0 : Nat), (11 : Nat), (14 : Nat), (20 : Nat)), ((0 : Nat), (11 : Nat), (18 : Nat), (13 : Nat)), ((0 : Nat), (11 : Nat), (22 : Nat), (15 : Nat))])[2]) ((tableOf [((0 : Nat), (11 : Nat), (14 : Nat), (20 : Nat)), ((0 : Nat), (11 : Nat), (18 : Nat), (13 : Nat)), ((0 : Nat), (11 : Nat), (22 : Nat), (15 : Nat))]).drop 3) rfl (by
          intro z hz
          cases hz with
          | head => exact Or.inr ⟨by decide, "java/lang/IllegalStateException", q1112, List.mem_of_getElem? (i := 5) rfl⟩
          | tail _ hz =>
            cases hz with
            | head => exact Or.inr ⟨by decide, "java/lang/IndexOutOfBoundsException", q274, List.mem_of_getElem? (i := 6) rfl⟩
            | tail _ hz =>
              cases hz) (by decide +kernel) (by decide) q354 q652 ?_
      refine zg_astoreR (L' := [(5, va_rf (some q9)), (0, va_rf a0), (1, .int a1), (2, .int a2), (3, .int a3), (4, va_rf a4)]) ok dX0_value_22 (by decide) 4 rfl rfl rfl ?_
      refine zg_iconst (v := 3) ok dX0_value_24 (by decide) ?_
      exact zg_iret ok fin dX0_value_25 ⟨Nat.le_of_ble_eq_true rfl, Nat.le_of_ble_eq_true rfl⟩ hE
    rw [if_neg c9] at hE
    exact hE.elim
set_option maxHeartbeats 8000000 in
theorem mt_X0_bound {l : Launch} (hl : l.stackTraces = false) {Z : zw_Z} {a0 : Option Nat} {a1 : Int32} {a2 : Option Nat} {h : zw_H} {Q : Int32 → zw_H → Prop} {X : String → Nat → zw_H → Prop} (hE : f_X0_bound Z.2.2.2 a0 a1 a2 h Q X) : zw_Met l Z yX0_bound (wsW_ yX0_bound cX0_bound 4 (Option.some Jvm.ClassFile.FieldType.int) [((0 : Nat), (8 : Nat), (11 : Nat), (20 : Nat)), ((0 : Nat), (8 : Nat), (14 : Nat), (15 : Nat))]) rm_X0_bound [zA a0, zI a1, zA a2] h (zq_I Q) X := by
  refine zg_startW (own := "MultipoleLineLaw") (by decide +kernel) rfl (Nat.le_of_ble_eq_true rfl) hl (fun Xc ok tab fin hRm hXl hXZ => ?_)
  subst hXl
  subst hXZ
  unfold f_X0_bound at hE
  refine zg_aload_n ok dX0_bound_0 rfl 2 rfl ?_
  refine zg_iconst (v := 0) ok dX0_bound_1 (by decide) ?_
  refine zg_aload_n ok dX0_bound_2 rfl 0 rfl ?_
  refine zg_iload_n ok dX0_bound_3 rfl 1 rfl ?_
  refine zg_callV (vs := [zI a1]) (rest := [.int 0, va_rf a2]) (rm := rm_X1_bound) ok hRm lk_X0_91 dX0_bound_4 hE (fun hE => mt_X1_bound hl hE) rfl (Nat.le_of_ble_eq_true rfl) ⟨⟨Nat.le_of_ble_eq_true rfl, Nat.le_of_ble_eq_true rfl⟩, Nat.le_of_ble_eq_true rfl, Nat.le_of_ble_eq_true rfl⟩ (zg_retD (fun v1 h1 hE => ?_)) (fun E9 q9 h9 hE => ?_)
  · refine zg_cost (kc2 := 2) (ks2 := 12) ⟨rfl, rfl⟩ ?_
    refine zg_dast ok dX0_bound_7 hE (fun h2 hE => ?_)
    refine zg_goto (tgt := 17) ok dX0_bound_8 (by decide) ?_
    refine zg_iconst (v := 0) ok dX0_bound_17 (by decide) ?_
    exact zg_iret ok fin dX0_bound_18 ⟨Nat.le_of_ble_eq_true rfl, Nat.le_of_ble_eq_true rfl⟩ hE
  · by_cases c9 : E9 = "java/lang/IllegalStateException"
    · rw [if_pos c9] at hE
      subst c9
      refine zg_catch ok tab ((tableOf [((0 : Nat), (8 : Nat), (11 : Nat), (20 : Nat)), ((0 : Nat), (8 : Nat), (14 : Nat), (15 : Nat))]).take 0) ((tableOf [((0 : Nat), (8 : Nat), (11 : Nat), (20 : Nat)), ((0 : Nat), (8 : Nat), (14 : Nat), (15 : Nat))])[0]) ((tableOf [((0 : Nat), (8 : Nat), (11 : Nat), (20 : Nat)), ((0 : Nat), (8 : Nat), (14 : Nat), (15 : Nat))]).drop 1) rfl (fun z hz => by cases hz) (by decide +kernel) (by decide) q1112 q1126 ?_
      refine zg_astore_nR (L' := [(3, va_rf (some q9)), (0, va_rf a0), (1, .int a1), (2, va_rf a2)]) ok dX0_bound_11 rfl (by decide) 2 rfl rfl rfl ?_
      refine zg_iconst (v := 1) ok dX0_bound_12 (by decide) ?_
      exact zg_iret ok fin dX0_bound_13 ⟨Nat.le_of_ble_eq_true rfl, Nat.le_of_ble_eq_true rfl⟩ hE
    rw [if_neg c9] at hE
    by_cases c9 : E9 = "java/lang/IllegalArgumentException"
    · rw [if_pos c9] at hE
      subst c9
      refine zg_catch ok tab ((tableOf [((0 : Nat), (8 : Nat), (11 : Nat), (20 : Nat)), ((0 : Nat), (8 : Nat), (14 : Nat), (15 : Nat))]).take 1) ((tableOf [((0 : Nat), (8 : Nat), (11 : Nat), (20 : Nat)), ((0 : Nat), (8 : Nat), (14 : Nat), (15 : Nat))])[1]) ((tableOf [((0 : Nat), (8 : Nat), (11 : Nat), (20 : Nat)), ((0 : Nat), (8 : Nat), (14 : Nat), (15 : Nat))]).drop 2) rfl (by
          intro z hz
          cases hz with
          | head => exact Or.inr ⟨by decide, "java/lang/IllegalStateException", q1112, List.mem_of_getElem? (i := 5) rfl⟩
          | tail _ hz =>
            cases hz) (by decide +kernel) (by decide) q354 q652 ?_
      refine zg_astore_nR (L' := [(3, va_rf (some q9)), (0, va_rf a0), (1, .int a1), (2, va_rf a2)]) ok dX0_bound_14 rfl (by decide) 2 rfl rfl rfl ?_
      refine zg_iconst (v := 2) ok dX0_bound_15 (by decide) ?_
      exact zg_iret ok fin dX0_bound_16 ⟨Nat.le_of_ble_eq_true rfl, Nat.le_of_ble_eq_true rfl⟩ hE
    rw [if_neg c9] at hE
    exact hE.elim
set_option maxHeartbeats 8000000 in
theorem mt_X0_gapAt {l : Launch} (hl : l.stackTraces = false) {Z : zw_Z} {a0 : Option Nat} {a1 : Int32} {a2 : Option Nat} {h : zw_H} {Q : Int32 → zw_H → Prop} {X : String → Nat → zw_H → Prop} (hE : f_X0_gapAt Z.2.2.2 a0 a1 a2 h Q X) : zw_Met l Z yX0_gapAt (wsW_ yX0_gapAt cX0_gapAt 4 (Option.some Jvm.ClassFile.FieldType.int) [((0 : Nat), (8 : Nat), (11 : Nat), (20 : Nat)), ((0 : Nat), (8 : Nat), (14 : Nat), (15 : Nat))]) rm_X0_gapAt [zA a0, zI a1, zA a2] h (zq_I Q) X := by
  refine zg_startW (own := "MultipoleLineLaw") (by decide +kernel) rfl (Nat.le_of_ble_eq_true rfl) hl (fun Xc ok tab fin hRm hXl hXZ => ?_)
  subst hXl
  subst hXZ
  unfold f_X0_gapAt at hE
  refine zg_aload_n ok dX0_gapAt_0 rfl 2 rfl ?_
  refine zg_iconst (v := 0) ok dX0_gapAt_1 (by decide) ?_
  refine zg_aload_n ok dX0_gapAt_2 rfl 0 rfl ?_
  refine zg_iload_n ok dX0_gapAt_3 rfl 1 rfl ?_
  refine zg_callV (vs := [zI a1]) (rest := [.int 0, va_rf a2]) (rm := rm_X1_gapAt) ok hRm lk_X0_94 dX0_gapAt_4 hE (fun hE => mt_X1_gapAt hl hE) rfl (Nat.le_of_ble_eq_true rfl) ⟨⟨Nat.le_of_ble_eq_true rfl, Nat.le_of_ble_eq_true rfl⟩, Nat.le_of_ble_eq_true rfl, Nat.le_of_ble_eq_true rfl⟩ (zg_retD (fun v1 h1 hE => ?_)) (fun E9 q9 h9 hE => ?_)
  · refine zg_cost (kc2 := 2) (ks2 := 12) ⟨rfl, rfl⟩ ?_
    refine zg_dast ok dX0_gapAt_7 hE (fun h2 hE => ?_)
    refine zg_goto (tgt := 17) ok dX0_gapAt_8 (by decide) ?_
    refine zg_iconst (v := 0) ok dX0_gapAt_17 (by decide) ?_
    exact zg_iret ok fin dX0_gapAt_18 ⟨Nat.le_of_ble_eq_true rfl, Nat.le_of_ble_eq_true rfl⟩ hE
  · by_cases c9 : E9 = "java/lang/IllegalStateException"
    · rw [if_pos c9] at hE
      subst c9
      refine zg_catch ok tab ((tableOf [((0 : Nat), (8 : Nat), (11 : Nat), (20 : Nat)), ((0 : Nat), (8 : Nat), (14 : Nat), (15 : Nat))]).take 0) ((tableOf [((0 : Nat), (8 : Nat), (11 : Nat), (20 : Nat)), ((0 : Nat), (8 : Nat), (14 : Nat), (15 : Nat))])[0]) ((tableOf [((0 : Nat), (8 : Nat), (11 : Nat), (20 : Nat)), ((0 : Nat), (8 : Nat), (14 : Nat), (15 : Nat))]).drop 1) rfl (fun z hz => by cases hz) (by decide +kernel) (by decide) q1112 q1126 ?_
      refine zg_astore_nR (L' := [(3, va_rf (some q9)), (0, va_rf a0), (1, .int a1), (2, va_rf a2)]) ok dX0_gapAt_11 rfl (by decide) 2 rfl rfl rfl ?_
      refine zg_iconst (v := 1) ok dX0_gapAt_12 (by decide) ?_
      exact zg_iret ok fin dX0_gapAt_13 ⟨Nat.le_of_ble_eq_true rfl, Nat.le_of_ble_eq_true rfl⟩ hE
    rw [if_neg c9] at hE
    by_cases c9 : E9 = "java/lang/IllegalArgumentException"
    · rw [if_pos c9] at hE
      subst c9
      refine zg_catch ok tab ((tableOf [((0 : Nat), (8 : Nat), (11 : Nat), (20 : Nat)), ((0 : Nat), (8 : Nat), (14 : Nat), (15 : Nat))]).take 1) ((tableOf [((0 : Nat), (8 : Nat), (11 : Nat), (20 : Nat)), ((0 : Nat), (8 : Nat), (14 : Nat), (15 : Nat))])[1]) ((tableOf [((0 : Nat), (8 : Nat), (11 : Nat), (20 : Nat)), ((0 : Nat), (8 : Nat), (14 : Nat), (15 : Nat))]).drop 2) rfl (by
          intro z hz
          cases hz with
          | head => exact Or.inr ⟨by decide, "java/lang/IllegalStateException", q1112, List.mem_of_getElem? (i := 5) rfl⟩
          | tail _ hz =>
            cases hz) (by decide +kernel) (by decide) q354 q652 ?_
      refine zg_astore_nR (L' := [(3, va_rf (some q9)), (0, va_rf a0), (1, .int a1), (2, va_rf a2)]) ok dX0_gapAt_14 rfl (by decide) 2 rfl rfl rfl ?_
      refine zg_iconst (v := 2) ok dX0_gapAt_15 (by decide) ?_
      exact zg_iret ok fin dX0_gapAt_16 ⟨Nat.le_of_ble_eq_true rfl, Nat.le_of_ble_eq_true rfl⟩ hE
    rw [if_neg c9] at hE
    exact hE.elim
set_option maxHeartbeats 8000000 in
theorem mt_X0_isWithin {l : Launch} (hl : l.stackTraces = false) {Z : zw_Z} {a0 : Option Nat} {a1 : Int32} {a2 : Option Nat} {h : zw_H} {Q : Int32 → zw_H → Prop} {X : String → Nat → zw_H → Prop} (hE : f_X0_isWithin Z.2.2.2 a0 a1 a2 h Q X) : zw_Met l Z yX0_isWithin (wsW_ yX0_isWithin cX0_isWithin 4 (Option.some Jvm.ClassFile.FieldType.int) [((0 : Nat), (16 : Nat), (19 : Nat), (20 : Nat)), ((0 : Nat), (16 : Nat), (22 : Nat), (15 : Nat))]) rm_X0_isWithin [zA a0, zI a1, zA a2] h (zq_I Q) X := by
  refine zg_startW (own := "MultipoleLineLaw") (by decide +kernel) rfl (Nat.le_of_ble_eq_true rfl) hl (fun Xc ok tab fin hRm hXl hXZ => ?_)
  subst hXl
  subst hXZ
  unfold f_X0_isWithin at hE
  refine zg_aload_n ok dX0_isWithin_0 rfl 2 rfl ?_
  refine zg_iconst (v := 0) ok dX0_isWithin_1 (by decide) ?_
  refine zg_aload_n ok dX0_isWithin_2 rfl 0 rfl ?_
  refine zg_iload_n ok dX0_isWithin_3 rfl 1 rfl ?_
  refine zg_callV (vs := [zI a1]) (rest := [.int 0, va_rf a2]) (rm := rm_X1_isWithin) ok hRm lk_X0_97 dX0_isWithin_4 hE (fun hE => mt_X1_isWithin hl hE) rfl (Nat.le_of_ble_eq_true rfl) ⟨⟨Nat.le_of_ble_eq_true rfl, Nat.le_of_ble_eq_true rfl⟩, Nat.le_of_ble_eq_true rfl, Nat.le_of_ble_eq_true rfl⟩ (zg_retI (fun v1 h1 hE => ?_)) (fun E9 q9 h9 hE => ?_)
  · refine zg_cost (kc2 := 2) (ks2 := 12) ⟨rfl, rfl⟩ ?_
    refine zg_if_eq (tgt := 14) ok dX0_isWithin_7 (by decide) hE (fun hE => ?_) (fun hE => ?_)
    · refine zg_lconst (v := 0) ok dX0_isWithin_14 (by decide) ?_
      refine zg_last ok dX0_isWithin_15 hE (fun h2 hE => ?_)
      refine zg_goto (tgt := 25) ok dX0_isWithin_16 (by decide) ?_
      refine zg_iconst (v := 0) ok dX0_isWithin_25 (by decide) ?_
      exact zg_iret ok fin dX0_isWithin_26 ⟨Nat.le_of_ble_eq_true rfl, Nat.le_of_ble_eq_true rfl⟩ hE
    · refine zg_lconst (v := 1) ok dX0_isWithin_10 (by decide) ?_
      refine zg_goto (tgt := 15) ok dX0_isWithin_11 (by decide) ?_
      refine zg_last ok dX0_isWithin_15 hE (fun h3 hE => ?_)
      refine zg_goto (tgt := 25) ok dX0_isWithin_16 (by decide) ?_
      refine zg_iconst (v := 0) ok dX0_isWithin_25 (by decide) ?_
      exact zg_iret ok fin dX0_isWithin_26 ⟨Nat.le_of_ble_eq_true rfl, Nat.le_of_ble_eq_true rfl⟩ hE
  · by_cases c9 : E9 = "java/lang/IllegalStateException"
    · rw [if_pos c9] at hE
      subst c9
      refine zg_catch ok tab ((tableOf [((0 : Nat), (16 : Nat), (19 : Nat), (20 : Nat)), ((0 : Nat), (16 : Nat), (22 : Nat), (15 : Nat))]).take 0) ((tableOf [((0 : Nat), (16 : Nat), (19 : Nat), (20 : Nat)), ((0 : Nat), (16 : Nat), (22 : Nat), (15 : Nat))])[0]) ((tableOf [((0 : Nat), (16 : Nat), (19 : Nat), (20 : Nat)), ((0 : Nat), (16 : Nat), (22 : Nat), (15 : Nat))]).drop 1) rfl (fun z hz => by cases hz) (by decide +kernel) (by decide) q1112 q1126 ?_
      refine zg_astore_nR (L' := [(3, va_rf (some q9)), (0, va_rf a0), (1, .int a1), (2, va_rf a2)]) ok dX0_isWithin_19 rfl (by decide) 2 rfl rfl rfl ?_
      refine zg_iconst (v := 1) ok dX0_isWithin_20 (by decide) ?_
      exact zg_iret ok fin dX0_isWithin_21 ⟨Nat.le_of_ble_eq_true rfl, Nat.le_of_ble_eq_true rfl⟩ hE
    rw [if_neg c9] at hE
    by_cases c9 : E9 = "java/lang/IllegalArgumentException"
    · rw [if_pos c9] at hE
      subst c9
      refine zg_catch ok tab ((tableOf [((0 : Nat), (16 : Nat), (19 : Nat), (20 : Nat)), ((0 : Nat), (16 : Nat), (22 : Nat), (15 : Nat))]).take 1) ((tableOf [((0 : Nat), (16 : Nat), (19 : Nat), (20 : Nat)), ((0 : Nat), (16 : Nat), (22 : Nat), (15 : Nat))])[1]) ((tableOf [((0 : Nat), (16 : Nat), (19 : Nat), (20 : Nat)), ((0 : Nat), (16 : Nat), (22 : Nat), (15 : Nat))]).drop 2) rfl (by
          intro z hz
          cases hz with
          | head => exact Or.inr ⟨by decide, "java/lang/IllegalStateException", q1112, List.mem_of_getElem? (i := 5) rfl⟩
          | tail _ hz =>
            cases hz) (by decide +kernel) (by decide) q354 q652 ?_
      refine zg_astore_nR (L' := [(3, va_rf (some q9)), (0, va_rf a0), (1, .int a1), (2, va_rf a2)]) ok dX0_isWithin_22 rfl (by decide) 2 rfl rfl rfl ?_
      refine zg_iconst (v := 2) ok dX0_isWithin_23 (by decide) ?_
      exact zg_iret ok fin dX0_isWithin_24 ⟨Nat.le_of_ble_eq_true rfl, Nat.le_of_ble_eq_true rfl⟩ hE
    rw [if_neg c9] at hE
    exact hE.elim
set_option maxHeartbeats 8000000 in
theorem mt_X0_worst {l : Launch} (hl : l.stackTraces = false) {Z : zw_Z} {a0 : Option Nat} {a1 : Option Nat} {h : zw_H} {Q : Int32 → zw_H → Prop} {X : String → Nat → zw_H → Prop} (hE : f_X0_worst Z.2.2.2 a0 a1 h Q X) : zw_Met l Z yX0_worst (wsW_ yX0_worst cX0_worst 3 (Option.some Jvm.ClassFile.FieldType.int) [((0 : Nat), (8 : Nat), (11 : Nat), (20 : Nat))]) rm_X0_worst [zA a0, zA a1] h (zq_I Q) X := by
  refine zg_startW (own := "MultipoleLineLaw") (by decide +kernel) rfl (Nat.le_of_ble_eq_true rfl) hl (fun Xc ok tab fin hRm hXl hXZ => ?_)
  subst hXl
  subst hXZ
  unfold f_X0_worst at hE
  refine zg_aload_n ok dX0_worst_0 rfl 1 rfl ?_
  refine zg_iconst (v := 0) ok dX0_worst_1 (by decide) ?_
  refine zg_aload_n ok dX0_worst_2 rfl 0 rfl ?_
  refine zg_callV (vs := []) (rest := [.int 0, va_rf a1]) (rm := rm_X1_worst) ok hRm lk_X0_101 dX0_worst_3 hE (fun hE => mt_X1_worst hl hE) rfl (Nat.le_of_ble_eq_true rfl) ⟨⟨Nat.le_of_ble_eq_true rfl, Nat.le_of_ble_eq_true rfl⟩, Nat.le_of_ble_eq_true rfl, Nat.le_of_ble_eq_true rfl⟩ (zg_retI (fun v1 h1 hE => ?_)) (fun E9 q9 h9 hE => ?_)
  · refine zg_cost (kc2 := 1) (ks2 := 6) ⟨rfl, rfl⟩ ?_
    refine zg_i2l ok dX0_worst_6 ?_
    refine zg_last ok dX0_worst_7 hE (fun h2 hE => ?_)
    refine zg_goto (tgt := 14) ok dX0_worst_8 (by decide) ?_
    refine zg_iconst (v := 0) ok dX0_worst_14 (by decide) ?_
    exact zg_iret ok fin dX0_worst_15 ⟨Nat.le_of_ble_eq_true rfl, Nat.le_of_ble_eq_true rfl⟩ hE
  · by_cases c9 : E9 = "java/lang/IllegalStateException"
    · rw [if_pos c9] at hE
      subst c9
      refine zg_catch ok tab ((tableOf [((0 : Nat), (8 : Nat), (11 : Nat), (20 : Nat))]).take 0) ((tableOf [((0 : Nat), (8 : Nat), (11 : Nat), (20 : Nat))])[0]) ((tableOf [((0 : Nat), (8 : Nat), (11 : Nat), (20 : Nat))]).drop 1) rfl (fun z hz => by cases hz) (by decide +kernel) (by decide) q1112 q1126 ?_
      refine zg_astore_nR (L' := [(2, va_rf (some q9)), (0, va_rf a0), (1, va_rf a1)]) ok dX0_worst_11 rfl (by decide) 1 rfl rfl rfl ?_
      refine zg_iconst (v := 1) ok dX0_worst_12 (by decide) ?_
      exact zg_iret ok fin dX0_worst_13 ⟨Nat.le_of_ble_eq_true rfl, Nat.le_of_ble_eq_true rfl⟩ hE
    rw [if_neg c9] at hE
    exact hE.elim
set_option maxHeartbeats 8000000 in
theorem mt_X0_localEntry {l : Launch} (hl : l.stackTraces = false) {Z : zw_Z} {a0 : Option Nat} {a1 : Int32} {a2 : Int32} {a3 : Int32} {a4 : Option Nat} {h : zw_H} {Q : Int32 → zw_H → Prop} {X : String → Nat → zw_H → Prop} (hE : f_X0_localEntry Z.2.2.2 a0 a1 a2 a3 a4 h Q X) : zw_Met l Z yX0_localEntry (wsW_ yX0_localEntry cX0_localEntry 6 (Option.some Jvm.ClassFile.FieldType.int) [((0 : Nat), (11 : Nat), (14 : Nat), (20 : Nat)), ((0 : Nat), (11 : Nat), (18 : Nat), (13 : Nat)), ((0 : Nat), (11 : Nat), (22 : Nat), (15 : Nat))]) rm_X0_localEntry [zA a0, zI a1, zI a2, zI a3, zA a4] h (zq_I Q) X := by
  refine zg_startW (own := "MultipoleLineLaw") (by decide +kernel) rfl (Nat.le_of_ble_eq_true rfl) hl (fun Xc ok tab fin hRm hXl hXZ => ?_)
  subst hXl
  subst hXZ
  unfold f_X0_localEntry at hE
  refine zg_aload ok dX0_localEntry_0 4 rfl ?_
  refine zg_iconst (v := 0) ok dX0_localEntry_2 (by decide) ?_
  refine zg_aload_n ok dX0_localEntry_3 rfl 0 rfl ?_
  refine zg_iload_n ok dX0_localEntry_4 rfl 1 rfl ?_
  refine zg_iload_n ok dX0_localEntry_5 rfl 2 rfl ?_
  refine zg_iload_n ok dX0_localEntry_6 rfl 3 rfl ?_
  refine zg_callV (vs := [zI a1, zI a2, zI a3]) (rest := [.int 0, va_rf a4]) (rm := rm_X1_localEntry) ok hRm lk_X0_104 dX0_localEntry_7 hE (fun hE => mt_X1_localEntry hl hE) rfl (Nat.le_of_ble_eq_true rfl) ⟨⟨Nat.le_of_ble_eq_true rfl, Nat.le_of_ble_eq_true rfl⟩, Nat.le_of_ble_eq_true rfl, Nat.le_of_ble_eq_true rfl⟩ (zg_retD (fun v1 h1 hE => ?_)) (fun E9 q9 h9 hE => ?_)
  · refine zg_cost (kc2 := 14) (ks2 := 120) ⟨rfl, rfl⟩ ?_
    refine zg_dast ok dX0_localEntry_10 hE (fun h2 hE => ?_)
    refine zg_goto (tgt := 26) ok dX0_localEntry_11 (by decide) ?_
    refine zg_iconst (v := 0) ok dX0_localEntry_26 (by decide) ?_
    exact zg_iret ok fin dX0_localEntry_27 ⟨Nat.le_of_ble_eq_true rfl, Nat.le_of_ble_eq_true rfl⟩ hE
  · by_cases c9 : E9 = "java/lang/IllegalStateException"
    · rw [if_pos c9] at hE
      subst c9
      refine zg_catch ok tab ((tableOf [((0 : Nat), (11 : Nat), (14 : Nat), (20 : Nat)), ((0 : Nat), (11 : Nat), (18 : Nat), (13 : Nat)), ((0 : Nat), (11 : Nat), (22 : Nat), (15 : Nat))]).take 0) ((tableOf [((0 : Nat), (11 : Nat), (14 : Nat), (20 : Nat)), ((0 : Nat), (11 : Nat), (18 : Nat), (13 : Nat)), ((0 : Nat), (11 : Nat), (22 : Nat), (15 : Nat))])[0]) ((tableOf [((0 : Nat), (11 : Nat), (14 : Nat), (20 : Nat)), ((0 : Nat), (11 : Nat), (18 : Nat), (13 : Nat)), ((0 : Nat), (11 : Nat), (22 : Nat), (15 : Nat))]).drop 1) rfl (fun z hz => by cases hz) (by decide +kernel) (by decide) q1112 q1126 ?_
      refine zg_astoreR (L' := [(5, va_rf (some q9)), (0, va_rf a0), (1, .int a1), (2, .int a2), (3, .int a3), (4, va_rf a4)]) ok dX0_localEntry_14 (by decide) 4 rfl rfl rfl ?_
      refine zg_iconst (v := 1) ok dX0_localEntry_16 (by decide) ?_
      exact zg_iret ok fin dX0_localEntry_17 ⟨Nat.le_of_ble_eq_true rfl, Nat.le_of_ble_eq_true rfl⟩ hE
    rw [if_neg c9] at hE
    by_cases c9 : E9 = "java/lang/IndexOutOfBoundsException"
    · rw [if_pos c9] at hE
      subst c9
      refine zg_catch ok tab ((tableOf [((0 : Nat), (11 : Nat), (14 : Nat), (20 : Nat)), ((0 : Nat), (11 : Nat), (18 : Nat), (13 : Nat)), ((0 : Nat), (11 : Nat), (22 : Nat), (15 : Nat))]).take 1) ((tableOf [((0 : Nat), (11 : Nat), (14 : Nat), (20 : Nat)), ((0 : Nat), (11 : Nat), (18 : Nat), (13 : Nat)), ((0 : Nat), (11 : Nat), (22 : Nat), (15 : Nat))])[1]) ((tableOf [((0 : Nat), (11 : Nat), (14 : Nat), (20 : Nat)), ((0 : Nat), (11 : Nat), (18 : Nat), (13 : Nat)), ((0 : Nat), (11 : Nat), (22 : Nat), (15 : Nat))]).drop 2) rfl (by
          intro z hz
          cases hz with
          | head => exact Or.inr ⟨by decide, "java/lang/IllegalStateException", q1112, List.mem_of_getElem? (i := 3) rfl⟩
          | tail _ hz =>
            cases hz) (by decide +kernel) (by decide) q274 q368 ?_
      refine zg_astoreR (L' := [(5, va_rf (some q9)), (0, va_rf a0), (1, .int a1), (2, .int a2), (3, .int a3), (4, va_rf a4)]) ok dX0_localEntry_18 (by decide) 4 rfl rfl rfl ?_
      refine zg_iconst (v := 2) ok dX0_localEntry_20 (by decide) ?_
      exact zg_iret ok fin dX0_localEntry_21 ⟨Nat.le_of_ble_eq_true rfl, Nat.le_of_ble_eq_true rfl⟩ hE
    rw [if_neg c9] at hE
    by_cases c9 : E9 = "java/lang/IllegalArgumentException"
    · rw [if_pos c9] at hE
      subst c9
      refine zg_catch ok tab ((tableOf [((0 : Nat), (11 : Nat), (14 : Nat), (20 : Nat)), ((0 : Nat), (11 : Nat), (18 : Nat), (13 : Nat)), ((0 : Nat), (11 : Nat), (22 : Nat), (15 : Nat))]).take 2) ((tableOf [((0 : Nat), (11 : Nat), (14 : Nat), (20 : Nat)), ((0 : Nat), (11 : Nat), (18 : Nat), (13 : Nat)), ((0 : Nat), (11 : Nat), (22 : Nat), (15 : Nat))])[2]) ((tableOf [((0 : Nat), (11 : Nat), (14 : Nat), (20 : Nat)), ((0 : Nat), (11 : Nat), (18 : Nat), (13 : Nat)), ((0 : Nat), (11 : Nat), (22 : Nat), (15 : Nat))]).drop 3) rfl (by
          intro z hz
          cases hz with
          | head => exact Or.inr ⟨by decide, "java/lang/IllegalStateException", q1112, List.mem_of_getElem? (i := 5) rfl⟩
          | tail _ hz =>
            cases hz with
            | head => exact Or.inr ⟨by decide, "java/lang/IndexOutOfBoundsException", q274, List.mem_of_getElem? (i := 6) rfl⟩
            | tail _ hz =>
              cases hz) (by decide +kernel) (by decide) q354 q652 ?_
      refine zg_astoreR (L' := [(5, va_rf (some q9)), (0, va_rf a0), (1, .int a1), (2, .int a2), (3, .int a3), (4, va_rf a4)]) ok dX0_localEntry_22 (by decide) 4 rfl rfl rfl ?_
      refine zg_iconst (v := 3) ok dX0_localEntry_24 (by decide) ?_
      exact zg_iret ok fin dX0_localEntry_25 ⟨Nat.le_of_ble_eq_true rfl, Nat.le_of_ble_eq_true rfl⟩ hE
    rw [if_neg c9] at hE
    exact hE.elim
set_option maxHeartbeats 8000000 in
theorem mt_X0_localSum {l : Launch} (hl : l.stackTraces = false) {Z : zw_Z} {a0 : Option Nat} {a1 : Int32} {a2 : Option Nat} {h : zw_H} {Q : Int32 → zw_H → Prop} {X : String → Nat → zw_H → Prop} (hE : f_X0_localSum Z.2.2.2 a0 a1 a2 h Q X) : zw_Met l Z yX0_localSum (wsW_ yX0_localSum cX0_localSum 4 (Option.some Jvm.ClassFile.FieldType.int) [((0 : Nat), (8 : Nat), (11 : Nat), (20 : Nat)), ((0 : Nat), (8 : Nat), (14 : Nat), (15 : Nat))]) rm_X0_localSum [zA a0, zI a1, zA a2] h (zq_I Q) X := by
  refine zg_startW (own := "MultipoleLineLaw") (by decide +kernel) rfl (Nat.le_of_ble_eq_true rfl) hl (fun Xc ok tab fin hRm hXl hXZ => ?_)
  subst hXl
  subst hXZ
  unfold f_X0_localSum at hE
  refine zg_aload_n ok dX0_localSum_0 rfl 2 rfl ?_
  refine zg_iconst (v := 0) ok dX0_localSum_1 (by decide) ?_
  refine zg_aload_n ok dX0_localSum_2 rfl 0 rfl ?_
  refine zg_iload_n ok dX0_localSum_3 rfl 1 rfl ?_
  refine zg_callV (vs := [zI a1]) (rest := [.int 0, va_rf a2]) (rm := rm_X1_localSum) ok hRm lk_X0_107 dX0_localSum_4 hE (fun hE => mt_X1_localSum hl hE) rfl (Nat.le_of_ble_eq_true rfl) ⟨⟨Nat.le_of_ble_eq_true rfl, Nat.le_of_ble_eq_true rfl⟩, Nat.le_of_ble_eq_true rfl, Nat.le_of_ble_eq_true rfl⟩ (zg_retD (fun v1 h1 hE => ?_)) (fun E9 q9 h9 hE => ?_)
  · refine zg_cost (kc2 := 10) (ks2 := 96) ⟨rfl, rfl⟩ ?_
    refine zg_dast ok dX0_localSum_7 hE (fun h2 hE => ?_)
    refine zg_goto (tgt := 17) ok dX0_localSum_8 (by decide) ?_
    refine zg_iconst (v := 0) ok dX0_localSum_17 (by decide) ?_
    exact zg_iret ok fin dX0_localSum_18 ⟨Nat.le_of_ble_eq_true rfl, Nat.le_of_ble_eq_true rfl⟩ hE
  · by_cases c9 : E9 = "java/lang/IllegalStateException"
    · rw [if_pos c9] at hE
      subst c9
      refine zg_catch ok tab ((tableOf [((0 : Nat), (8 : Nat), (11 : Nat), (20 : Nat)), ((0 : Nat), (8 : Nat), (14 : Nat), (15 : Nat))]).take 0) ((tableOf [((0 : Nat), (8 : Nat), (11 : Nat), (20 : Nat)), ((0 : Nat), (8 : Nat), (14 : Nat), (15 : Nat))])[0]) ((tableOf [((0 : Nat), (8 : Nat), (11 : Nat), (20 : Nat)), ((0 : Nat), (8 : Nat), (14 : Nat), (15 : Nat))]).drop 1) rfl (fun z hz => by cases hz) (by decide +kernel) (by decide) q1112 q1126 ?_
      refine zg_astore_nR (L' := [(3, va_rf (some q9)), (0, va_rf a0), (1, .int a1), (2, va_rf a2)]) ok dX0_localSum_11 rfl (by decide) 2 rfl rfl rfl ?_
      refine zg_iconst (v := 1) ok dX0_localSum_12 (by decide) ?_
      exact zg_iret ok fin dX0_localSum_13 ⟨Nat.le_of_ble_eq_true rfl, Nat.le_of_ble_eq_true rfl⟩ hE
    rw [if_neg c9] at hE
    by_cases c9 : E9 = "java/lang/IllegalArgumentException"
    · rw [if_pos c9] at hE
      subst c9
      refine zg_catch ok tab ((tableOf [((0 : Nat), (8 : Nat), (11 : Nat), (20 : Nat)), ((0 : Nat), (8 : Nat), (14 : Nat), (15 : Nat))]).take 1) ((tableOf [((0 : Nat), (8 : Nat), (11 : Nat), (20 : Nat)), ((0 : Nat), (8 : Nat), (14 : Nat), (15 : Nat))])[1]) ((tableOf [((0 : Nat), (8 : Nat), (11 : Nat), (20 : Nat)), ((0 : Nat), (8 : Nat), (14 : Nat), (15 : Nat))]).drop 2) rfl (by
          intro z hz
          cases hz with
          | head => exact Or.inr ⟨by decide, "java/lang/IllegalStateException", q1112, List.mem_of_getElem? (i := 5) rfl⟩
          | tail _ hz =>
            cases hz) (by decide +kernel) (by decide) q354 q652 ?_
      refine zg_astore_nR (L' := [(3, va_rf (some q9)), (0, va_rf a0), (1, .int a1), (2, va_rf a2)]) ok dX0_localSum_14 rfl (by decide) 2 rfl rfl rfl ?_
      refine zg_iconst (v := 2) ok dX0_localSum_15 (by decide) ?_
      exact zg_iret ok fin dX0_localSum_16 ⟨Nat.le_of_ble_eq_true rfl, Nat.le_of_ble_eq_true rfl⟩ hE
    rw [if_neg c9] at hE
    exact hE.elim
set_option maxHeartbeats 8000000 in
theorem mt_X0_pullPlain {l : Launch} (hl : l.stackTraces = false) {Z : zw_Z} {a0 : Option Nat} {a1 : Int32} {a2 : Option Nat} {h : zw_H} {Q : Int32 → zw_H → Prop} {X : String → Nat → zw_H → Prop} (hE : f_X0_pullPlain Z.2.2.2 a0 a1 a2 h Q X) : zw_Met l Z yX0_pullPlain (wsW_ yX0_pullPlain cX0_pullPlain 4 (Option.some Jvm.ClassFile.FieldType.int) [((0 : Nat), (8 : Nat), (11 : Nat), (20 : Nat)), ((0 : Nat), (8 : Nat), (14 : Nat), (15 : Nat))]) rm_X0_pullPlain [zA a0, zI a1, zA a2] h (zq_I Q) X := by
  refine zg_startW (own := "MultipoleLineLaw") (by decide +kernel) rfl (Nat.le_of_ble_eq_true rfl) hl (fun Xc ok tab fin hRm hXl hXZ => ?_)
  subst hXl
  subst hXZ
  unfold f_X0_pullPlain at hE
  refine zg_aload_n ok dX0_pullPlain_0 rfl 2 rfl ?_
  refine zg_iconst (v := 0) ok dX0_pullPlain_1 (by decide) ?_
  refine zg_aload_n ok dX0_pullPlain_2 rfl 0 rfl ?_
  refine zg_iload_n ok dX0_pullPlain_3 rfl 1 rfl ?_
  refine zg_callV (vs := [zI a1]) (rest := [.int 0, va_rf a2]) (rm := rm_X1_pullPlain) ok hRm lk_X0_110 dX0_pullPlain_4 hE (fun hE => mt_X1_pullPlain hl hE) rfl (Nat.le_of_ble_eq_true rfl) ⟨⟨Nat.le_of_ble_eq_true rfl, Nat.le_of_ble_eq_true rfl⟩, Nat.le_of_ble_eq_true rfl, Nat.le_of_ble_eq_true rfl⟩ (zg_retD (fun v1 h1 hE => ?_)) (fun E9 q9 h9 hE => ?_)
  · refine zg_cost (kc2 := 2) (ks2 := 12) ⟨rfl, rfl⟩ ?_
    refine zg_dast ok dX0_pullPlain_7 hE (fun h2 hE => ?_)
    refine zg_goto (tgt := 17) ok dX0_pullPlain_8 (by decide) ?_
    refine zg_iconst (v := 0) ok dX0_pullPlain_17 (by decide) ?_
    exact zg_iret ok fin dX0_pullPlain_18 ⟨Nat.le_of_ble_eq_true rfl, Nat.le_of_ble_eq_true rfl⟩ hE
  · by_cases c9 : E9 = "java/lang/IllegalStateException"
    · rw [if_pos c9] at hE
      subst c9
      refine zg_catch ok tab ((tableOf [((0 : Nat), (8 : Nat), (11 : Nat), (20 : Nat)), ((0 : Nat), (8 : Nat), (14 : Nat), (15 : Nat))]).take 0) ((tableOf [((0 : Nat), (8 : Nat), (11 : Nat), (20 : Nat)), ((0 : Nat), (8 : Nat), (14 : Nat), (15 : Nat))])[0]) ((tableOf [((0 : Nat), (8 : Nat), (11 : Nat), (20 : Nat)), ((0 : Nat), (8 : Nat), (14 : Nat), (15 : Nat))]).drop 1) rfl (fun z hz => by cases hz) (by decide +kernel) (by decide) q1112 q1126 ?_
      refine zg_astore_nR (L' := [(3, va_rf (some q9)), (0, va_rf a0), (1, .int a1), (2, va_rf a2)]) ok dX0_pullPlain_11 rfl (by decide) 2 rfl rfl rfl ?_
      refine zg_iconst (v := 1) ok dX0_pullPlain_12 (by decide) ?_
      exact zg_iret ok fin dX0_pullPlain_13 ⟨Nat.le_of_ble_eq_true rfl, Nat.le_of_ble_eq_true rfl⟩ hE
    rw [if_neg c9] at hE
    by_cases c9 : E9 = "java/lang/IllegalArgumentException"
    · rw [if_pos c9] at hE
      subst c9
      refine zg_catch ok tab ((tableOf [((0 : Nat), (8 : Nat), (11 : Nat), (20 : Nat)), ((0 : Nat), (8 : Nat), (14 : Nat), (15 : Nat))]).take 1) ((tableOf [((0 : Nat), (8 : Nat), (11 : Nat), (20 : Nat)), ((0 : Nat), (8 : Nat), (14 : Nat), (15 : Nat))])[1]) ((tableOf [((0 : Nat), (8 : Nat), (11 : Nat), (20 : Nat)), ((0 : Nat), (8 : Nat), (14 : Nat), (15 : Nat))]).drop 2) rfl (by
          intro z hz
          cases hz with
          | head => exact Or.inr ⟨by decide, "java/lang/IllegalStateException", q1112, List.mem_of_getElem? (i := 5) rfl⟩
          | tail _ hz =>
            cases hz) (by decide +kernel) (by decide) q354 q652 ?_
      refine zg_astore_nR (L' := [(3, va_rf (some q9)), (0, va_rf a0), (1, .int a1), (2, va_rf a2)]) ok dX0_pullPlain_14 rfl (by decide) 2 rfl rfl rfl ?_
      refine zg_iconst (v := 2) ok dX0_pullPlain_15 (by decide) ?_
      exact zg_iret ok fin dX0_pullPlain_16 ⟨Nat.le_of_ble_eq_true rfl, Nat.le_of_ble_eq_true rfl⟩ hE
    rw [if_neg c9] at hE
    exact hE.elim
set_option maxHeartbeats 8000000 in
theorem mt_X0_pullFar {l : Launch} (hl : l.stackTraces = false) {Z : zw_Z} {a0 : Option Nat} {a1 : Int32} {a2 : Option Nat} {h : zw_H} {Q : Int32 → zw_H → Prop} {X : String → Nat → zw_H → Prop} (hE : f_X0_pullFar Z.2.2.2 a0 a1 a2 h Q X) : zw_Met l Z yX0_pullFar (wsW_ yX0_pullFar cX0_pullFar 4 (Option.some Jvm.ClassFile.FieldType.int) [((0 : Nat), (8 : Nat), (11 : Nat), (20 : Nat)), ((0 : Nat), (8 : Nat), (14 : Nat), (15 : Nat))]) rm_X0_pullFar [zA a0, zI a1, zA a2] h (zq_I Q) X := by
  refine zg_startW (own := "MultipoleLineLaw") (by decide +kernel) rfl (Nat.le_of_ble_eq_true rfl) hl (fun Xc ok tab fin hRm hXl hXZ => ?_)
  subst hXl
  subst hXZ
  unfold f_X0_pullFar at hE
  refine zg_aload_n ok dX0_pullFar_0 rfl 2 rfl ?_
  refine zg_iconst (v := 0) ok dX0_pullFar_1 (by decide) ?_
  refine zg_aload_n ok dX0_pullFar_2 rfl 0 rfl ?_
  refine zg_iload_n ok dX0_pullFar_3 rfl 1 rfl ?_
  refine zg_callV (vs := [zI a1]) (rest := [.int 0, va_rf a2]) (rm := rm_X1_pullFar) ok hRm lk_X0_113 dX0_pullFar_4 hE (fun hE => mt_X1_pullFar hl hE) rfl (Nat.le_of_ble_eq_true rfl) ⟨⟨Nat.le_of_ble_eq_true rfl, Nat.le_of_ble_eq_true rfl⟩, Nat.le_of_ble_eq_true rfl, Nat.le_of_ble_eq_true rfl⟩ (zg_retD (fun v1 h1 hE => ?_)) (fun E9 q9 h9 hE => ?_)
  · refine zg_cost (kc2 := 2) (ks2 := 12) ⟨rfl, rfl⟩ ?_
    refine zg_dast ok dX0_pullFar_7 hE (fun h2 hE => ?_)
    refine zg_goto (tgt := 17) ok dX0_pullFar_8 (by decide) ?_
    refine zg_iconst (v := 0) ok dX0_pullFar_17 (by decide) ?_
    exact zg_iret ok fin dX0_pullFar_18 ⟨Nat.le_of_ble_eq_true rfl, Nat.le_of_ble_eq_true rfl⟩ hE
  · by_cases c9 : E9 = "java/lang/IllegalStateException"
    · rw [if_pos c9] at hE
      subst c9
      refine zg_catch ok tab ((tableOf [((0 : Nat), (8 : Nat), (11 : Nat), (20 : Nat)), ((0 : Nat), (8 : Nat), (14 : Nat), (15 : Nat))]).take 0) ((tableOf [((0 : Nat), (8 : Nat), (11 : Nat), (20 : Nat)), ((0 : Nat), (8 : Nat), (14 : Nat), (15 : Nat))])[0]) ((tableOf [((0 : Nat), (8 : Nat), (11 : Nat), (20 : Nat)), ((0 : Nat), (8 : Nat), (14 : Nat), (15 : Nat))]).drop 1) rfl (fun z hz => by cases hz) (by decide +kernel) (by decide) q1112 q1126 ?_
      refine zg_astore_nR (L' := [(3, va_rf (some q9)), (0, va_rf a0), (1, .int a1), (2, va_rf a2)]) ok dX0_pullFar_11 rfl (by decide) 2 rfl rfl rfl ?_
      refine zg_iconst (v := 1) ok dX0_pullFar_12 (by decide) ?_
      exact zg_iret ok fin dX0_pullFar_13 ⟨Nat.le_of_ble_eq_true rfl, Nat.le_of_ble_eq_true rfl⟩ hE
    rw [if_neg c9] at hE
    by_cases c9 : E9 = "java/lang/IllegalArgumentException"
    · rw [if_pos c9] at hE
      subst c9
      refine zg_catch ok tab ((tableOf [((0 : Nat), (8 : Nat), (11 : Nat), (20 : Nat)), ((0 : Nat), (8 : Nat), (14 : Nat), (15 : Nat))]).take 1) ((tableOf [((0 : Nat), (8 : Nat), (11 : Nat), (20 : Nat)), ((0 : Nat), (8 : Nat), (14 : Nat), (15 : Nat))])[1]) ((tableOf [((0 : Nat), (8 : Nat), (11 : Nat), (20 : Nat)), ((0 : Nat), (8 : Nat), (14 : Nat), (15 : Nat))]).drop 2) rfl (by
          intro z hz
          cases hz with
          | head => exact Or.inr ⟨by decide, "java/lang/IllegalStateException", q1112, List.mem_of_getElem? (i := 5) rfl⟩
          | tail _ hz =>
            cases hz) (by decide +kernel) (by decide) q354 q652 ?_
      refine zg_astore_nR (L' := [(3, va_rf (some q9)), (0, va_rf a0), (1, .int a1), (2, va_rf a2)]) ok dX0_pullFar_14 rfl (by decide) 2 rfl rfl rfl ?_
      refine zg_iconst (v := 2) ok dX0_pullFar_15 (by decide) ?_
      exact zg_iret ok fin dX0_pullFar_16 ⟨Nat.le_of_ble_eq_true rfl, Nat.le_of_ble_eq_true rfl⟩ hE
    rw [if_neg c9] at hE
    exact hE.elim
set_option maxHeartbeats 8000000 in
theorem mt_X0_pull {l : Launch} (hl : l.stackTraces = false) {Z : zw_Z} {a0 : Option Nat} {a1 : Int32} {a2 : Option Nat} {h : zw_H} {Q : Int32 → zw_H → Prop} {X : String → Nat → zw_H → Prop} (hE : f_X0_pull Z.2.2.2 a0 a1 a2 h Q X) : zw_Met l Z yX0_pull (wsW_ yX0_pull cX0_pull 4 (Option.some Jvm.ClassFile.FieldType.int) [((0 : Nat), (8 : Nat), (11 : Nat), (20 : Nat)), ((0 : Nat), (8 : Nat), (14 : Nat), (15 : Nat))]) rm_X0_pull [zA a0, zI a1, zA a2] h (zq_I Q) X := by
  refine zg_startW (own := "MultipoleLineLaw") (by decide +kernel) rfl (Nat.le_of_ble_eq_true rfl) hl (fun Xc ok tab fin hRm hXl hXZ => ?_)
  subst hXl
  subst hXZ
  unfold f_X0_pull at hE
  refine zg_aload_n ok dX0_pull_0 rfl 2 rfl ?_
  refine zg_iconst (v := 0) ok dX0_pull_1 (by decide) ?_
  refine zg_aload_n ok dX0_pull_2 rfl 0 rfl ?_
  refine zg_iload_n ok dX0_pull_3 rfl 1 rfl ?_
  refine zg_callV (vs := [zI a1]) (rest := [.int 0, va_rf a2]) (rm := rm_X1_pull) ok hRm lk_X0_116 dX0_pull_4 hE (fun hE => mt_X1_pull hl hE) rfl (Nat.le_of_ble_eq_true rfl) ⟨⟨Nat.le_of_ble_eq_true rfl, Nat.le_of_ble_eq_true rfl⟩, Nat.le_of_ble_eq_true rfl, Nat.le_of_ble_eq_true rfl⟩ (zg_retD (fun v1 h1 hE => ?_)) (fun E9 q9 h9 hE => ?_)
  · refine zg_cost (kc2 := 2) (ks2 := 12) ⟨rfl, rfl⟩ ?_
    refine zg_dast ok dX0_pull_7 hE (fun h2 hE => ?_)
    refine zg_goto (tgt := 17) ok dX0_pull_8 (by decide) ?_
    refine zg_iconst (v := 0) ok dX0_pull_17 (by decide) ?_
    exact zg_iret ok fin dX0_pull_18 ⟨Nat.le_of_ble_eq_true rfl, Nat.le_of_ble_eq_true rfl⟩ hE
  · by_cases c9 : E9 = "java/lang/IllegalStateException"
    · rw [if_pos c9] at hE
      subst c9
      refine zg_catch ok tab ((tableOf [((0 : Nat), (8 : Nat), (11 : Nat), (20 : Nat)), ((0 : Nat), (8 : Nat), (14 : Nat), (15 : Nat))]).take 0) ((tableOf [((0 : Nat), (8 : Nat), (11 : Nat), (20 : Nat)), ((0 : Nat), (8 : Nat), (14 : Nat), (15 : Nat))])[0]) ((tableOf [((0 : Nat), (8 : Nat), (11 : Nat), (20 : Nat)), ((0 : Nat), (8 : Nat), (14 : Nat), (15 : Nat))]).drop 1) rfl (fun z hz => by cases hz) (by decide +kernel) (by decide) q1112 q1126 ?_
      refine zg_astore_nR (L' := [(3, va_rf (some q9)), (0, va_rf a0), (1, .int a1), (2, va_rf a2)]) ok dX0_pull_11 rfl (by decide) 2 rfl rfl rfl ?_
      refine zg_iconst (v := 1) ok dX0_pull_12 (by decide) ?_
      exact zg_iret ok fin dX0_pull_13 ⟨Nat.le_of_ble_eq_true rfl, Nat.le_of_ble_eq_true rfl⟩ hE
    rw [if_neg c9] at hE
    by_cases c9 : E9 = "java/lang/IllegalArgumentException"
    · rw [if_pos c9] at hE
      subst c9
      refine zg_catch ok tab ((tableOf [((0 : Nat), (8 : Nat), (11 : Nat), (20 : Nat)), ((0 : Nat), (8 : Nat), (14 : Nat), (15 : Nat))]).take 1) ((tableOf [((0 : Nat), (8 : Nat), (11 : Nat), (20 : Nat)), ((0 : Nat), (8 : Nat), (14 : Nat), (15 : Nat))])[1]) ((tableOf [((0 : Nat), (8 : Nat), (11 : Nat), (20 : Nat)), ((0 : Nat), (8 : Nat), (14 : Nat), (15 : Nat))]).drop 2) rfl (by
          intro z hz
          cases hz with
          | head => exact Or.inr ⟨by decide, "java/lang/IllegalStateException", q1112, List.mem_of_getElem? (i := 5) rfl⟩
          | tail _ hz =>
            cases hz) (by decide +kernel) (by decide) q354 q652 ?_
      refine zg_astore_nR (L' := [(3, va_rf (some q9)), (0, va_rf a0), (1, .int a1), (2, va_rf a2)]) ok dX0_pull_14 rfl (by decide) 2 rfl rfl rfl ?_
      refine zg_iconst (v := 2) ok dX0_pull_15 (by decide) ?_
      exact zg_iret ok fin dX0_pull_16 ⟨Nat.le_of_ble_eq_true rfl, Nat.le_of_ble_eq_true rfl⟩ hE
    rw [if_neg c9] at hE
    exact hE.elim
set_option maxHeartbeats 8000000 in
theorem mt_X0_willMove {l : Launch} (hl : l.stackTraces = false) {Z : zw_Z} {a0 : Option Nat} {a1 : Int32} {a2 : Option Nat} {h : zw_H} {Q : Int32 → zw_H → Prop} {X : String → Nat → zw_H → Prop} (hE : f_X0_willMove Z.2.2.2 a0 a1 a2 h Q X) : zw_Met l Z yX0_willMove (wsW_ yX0_willMove cX0_willMove 4 (Option.some Jvm.ClassFile.FieldType.int) [((0 : Nat), (9 : Nat), (12 : Nat), (20 : Nat)), ((0 : Nat), (9 : Nat), (15 : Nat), (13 : Nat))]) rm_X0_willMove [zA a0, zI a1, zA a2] h (zq_I Q) X := by
  refine zg_startW (own := "MultipoleLineLaw") (by decide +kernel) rfl (Nat.le_of_ble_eq_true rfl) hl (fun Xc ok tab fin hRm hXl hXZ => ?_)
  subst hXl
  subst hXZ
  unfold f_X0_willMove at hE
  refine zg_aload_n ok dX0_willMove_0 rfl 2 rfl ?_
  refine zg_iconst (v := 0) ok dX0_willMove_1 (by decide) ?_
  refine zg_aload_n ok dX0_willMove_2 rfl 0 rfl ?_
  refine zg_iload_n ok dX0_willMove_3 rfl 1 rfl ?_
  refine zg_callV (vs := [zI a1]) (rest := [.int 0, va_rf a2]) (rm := rm_X1_willMove) ok hRm lk_X0_119 dX0_willMove_4 hE (fun hE => mt_X1_willMove hl hE) rfl (Nat.le_of_ble_eq_true rfl) ⟨⟨Nat.le_of_ble_eq_true rfl, Nat.le_of_ble_eq_true rfl⟩, Nat.le_of_ble_eq_true rfl, Nat.le_of_ble_eq_true rfl⟩ (zg_retI (fun v1 h1 hE => ?_)) (fun E9 q9 h9 hE => ?_)
  · refine zg_cost (kc2 := 2) (ks2 := 12) ⟨rfl, rfl⟩ ?_
    refine zg_i2l ok dX0_willMove_7 ?_
    refine zg_last ok dX0_willMove_8 hE (fun h2 hE => ?_)
    refine zg_goto (tgt := 18) ok dX0_willMove_9 (by decide) ?_
    refine zg_iconst (v := 0) ok dX0_willMove_18 (by decide) ?_
    exact zg_iret ok fin dX0_willMove_19 ⟨Nat.le_of_ble_eq_true rfl, Nat.le_of_ble_eq_true rfl⟩ hE
  · by_cases c9 : E9 = "java/lang/IllegalStateException"
    · rw [if_pos c9] at hE
      subst c9
      refine zg_catch ok tab ((tableOf [((0 : Nat), (9 : Nat), (12 : Nat), (20 : Nat)), ((0 : Nat), (9 : Nat), (15 : Nat), (13 : Nat))]).take 0) ((tableOf [((0 : Nat), (9 : Nat), (12 : Nat), (20 : Nat)), ((0 : Nat), (9 : Nat), (15 : Nat), (13 : Nat))])[0]) ((tableOf [((0 : Nat), (9 : Nat), (12 : Nat), (20 : Nat)), ((0 : Nat), (9 : Nat), (15 : Nat), (13 : Nat))]).drop 1) rfl (fun z hz => by cases hz) (by decide +kernel) (by decide) q1112 q1126 ?_
      refine zg_astore_nR (L' := [(3, va_rf (some q9)), (0, va_rf a0), (1, .int a1), (2, va_rf a2)]) ok dX0_willMove_12 rfl (by decide) 2 rfl rfl rfl ?_
      refine zg_iconst (v := 1) ok dX0_willMove_13 (by decide) ?_
      exact zg_iret ok fin dX0_willMove_14 ⟨Nat.le_of_ble_eq_true rfl, Nat.le_of_ble_eq_true rfl⟩ hE
    rw [if_neg c9] at hE
    by_cases c9 : E9 = "java/lang/IndexOutOfBoundsException"
    · rw [if_pos c9] at hE
      subst c9
      refine zg_catch ok tab ((tableOf [((0 : Nat), (9 : Nat), (12 : Nat), (20 : Nat)), ((0 : Nat), (9 : Nat), (15 : Nat), (13 : Nat))]).take 1) ((tableOf [((0 : Nat), (9 : Nat), (12 : Nat), (20 : Nat)), ((0 : Nat), (9 : Nat), (15 : Nat), (13 : Nat))])[1]) ((tableOf [((0 : Nat), (9 : Nat), (12 : Nat), (20 : Nat)), ((0 : Nat), (9 : Nat), (15 : Nat), (13 : Nat))]).drop 2) rfl (by
          intro z hz
          cases hz with
          | head => exact Or.inr ⟨by decide, "java/lang/IllegalStateException", q1112, List.mem_of_getElem? (i := 3) rfl⟩
          | tail _ hz =>
            cases hz) (by decide +kernel) (by decide) q274 q368 ?_
      refine zg_astore_nR (L' := [(3, va_rf (some q9)), (0, va_rf a0), (1, .int a1), (2, va_rf a2)]) ok dX0_willMove_15 rfl (by decide) 2 rfl rfl rfl ?_
      refine zg_iconst (v := 2) ok dX0_willMove_16 (by decide) ?_
      exact zg_iret ok fin dX0_willMove_17 ⟨Nat.le_of_ble_eq_true rfl, Nat.le_of_ble_eq_true rfl⟩ hE
    rw [if_neg c9] at hE
    exact hE.elim
set_option maxHeartbeats 8000000 in
theorem mt_X0_placeIn {l : Launch} (hl : l.stackTraces = false) {Z : zw_Z} {a0 : Option Nat} {a1 : Int32} {a2 : Int32} {a3 : Option Nat} {h : zw_H} {Q : Int32 → zw_H → Prop} {X : String → Nat → zw_H → Prop} (hE : f_X0_placeIn Z.2.2.2 a0 a1 a2 a3 h Q X) : zw_Met l Z yX0_placeIn (wsW_ yX0_placeIn cX0_placeIn 5 (Option.some Jvm.ClassFile.FieldType.int) [((0 : Nat), (10 : Nat), (13 : Nat), (20 : Nat)), ((0 : Nat), (10 : Nat), (17 : Nat), (13 : Nat)), ((0 : Nat), (10 : Nat), (21 : Nat), (15 : Nat))]) rm_X0_placeIn [zA a0, zI a1, zI a2, zA a3] h (zq_I Q) X := by
  refine zg_startW (own := "MultipoleLineLaw") (by decide +kernel) rfl (Nat.le_of_ble_eq_true rfl) hl (fun Xc ok tab fin hRm hXl hXZ => ?_)
  subst hXl
  subst hXZ
  unfold f_X0_placeIn at hE
  refine zg_aload_n ok dX0_placeIn_0 rfl 3 rfl ?_
  refine zg_iconst (v := 0) ok dX0_placeIn_1 (by decide) ?_
  refine zg_aload_n ok dX0_placeIn_2 rfl 0 rfl ?_
  refine zg_iload_n ok dX0_placeIn_3 rfl 1 rfl ?_
  refine zg_iload_n ok dX0_placeIn_4 rfl 2 rfl ?_
  refine zg_callV (vs := [zI a1, zI a2]) (rest := [.int 0, va_rf a3]) (rm := rm_X1_placeIn) ok hRm lk_X0_122 dX0_placeIn_5 hE (fun hE => mt_X1_placeIn hl hE) rfl (Nat.le_of_ble_eq_true rfl) ⟨⟨Nat.le_of_ble_eq_true rfl, Nat.le_of_ble_eq_true rfl⟩, Nat.le_of_ble_eq_true rfl, Nat.le_of_ble_eq_true rfl⟩ (zg_retI (fun v1 h1 hE => ?_)) (fun E9 q9 h9 hE => ?_)
  · refine zg_cost (kc2 := 296) (ks2 := 2375) ⟨rfl, rfl⟩ ?_
    refine zg_i2l ok dX0_placeIn_8 ?_
    refine zg_last ok dX0_placeIn_9 hE (fun h2 hE => ?_)
    refine zg_goto (tgt := 25) ok dX0_placeIn_10 (by decide) ?_
    refine zg_iconst (v := 0) ok dX0_placeIn_25 (by decide) ?_
    exact zg_iret ok fin dX0_placeIn_26 ⟨Nat.le_of_ble_eq_true rfl, Nat.le_of_ble_eq_true rfl⟩ hE
  · by_cases c9 : E9 = "java/lang/IllegalStateException"
    · rw [if_pos c9] at hE
      subst c9
      refine zg_catch ok tab ((tableOf [((0 : Nat), (10 : Nat), (13 : Nat), (20 : Nat)), ((0 : Nat), (10 : Nat), (17 : Nat), (13 : Nat)), ((0 : Nat), (10 : Nat), (21 : Nat), (15 : Nat))]).take 0) ((tableOf [((0 : Nat), (10 : Nat), (13 : Nat), (20 : Nat)), ((0 : Nat), (10 : Nat), (17 : Nat), (13 : Nat)), ((0 : Nat), (10 : Nat), (21 : Nat), (15 : Nat))])[0]) ((tableOf [((0 : Nat), (10 : Nat), (13 : Nat), (20 : Nat)), ((0 : Nat), (10 : Nat), (17 : Nat), (13 : Nat)), ((0 : Nat), (10 : Nat), (21 : Nat), (15 : Nat))]).drop 1) rfl (fun z hz => by cases hz) (by decide +kernel) (by decide) q1112 q1126 ?_
      refine zg_astoreR (L' := [(4, va_rf (some q9)), (0, va_rf a0), (1, .int a1), (2, .int a2), (3, va_rf a3)]) ok dX0_placeIn_13 (by decide) 3 rfl rfl rfl ?_
      refine zg_iconst (v := 1) ok dX0_placeIn_15 (by decide) ?_
      exact zg_iret ok fin dX0_placeIn_16 ⟨Nat.le_of_ble_eq_true rfl, Nat.le_of_ble_eq_true rfl⟩ hE
    rw [if_neg c9] at hE
    by_cases c9 : E9 = "java/lang/IndexOutOfBoundsException"
    · rw [if_pos c9] at hE
      subst c9
      refine zg_catch ok tab ((tableOf [((0 : Nat), (10 : Nat), (13 : Nat), (20 : Nat)), ((0 : Nat), (10 : Nat), (17 : Nat), (13 : Nat)), ((0 : Nat), (10 : Nat), (21 : Nat), (15 : Nat))]).take 1) ((tableOf [((0 : Nat), (10 : Nat), (13 : Nat), (20 : Nat)), ((0 : Nat), (10 : Nat), (17 : Nat), (13 : Nat)), ((0 : Nat), (10 : Nat), (21 : Nat), (15 : Nat))])[1]) ((tableOf [((0 : Nat), (10 : Nat), (13 : Nat), (20 : Nat)), ((0 : Nat), (10 : Nat), (17 : Nat), (13 : Nat)), ((0 : Nat), (10 : Nat), (21 : Nat), (15 : Nat))]).drop 2) rfl (by
          intro z hz
          cases hz with
          | head => exact Or.inr ⟨by decide, "java/lang/IllegalStateException", q1112, List.mem_of_getElem? (i := 3) rfl⟩
          | tail _ hz =>
            cases hz) (by decide +kernel) (by decide) q274 q368 ?_
      refine zg_astoreR (L' := [(4, va_rf (some q9)), (0, va_rf a0), (1, .int a1), (2, .int a2), (3, va_rf a3)]) ok dX0_placeIn_17 (by decide) 3 rfl rfl rfl ?_
      refine zg_iconst (v := 2) ok dX0_placeIn_19 (by decide) ?_
      exact zg_iret ok fin dX0_placeIn_20 ⟨Nat.le_of_ble_eq_true rfl, Nat.le_of_ble_eq_true rfl⟩ hE
    rw [if_neg c9] at hE
    by_cases c9 : E9 = "java/lang/IllegalArgumentException"
    · rw [if_pos c9] at hE
      subst c9
      refine zg_catch ok tab ((tableOf [((0 : Nat), (10 : Nat), (13 : Nat), (20 : Nat)), ((0 : Nat), (10 : Nat), (17 : Nat), (13 : Nat)), ((0 : Nat), (10 : Nat), (21 : Nat), (15 : Nat))]).take 2) ((tableOf [((0 : Nat), (10 : Nat), (13 : Nat), (20 : Nat)), ((0 : Nat), (10 : Nat), (17 : Nat), (13 : Nat)), ((0 : Nat), (10 : Nat), (21 : Nat), (15 : Nat))])[2]) ((tableOf [((0 : Nat), (10 : Nat), (13 : Nat), (20 : Nat)), ((0 : Nat), (10 : Nat), (17 : Nat), (13 : Nat)), ((0 : Nat), (10 : Nat), (21 : Nat), (15 : Nat))]).drop 3) rfl (by
          intro z hz
          cases hz with
          | head => exact Or.inr ⟨by decide, "java/lang/IllegalStateException", q1112, List.mem_of_getElem? (i := 5) rfl⟩
          | tail _ hz =>
            cases hz with
            | head => exact Or.inr ⟨by decide, "java/lang/IndexOutOfBoundsException", q274, List.mem_of_getElem? (i := 6) rfl⟩
            | tail _ hz =>
              cases hz) (by decide +kernel) (by decide) q354 q652 ?_
      refine zg_astoreR (L' := [(4, va_rf (some q9)), (0, va_rf a0), (1, .int a1), (2, .int a2), (3, va_rf a3)]) ok dX0_placeIn_21 (by decide) 3 rfl rfl rfl ?_
      refine zg_iconst (v := 3) ok dX0_placeIn_23 (by decide) ?_
      exact zg_iret ok fin dX0_placeIn_24 ⟨Nat.le_of_ble_eq_true rfl, Nat.le_of_ble_eq_true rfl⟩ hE
    rw [if_neg c9] at hE
    exact hE.elim
