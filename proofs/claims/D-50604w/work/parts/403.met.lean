set_option maxRecDepth 100000
set_option maxHeartbeats 8000000 in
theorem gt_f_X3_line_J151 {Xc : zw_X} {Q : zw_H → Prop} {X : String → Nat → zw_H → Prop} (hl : (zw_l Xc).stackTraces = false) (ok : zw_ok Xc cX3_line "MultipoleLine$Parser" yX3_line.name 5) (tab : zw_tab Xc []) (fin : zw_fin Xc (Option.none : Option Jvm.ClassFile.FieldType) (zq_V Q) X 29 291) (hRm : zw_rm Xc = rm_X3_line)   {s0 : Int32} {s1 : Int32} {s2 : Option Nat} {s3 : Option Nat} {h : zw_H} (hE : f_X3_line_J151 (zw_Zf Xc).2.2.2 Q X  s0 s1 s2 s3 h) : zw_G Xc 28 251 5 h 151 [] [.int s0, .int s1, va_rf s2, va_rf s3] := by
  unfold f_X3_line_J151 at hE
  refine zg_iconst (v := 0) ok dX3_line_151 (by decide) ?_
  rcases od_some hE with ⟨a9, hr9, hE⟩ | ⟨a9, hr9, hE⟩
  · refine zg_callU (vs := [zI s1, zI s0, zI 0]) (rest := [va_rf s3]) (rm := rm_X7_be) ok hRm lk_X3_130_6 dX3_line_152 hE (fun hE => mt_X7_be hl hE) rfl (Nat.le_of_ble_eq_true rfl) ⟨⟨Nat.le_of_ble_eq_true rfl, Nat.le_of_ble_eq_true rfl⟩, Nat.le_of_ble_eq_true rfl, Nat.le_of_ble_eq_true rfl⟩ (zg_retA (fun v12 h12 hE => ?_)) (zg_xok ok tab fin ⟨Nat.le_of_ble_eq_true rfl, Nat.le_of_ble_eq_true rfl⟩)
    refine zg_wide (kc2 := 28) (ks2 := 251) (Nat.le_of_ble_eq_true rfl) (Nat.le_of_ble_eq_true rfl) ?_
    refine zg_callF (vs := [zA v12]) (rest := []) (rm := rm_J12_add) ok hRm lk_X3_136 dX3_line_155 hE (fun hE => mt_J12_add hl hE) rfl (Nat.le_of_ble_eq_true rfl) ⟨⟨Nat.le_of_ble_eq_true rfl, Nat.le_of_ble_eq_true rfl⟩, Nat.le_of_ble_eq_true rfl, Nat.le_of_ble_eq_true rfl⟩ (zg_retI (fun v13 h13 hE => ?_)) (zg_xok ok tab fin ⟨Nat.le_of_ble_eq_true rfl, Nat.le_of_ble_eq_true rfl⟩)
    refine zg_cost (kc2 := 29) (ks2 := 291) ⟨rfl, rfl⟩ ?_
    refine zg_pop ok dX3_line_160 rfl ?_
    exact zg_vret ok fin dX3_line_161 ⟨Nat.le_of_ble_eq_true rfl, Nat.le_of_ble_eq_true rfl⟩ hE
  · refine zg_callU (vs := [zI s1, zI s0, zI 0]) (rest := [va_rf s3]) (rm := rm_X7_be) ok hRm lk_X3_130_7 dX3_line_152 hE (fun hE => mt_X7_be hl hE) rfl (Nat.le_of_ble_eq_true rfl) ⟨⟨Nat.le_of_ble_eq_true rfl, Nat.le_of_ble_eq_true rfl⟩, Nat.le_of_ble_eq_true rfl, Nat.le_of_ble_eq_true rfl⟩ (zg_retA (fun v12 h12 hE => ?_)) (zg_xok ok tab fin ⟨Nat.le_of_ble_eq_true rfl, Nat.le_of_ble_eq_true rfl⟩)
    refine zg_wide (kc2 := 28) (ks2 := 251) (Nat.le_of_ble_eq_true rfl) (Nat.le_of_ble_eq_true rfl) ?_
    refine zg_callF (vs := [zA v12]) (rest := []) (rm := rm_J12_add) ok hRm lk_X3_136 dX3_line_155 hE (fun hE => mt_J12_add hl hE) rfl (Nat.le_of_ble_eq_true rfl) ⟨⟨Nat.le_of_ble_eq_true rfl, Nat.le_of_ble_eq_true rfl⟩, Nat.le_of_ble_eq_true rfl, Nat.le_of_ble_eq_true rfl⟩ (zg_retI (fun v13 h13 hE => ?_)) (zg_xok ok tab fin ⟨Nat.le_of_ble_eq_true rfl, Nat.le_of_ble_eq_true rfl⟩)
    refine zg_cost (kc2 := 29) (ks2 := 291) ⟨rfl, rfl⟩ ?_
    refine zg_pop ok dX3_line_160 rfl ?_
    exact zg_vret ok fin dX3_line_161 ⟨Nat.le_of_ble_eq_true rfl, Nat.le_of_ble_eq_true rfl⟩ hE
set_option maxHeartbeats 8000000 in
theorem gt_f_X3_line_J118 {Xc : zw_X} {Q : zw_H → Prop} {X : String → Nat → zw_H → Prop} (hl : (zw_l Xc).stackTraces = false) (ok : zw_ok Xc cX3_line "MultipoleLine$Parser" yX3_line.name 5) (tab : zw_tab Xc []) (fin : zw_fin Xc (Option.none : Option Jvm.ClassFile.FieldType) (zq_V Q) X 29 291) (hRm : zw_rm Xc = rm_X3_line)  {l0 : Option Nat} {l1 : Int32} {l2 : Int32} {l3 : Int32}  {h : zw_H} (hE : f_X3_line_J118 (zw_Zf Xc).2.2.2 Q X  l0 l1 l2 l3 h) : zw_G Xc 17 160 5 h 118 [(0, va_rf l0), (1, .int l1), (2, .int l2), (3, .int l3)] [] := by
  unfold f_X3_line_J118 at hE
  refine zg_aload_n ok dX3_line_118 rfl 0 rfl ?_
  refine zg_iconst (v := 1) ok dX3_line_119 (by decide) ?_
  refine zg_bipush (v := 99) ok dX3_line_120 (by decide) ?_
  refine zg_callV (vs := [zI 1, zI 99]) (rest := []) (rm := rm_X3_number) ok hRm lk_X3_119 dX3_line_122 hE (fun hE => mt_X3_number hl hE) rfl (Nat.le_of_ble_eq_true rfl) ⟨⟨Nat.le_of_ble_eq_true rfl, Nat.le_of_ble_eq_true rfl⟩, Nat.le_of_ble_eq_true rfl, Nat.le_of_ble_eq_true rfl⟩ (zg_retI (fun v8 h10 hE => ?_)) (zg_xok ok tab fin ⟨Nat.le_of_ble_eq_true rfl, Nat.le_of_ble_eq_true rfl⟩)
  refine zg_cost (kc2 := 23) (ks2 := 216) ⟨rfl, rfl⟩ ?_
  refine zg_istore (L' := [(4, .int v8), (0, va_rf l0), (1, .int l1), (2, .int l2), (3, .int l3)]) ok dX3_line_125 (by decide) rfl ?_
  refine zg_aload_n ok dX3_line_127 rfl 1 rfl ?_
  refine zg_getA ok lf_X3_18 dX3_line_128 hE (fun v9 hE => ?_)
  refine zg_getA ok lf_X3_122 dX3_line_131 hE (fun v10 hE => ?_)
  refine zg_iload_n ok dX3_line_134 rfl 2 rfl ?_
  refine zg_callSN (vs := [zI l1]) (rest := [va_rf v10]) (rm := rm_X1_body) ok hRm lk_X3_126 dX3_line_135 hE (fun hE => mt_X1_body hl hE) rfl (Nat.le_of_ble_eq_true rfl) ⟨⟨Nat.le_of_ble_eq_true rfl, Nat.le_of_ble_eq_true rfl⟩, Nat.le_of_ble_eq_true rfl, Nat.le_of_ble_eq_true rfl⟩ (zg_retA (fun v11 h11 hE => ?_)) (zg_xok ok tab fin ⟨Nat.le_of_ble_eq_true rfl, Nat.le_of_ble_eq_true rfl⟩)
  refine zg_cost (kc2 := 28) (ks2 := 251) ⟨rfl, rfl⟩ ?_
  refine zg_iload_n ok dX3_line_138 rfl 3 rfl ?_
  refine zg_iload_n ok dX3_line_139 rfl 4 rfl ?_
  refine zg_if_eq (tgt := 149) ok dX3_line_140 (by decide) hE (fun hE => ?_) (fun hE => ?_)
  · refine zg_iload ok dX3_line_149 0 rfl ?_
    refine zg_sub (L' := []) [] rfl ?_
    exact gt_f_X3_line_J151 hl ok tab fin hRm  hE
  · refine zg_iload ok dX3_line_143 0 rfl ?_
    refine zg_ineg ok dX3_line_145 ?_
    refine zg_goto (tgt := 151) ok dX3_line_146 (by decide) ?_
    refine zg_sub (L' := []) [] rfl ?_
    exact gt_f_X3_line_J151 hl ok tab fin hRm  hE
set_option maxHeartbeats 8000000 in
theorem gt_f_X3_line_J92 {Xc : zw_X} {Q : zw_H → Prop} {X : String → Nat → zw_H → Prop} (hl : (zw_l Xc).stackTraces = false) (ok : zw_ok Xc cX3_line "MultipoleLine$Parser" yX3_line.name 5) (tab : zw_tab Xc []) (fin : zw_fin Xc (Option.none : Option Jvm.ClassFile.FieldType) (zq_V Q) X 29 291) (hRm : zw_rm Xc = rm_X3_line)  {l0 : Option Nat} {l1 : Int32} {l2 : Int32} {s0 : Int32} {s1 : Option Nat} {h : zw_H} (hE : f_X3_line_J92 (zw_Zf Xc).2.2.2 Q X  l0 l1 l2 s0 s1 h) : zw_G Xc 8 72 5 h 92 [(0, va_rf l0), (1, .int l1), (2, .int l2)] [.int s0, va_rf s1] := by
  unfold f_X3_line_J92 at hE
  refine zg_iconst (v := 3) ok dX3_line_92 (by decide) ?_
  refine zg_callV (vs := [zI s0, zI 3]) (rest := []) (rm := rm_X3_check) ok hRm lk_X3_91 dX3_line_93 hE (fun hE => mt_X3_check hl hE) rfl (Nat.le_of_ble_eq_true rfl) ⟨⟨Nat.le_of_ble_eq_true rfl, Nat.le_of_ble_eq_true rfl⟩, Nat.le_of_ble_eq_true rfl, Nat.le_of_ble_eq_true rfl⟩ (zg_retV (fun h7 hE => ?_)) (zg_xok ok tab fin ⟨Nat.le_of_ble_eq_true rfl, Nat.le_of_ble_eq_true rfl⟩)
  refine zg_cost (kc2 := 9) (ks2 := 80) ⟨rfl, rfl⟩ ?_
  refine zg_aload_n ok dX3_line_96 rfl 0 rfl ?_
  refine zg_callV (vs := []) (rest := []) (rm := rm_X3_step) ok hRm lk_X3_32 dX3_line_97 hE (fun hE => mt_X3_step hl hE) rfl (Nat.le_of_ble_eq_true rfl) ⟨⟨Nat.le_of_ble_eq_true rfl, Nat.le_of_ble_eq_true rfl⟩, Nat.le_of_ble_eq_true rfl, Nat.le_of_ble_eq_true rfl⟩ (zg_retV (fun h8 hE => ?_)) (zg_xok ok tab fin ⟨Nat.le_of_ble_eq_true rfl, Nat.le_of_ble_eq_true rfl⟩)
  refine zg_cost (kc2 := 13) (ks2 := 120) ⟨rfl, rfl⟩ ?_
  refine zg_aload_n ok dX3_line_100 rfl 0 rfl ?_
  refine zg_getA ok lf_X3_24 dX3_line_101 hE (fun v6 hE => ?_)
  refine zg_ldcS ok ls_X3_117 dX3_line_104 ?_
  refine zg_callV (vs := [zA ((zw_Zf Xc).2.2.2 27)]) (rest := []) (rm := rm_J4_equals) ok hRm lk_X3_101 dX3_line_106 hE (fun hE => mt_J4_equals hl hE) rfl (Nat.le_of_ble_eq_true rfl) ⟨⟨Nat.le_of_ble_eq_true rfl, Nat.le_of_ble_eq_true rfl⟩, Nat.le_of_ble_eq_true rfl, Nat.le_of_ble_eq_true rfl⟩ (zg_retI (fun v7 h9 hE => ?_)) (zg_xok ok tab fin ⟨Nat.le_of_ble_eq_true rfl, Nat.le_of_ble_eq_true rfl⟩)
  refine zg_cost (kc2 := 13) (ks2 := 120) ⟨rfl, rfl⟩ ?_
  refine zg_istore_n (L' := [(3, .int v7), (0, va_rf l0), (1, .int l1), (2, .int l2)]) ok dX3_line_109 rfl (by decide) rfl ?_
  refine zg_iload_n ok dX3_line_110 rfl 0 rfl ?_
  refine zg_if_eq (tgt := 118) ok dX3_line_111 (by decide) hE (fun hE => ?_) (fun hE => ?_)
  · refine zg_wide (kc2 := 17) (ks2 := 160) (Nat.le_of_ble_eq_true rfl) (Nat.le_of_ble_eq_true rfl) ?_
    refine zg_sub (L' := [(0, va_rf l0), (1, .int l1), (2, .int l2), (3, .int v7)]) [1, 2, 3, 0] rfl ?_
    exact gt_f_X3_line_J118 hl ok tab fin hRm  hE
  · refine zg_aload_n ok dX3_line_114 rfl 1 rfl ?_
    refine zg_callV (vs := []) (rest := []) (rm := rm_X3_step) ok hRm lk_X3_32 dX3_line_115 hE (fun hE => mt_X3_step hl hE) rfl (Nat.le_of_ble_eq_true rfl) ⟨⟨Nat.le_of_ble_eq_true rfl, Nat.le_of_ble_eq_true rfl⟩, Nat.le_of_ble_eq_true rfl, Nat.le_of_ble_eq_true rfl⟩ (zg_retV (fun h14 hE => ?_)) (zg_xok ok tab fin ⟨Nat.le_of_ble_eq_true rfl, Nat.le_of_ble_eq_true rfl⟩)
    refine zg_cost (kc2 := 17) (ks2 := 160) ⟨rfl, rfl⟩ ?_
    refine zg_sub (L' := [(0, va_rf l0), (1, .int l1), (2, .int l2), (3, .int v7)]) [1, 2, 3, 0] rfl ?_
    exact gt_f_X3_line_J118 hl ok tab fin hRm  hE
set_option maxHeartbeats 8000000 in
theorem gt_f_X3_line_J87 {Xc : zw_X} {Q : zw_H → Prop} {X : String → Nat → zw_H → Prop} (hl : (zw_l Xc).stackTraces = false) (ok : zw_ok Xc cX3_line "MultipoleLine$Parser" yX3_line.name 5) (tab : zw_tab Xc []) (fin : zw_fin Xc (Option.none : Option Jvm.ClassFile.FieldType) (zq_V Q) X 29 291) (hRm : zw_rm Xc = rm_X3_line)  {l0 : Option Nat} {l1 : Int32} {l2 : Int32} {s0 : Option Nat} {h : zw_H} (hE : f_X3_line_J87 (zw_Zf Xc).2.2.2 Q X  l0 l1 l2 s0 h) : zw_G Xc 8 72 5 h 87 [(0, va_rf l0), (1, .int l1), (2, .int l2)] [va_rf s0] := by
  unfold f_X3_line_J87 at hE
  refine zg_iconst (v := 1) ok dX3_line_87 (by decide) ?_
  refine zg_goto (tgt := 92) ok dX3_line_88 (by decide) ?_
  exact gt_f_X3_line_J92 hl ok tab fin hRm  hE
set_option maxHeartbeats 8000000 in
theorem gt_f_X3_line_J54 {Xc : zw_X} {Q : zw_H → Prop} {X : String → Nat → zw_H → Prop} (hl : (zw_l Xc).stackTraces = false) (ok : zw_ok Xc cX3_line "MultipoleLine$Parser" yX3_line.name 5) (tab : zw_tab Xc []) (fin : zw_fin Xc (Option.none : Option Jvm.ClassFile.FieldType) (zq_V Q) X 29 291) (hRm : zw_rm Xc = rm_X3_line)  {l0 : Option Nat} {l1 : Int32} {s0 : Int32} {s1 : Option Nat} {h : zw_H} (hE : f_X3_line_J54 (zw_Zf Xc).2.2.2 Q X  l0 l1 s0 s1 h) : zw_G Xc 1 8 5 h 54 [(0, va_rf l0), (1, .int l1)] [.int s0, va_rf s1] := by
  unfold f_X3_line_J54 at hE
  refine zg_iconst (v := 4) ok dX3_line_54 (by decide) ?_
  refine zg_callV (vs := [zI s0, zI 4]) (rest := []) (rm := rm_X3_check) ok hRm lk_X3_91 dX3_line_55 hE (fun hE => mt_X3_check hl hE) rfl (Nat.le_of_ble_eq_true rfl) ⟨⟨Nat.le_of_ble_eq_true rfl, Nat.le_of_ble_eq_true rfl⟩, Nat.le_of_ble_eq_true rfl, Nat.le_of_ble_eq_true rfl⟩ (zg_retV (fun h4 hE => ?_)) (zg_xok ok tab fin ⟨Nat.le_of_ble_eq_true rfl, Nat.le_of_ble_eq_true rfl⟩)
  refine zg_cost (kc2 := 2) (ks2 := 16) ⟨rfl, rfl⟩ ?_
  refine zg_aload_n ok dX3_line_58 rfl 0 rfl ?_
  refine zg_callV (vs := []) (rest := []) (rm := rm_X3_step) ok hRm lk_X3_32 dX3_line_59 hE (fun hE => mt_X3_step hl hE) rfl (Nat.le_of_ble_eq_true rfl) ⟨⟨Nat.le_of_ble_eq_true rfl, Nat.le_of_ble_eq_true rfl⟩, Nat.le_of_ble_eq_true rfl, Nat.le_of_ble_eq_true rfl⟩ (zg_retV (fun h5 hE => ?_)) (zg_xok ok tab fin ⟨Nat.le_of_ble_eq_true rfl, Nat.le_of_ble_eq_true rfl⟩)
  refine zg_cost (kc2 := 6) (ks2 := 56) ⟨rfl, rfl⟩ ?_
  refine zg_aload_n ok dX3_line_62 rfl 0 rfl ?_
  refine zg_iconst (v := 0) ok dX3_line_63 (by decide) ?_
  refine zg_sipush (v := 255) ok dX3_line_64 (by decide) ?_
  refine zg_callV (vs := [zI 0, zI 255]) (rest := []) (rm := rm_X3_looks) ok hRm lk_X3_95 dX3_line_67 hE (fun hE => mt_X3_looks hl hE) rfl (Nat.le_of_ble_eq_true rfl) ⟨⟨Nat.le_of_ble_eq_true rfl, Nat.le_of_ble_eq_true rfl⟩, Nat.le_of_ble_eq_true rfl, Nat.le_of_ble_eq_true rfl⟩ (zg_retI (fun v5 h6 hE => ?_)) (zg_xok ok tab fin ⟨Nat.le_of_ble_eq_true rfl, Nat.le_of_ble_eq_true rfl⟩)
  refine zg_cost (kc2 := 8) (ks2 := 72) ⟨rfl, rfl⟩ ?_
  refine zg_istore_n (L' := [(2, .int v5), (0, va_rf l0), (1, .int l1)]) ok dX3_line_70 rfl (by decide) rfl ?_
  refine zg_aload_n ok dX3_line_71 rfl 1 rfl ?_
  refine zg_iload_n ok dX3_line_72 rfl 2 rfl ?_
  refine zg_if_eq (tgt := 87) ok dX3_line_73 (by decide) hE (fun hE => ?_) (fun hE => ?_)
  · refine zg_sub (L' := [(0, va_rf l0), (1, .int l1), (2, .int v5)]) [1, 2, 0] rfl ?_
    exact gt_f_X3_line_J87 hl ok tab fin hRm  hE
  · refine zg_aload_n ok dX3_line_76 rfl 1 rfl ?_
    refine zg_getA ok lf_X3_18 dX3_line_77 hE (fun v14 hE => ?_)
    refine zg_iload_n ok dX3_line_80 rfl 0 rfl ?_
    refine zg_callV (vs := [zI v5]) (rest := [va_rf l0]) (rm := rm_X4_hasFixed) ok hRm lk_X3_113 dX3_line_81 hE (fun hE => mt_X4_hasFixed hl hE) rfl (Nat.le_of_ble_eq_true rfl) ⟨⟨Nat.le_of_ble_eq_true rfl, Nat.le_of_ble_eq_true rfl⟩, Nat.le_of_ble_eq_true rfl, Nat.le_of_ble_eq_true rfl⟩ (zg_retI (fun v15 h15 hE => ?_)) (zg_xok ok tab fin ⟨Nat.le_of_ble_eq_true rfl, Nat.le_of_ble_eq_true rfl⟩)
    refine zg_cost (kc2 := 8) (ks2 := 72) ⟨rfl, rfl⟩ ?_
    refine zg_if_ne (tgt := 91) ok dX3_line_84 (by decide) hE (fun hE => ?_) (fun hE => ?_)
    · refine zg_iconst (v := 0) ok dX3_line_91 (by decide) ?_
      refine zg_sub (L' := [(0, va_rf l0), (1, .int l1), (2, .int v5)]) [1, 2, 0] rfl ?_
      exact gt_f_X3_line_J92 hl ok tab fin hRm  hE
    · refine zg_sub (L' := [(0, va_rf l0), (1, .int l1), (2, .int v5)]) [1, 2, 0] rfl ?_
      exact gt_f_X3_line_J87 hl ok tab fin hRm  hE
set_option maxHeartbeats 8000000 in
theorem gt_f_X3_line_J32 {Xc : zw_X} {Q : zw_H → Prop} {X : String → Nat → zw_H → Prop} (hl : (zw_l Xc).stackTraces = false) (ok : zw_ok Xc cX3_line "MultipoleLine$Parser" yX3_line.name 5) (tab : zw_tab Xc []) (fin : zw_fin Xc (Option.none : Option Jvm.ClassFile.FieldType) (zq_V Q) X 29 291) (hRm : zw_rm Xc = rm_X3_line)  {l0 : Option Nat} {l1 : Int32} {s0 : Int32} {s1 : Option Nat} {h : zw_H} (hE : f_X3_line_J32 (zw_Zf Xc).2.2.2 Q X  l0 l1 s0 s1 h) : zw_G Xc 0 0 5 h 32 [(0, va_rf l0), (1, .int l1)] [.int s0, va_rf s1] := by
  unfold f_X3_line_J32 at hE
  refine zg_iconst (v := 1) ok dX3_line_32 (by decide) ?_
  refine zg_callV (vs := [zI s0, zI 1]) (rest := []) (rm := rm_X3_check) ok hRm lk_X3_91 dX3_line_33 hE (fun hE => mt_X3_check hl hE) rfl (Nat.le_of_ble_eq_true rfl) ⟨⟨Nat.le_of_ble_eq_true rfl, Nat.le_of_ble_eq_true rfl⟩, Nat.le_of_ble_eq_true rfl, Nat.le_of_ble_eq_true rfl⟩ (zg_retV (fun h2 hE => ?_)) (zg_xok ok tab fin ⟨Nat.le_of_ble_eq_true rfl, Nat.le_of_ble_eq_true rfl⟩)
  refine zg_cost (kc2 := 1) (ks2 := 8) ⟨rfl, rfl⟩ ?_
  refine zg_aload_n ok dX3_line_36 rfl 0 rfl ?_
  refine zg_aload_n ok dX3_line_37 rfl 0 rfl ?_
  refine zg_getA ok lf_X3_18 dX3_line_38 hE (fun v3 hE => ?_)
  refine zg_callV (vs := []) (rest := [va_rf l0]) (rm := rm_X4_size) ok hRm lk_X3_109 dX3_line_41 hE (fun hE => mt_X4_size hl hE) rfl (Nat.le_of_ble_eq_true rfl) ⟨⟨Nat.le_of_ble_eq_true rfl, Nat.le_of_ble_eq_true rfl⟩, Nat.le_of_ble_eq_true rfl, Nat.le_of_ble_eq_true rfl⟩ (zg_retI (fun v4 h3 hE => ?_)) (zg_xok ok tab fin ⟨Nat.le_of_ble_eq_true rfl, Nat.le_of_ble_eq_true rfl⟩)
  refine zg_cost (kc2 := 1) (ks2 := 8) ⟨rfl, rfl⟩ ?_
  refine zg_bipush (v := 24) ok dX3_line_44 (by decide) ?_
  refine zg_icmp_ge (tgt := 53) ok dX3_line_46 (by decide) hE (fun hE => ?_) (fun hE => ?_)
  · refine zg_iconst (v := 0) ok dX3_line_53 (by decide) ?_
    exact gt_f_X3_line_J54 hl ok tab fin hRm  hE
  · refine zg_iconst (v := 1) ok dX3_line_49 (by decide) ?_
    refine zg_goto (tgt := 54) ok dX3_line_50 (by decide) ?_
    exact gt_f_X3_line_J54 hl ok tab fin hRm  hE
set_option maxHeartbeats 8000000 in
theorem gt_f_X3_line_J27 {Xc : zw_X} {Q : zw_H → Prop} {X : String → Nat → zw_H → Prop} (hl : (zw_l Xc).stackTraces = false) (ok : zw_ok Xc cX3_line "MultipoleLine$Parser" yX3_line.name 5) (tab : zw_tab Xc []) (fin : zw_fin Xc (Option.none : Option Jvm.ClassFile.FieldType) (zq_V Q) X 29 291) (hRm : zw_rm Xc = rm_X3_line)  {l0 : Option Nat} {l1 : Int32} {s0 : Option Nat} {h : zw_H} (hE : f_X3_line_J27 (zw_Zf Xc).2.2.2 Q X  l0 l1 s0 h) : zw_G Xc 0 0 5 h 27 [(0, va_rf l0), (1, .int l1)] [va_rf s0] := by
  unfold f_X3_line_J27 at hE
  refine zg_iconst (v := 1) ok dX3_line_27 (by decide) ?_
  refine zg_goto (tgt := 32) ok dX3_line_28 (by decide) ?_
  exact gt_f_X3_line_J32 hl ok tab fin hRm  hE
set_option maxHeartbeats 8000000 in
theorem mt_X3_line {l : Launch} (hl : l.stackTraces = false) {Z : zw_Z} {a0 : Option Nat} {h : zw_H} {Q : zw_H → Prop} {X : String → Nat → zw_H → Prop} (hE : f_X3_line Z.2.2.2 a0 h Q X) : zw_Met l Z yX3_line (ws_ yX3_line cX3_line 5 (Option.none : Option Jvm.ClassFile.FieldType)) rm_X3_line [zA a0] h (zq_V Q) X := by
  refine zg_start (own := "MultipoleLine$Parser") (by decide +kernel) rfl (Nat.le_of_ble_eq_true rfl) hl (fun Xc ok tab fin hRm hXl hXZ => ?_)
  subst hXl
  subst hXZ
  unfold f_X3_line at hE
  refine zg_aload_n ok dX3_line_0 rfl 0 rfl ?_
  refine zg_getA ok lf_X3_24 dX3_line_1 hE (fun v1 hE => ?_)
  refine zg_ldcS ok ls_X3_99 dX3_line_4 ?_
  refine zg_callV (vs := [zA ((zw_Zf Xc).2.2.2 25)]) (rest := []) (rm := rm_J4_equals) ok hRm lk_X3_101 dX3_line_6 hE (fun hE => mt_J4_equals hl hE) rfl (Nat.le_of_ble_eq_true rfl) ⟨⟨Nat.le_of_ble_eq_true rfl, Nat.le_of_ble_eq_true rfl⟩, Nat.le_of_ble_eq_true rfl, Nat.le_of_ble_eq_true rfl⟩ (zg_retI (fun v2 h1 hE => ?_)) (zg_xok ok tab fin ⟨Nat.le_of_ble_eq_true rfl, Nat.le_of_ble_eq_true rfl⟩)
  refine zg_cost (kc2 := 0) (ks2 := 0) ⟨rfl, rfl⟩ ?_
  refine zg_istore_nR (L' := [(1, .int v2), (0, va_rf a0)]) ok dX3_line_9 rfl (by decide) 0 rfl rfl rfl ?_
  refine zg_aload_n ok dX3_line_10 rfl 1 rfl ?_
  refine zg_iload_n ok dX3_line_11 rfl 0 rfl ?_
  refine zg_if_ne (tgt := 27) ok dX3_line_12 (by decide) hE (fun hE => ?_) (fun hE => ?_)
  · refine zg_sub (L' := [(0, va_rf a0), (1, .int v2)]) [1, 0] rfl ?_
    exact gt_f_X3_line_J27 hl ok tab fin hRm  hE
  · refine zg_aload_n ok dX3_line_15 rfl 1 rfl ?_
    refine zg_getA ok lf_X3_24 dX3_line_16 hE (fun v16 hE => ?_)
    refine zg_ldcS ok ls_X3_107 dX3_line_19 ?_
    refine zg_callV (vs := [zA ((zw_Zf Xc).2.2.2 26)]) (rest := [va_rf a0]) (rm := rm_J4_equals) ok hRm lk_X3_101 dX3_line_21 hE (fun hE => mt_J4_equals hl hE) rfl (Nat.le_of_ble_eq_true rfl) ⟨⟨Nat.le_of_ble_eq_true rfl, Nat.le_of_ble_eq_true rfl⟩, Nat.le_of_ble_eq_true rfl, Nat.le_of_ble_eq_true rfl⟩ (zg_retI (fun v17 h16 hE => ?_)) (zg_xok ok tab fin ⟨Nat.le_of_ble_eq_true rfl, Nat.le_of_ble_eq_true rfl⟩)
    refine zg_cost (kc2 := 0) (ks2 := 0) ⟨rfl, rfl⟩ ?_
    refine zg_if_eq (tgt := 31) ok dX3_line_24 (by decide) hE (fun hE => ?_) (fun hE => ?_)
    · refine zg_iconst (v := 0) ok dX3_line_31 (by decide) ?_
      refine zg_sub (L' := [(0, va_rf a0), (1, .int v2)]) [1, 0] rfl ?_
      exact gt_f_X3_line_J32 hl ok tab fin hRm  hE
    · refine zg_sub (L' := [(0, va_rf a0), (1, .int v2)]) [1, 0] rfl ?_
      exact gt_f_X3_line_J27 hl ok tab fin hRm  hE
set_option maxHeartbeats 8000000 in
theorem gt_f_X3_parse_B20 {Xc : zw_X} {Q : Option Nat → zw_H → Prop} {X : String → Nat → zw_H → Prop} (hl : (zw_l Xc).stackTraces = false) (ok : zw_ok Xc cX3_parse "MultipoleLine$Parser" yX3_parse.name 2) (tab : zw_tab Xc []) (fin : zw_fin Xc (Option.some (Jvm.ClassFile.FieldType.object "MultipoleLine$Line")) (zq_A Q) X 889 8894) (hRm : zw_rm Xc = rm_X3_parse) {kb sb KE SE : Nat} (hk : kb + 6 ≤ KE ∧ sb + 56 ≤ SE) (hKE : KE ≤ 889 ∧ SE ≤ 8894) {R : Int32 → zw_H → Prop} {l0 : Option Nat} (hR : ∀ (l1 : Int32) (h : zw_H), R l1 h → zw_G Xc (kb + 6) (sb + 56) 2 h 20 [(0, va_rf l0), (1, .int l1)] []) {k52 : zw_H → Prop} (hk52 : ∀  (h : zw_H), k52  h → zw_G Xc KE SE 2 h 52 [(0, va_rf l0)] [])  {l1 : Int32} {h : zw_H} (hE : f_X3_parse_B20 (zw_Zf Xc).2.2.2 Q X k52 l0 R l1 h) : zw_G Xc kb sb 2 h 20 [(0, va_rf l0), (1, .int l1)] [] := by
  unfold f_X3_parse_B20 at hE
  refine zg_iload_n ok dX3_parse_20 rfl 1 rfl ?_
  refine zg_bipush (v := 6) ok dX3_parse_21 (by decide) ?_
  refine zg_icmp_ge (tgt := 52) ok dX3_parse_23 (by decide) hE (fun hE => ?_) (fun hE => ?_)
  · refine zg_wide (kc2 := KE) (ks2 := SE) (by omega) (by omega) ?_
    refine zg_sub (L' := [(0, va_rf l0)]) [0] rfl ?_
    exact hk52 _ hE
  · refine zg_aload_n ok dX3_parse_26 rfl 0 rfl ?_
    refine zg_getA ok lf_X3_18 dX3_parse_27 hE (fun v3 hE => ?_)
    refine zg_iload_n ok dX3_parse_30 rfl 1 rfl ?_
    refine zg_aload_n ok dX3_parse_31 rfl 0 rfl ?_
    refine zg_iload_n ok dX3_parse_32 rfl 1 rfl ?_
    refine zg_callS (vs := [zI l1]) (rest := [va_rf l0, .int l1, va_rf v3]) (rm := rm_X4_low) ok hRm lk_X3_143 dX3_parse_33 hE (fun hE => mt_X4_low hl hE) rfl (Nat.le_of_ble_eq_true rfl) ⟨⟨Nat.le_of_ble_eq_true rfl, Nat.le_of_ble_eq_true rfl⟩, (by show kb + 0 ≤ 889; omega), (by show sb + 0 ≤ 8894; omega)⟩ (zg_retI (fun v4 h4 hE => ?_)) (zg_xok ok tab fin ⟨(by show kb + 0 ≤ 889; omega), (by show sb + 0 ≤ 8894; omega)⟩)
    refine zg_cost (kc2 := kb) (ks2 := sb) ⟨(by show kb + 0 = kb; omega), (by show sb + 0 = sb; omega)⟩ ?_
    refine zg_iload_n ok dX3_parse_36 rfl 1 rfl ?_
    refine zg_callS (vs := [zI l1]) (rest := [.int v4, va_rf l0, .int l1, va_rf v3]) (rm := rm_X4_high) ok hRm lk_X3_146 dX3_parse_37 hE (fun hE => mt_X4_high hl hE) rfl (Nat.le_of_ble_eq_true rfl) ⟨⟨Nat.le_of_ble_eq_true rfl, Nat.le_of_ble_eq_true rfl⟩, (by show kb + 0 ≤ 889; omega), (by show sb + 0 ≤ 8894; omega)⟩ (zg_retI (fun v5 h5 hE => ?_)) (zg_xok ok tab fin ⟨(by show kb + 0 ≤ 889; omega), (by show sb + 0 ≤ 8894; omega)⟩)
    refine zg_cost (kc2 := kb) (ks2 := sb) ⟨(by show kb + 0 = kb; omega), (by show sb + 0 = sb; omega)⟩ ?_
    refine zg_callV (vs := [zI v4, zI v5]) (rest := [.int l1, va_rf v3]) (rm := rm_X3_number) ok hRm lk_X3_119 dX3_parse_40 hE (fun hE => mt_X3_number hl hE) rfl (Nat.le_of_ble_eq_true rfl) ⟨⟨Nat.le_of_ble_eq_true rfl, Nat.le_of_ble_eq_true rfl⟩, (by show kb + 6 ≤ 889; omega), (by show sb + 56 ≤ 8894; omega)⟩ (zg_retI (fun v6 h6 hE => ?_)) (zg_xok ok tab fin ⟨(by show kb + 6 ≤ 889; omega), (by show sb + 56 ≤ 8894; omega)⟩)
    refine zg_cost (kc2 := kb + 6) (ks2 := sb + 56) ⟨(by show kb + 6 = kb + 6; omega), (by show sb + 56 = sb + 56; omega)⟩ ?_
    refine zg_callV (vs := [zI l1, zI v6]) (rest := []) (rm := rm_X4_sets) ok hRm lk_X3_149 dX3_parse_43 hE (fun hE => mt_X4_sets hl hE) rfl (Nat.le_of_ble_eq_true rfl) ⟨⟨Nat.le_of_ble_eq_true rfl, Nat.le_of_ble_eq_true rfl⟩, (by show kb + 6 + 0 ≤ 889; omega), (by show sb + 56 + 0 ≤ 8894; omega)⟩ (zg_retV (fun h7 hE => ?_)) (zg_xok ok tab fin ⟨(by show kb + 6 + 0 ≤ 889; omega), (by show sb + 56 + 0 ≤ 8894; omega)⟩)
    refine zg_cost (kc2 := kb + 6) (ks2 := sb + 56) ⟨(by show kb + 6 + 0 = kb + 6; omega), (by show sb + 56 + 0 = sb + 56; omega)⟩ ?_
    refine zg_iincLR (k := 1) (L' := fun v7 => [(1, .int v7), (0, va_rf l0)]) ok dX3_parse_46 (by decide +kernel) hE rfl (by decide) rfl (k9 := 0) rfl (fun _ => rfl) (fun v7 hE => ?_)
    refine zg_goto (tgt := 20) ok dX3_parse_49 (by decide) ?_
    refine zg_sub (L' := [(0, va_rf l0), (1, .int v7)]) [1, 0] rfl ?_
    exact hR _ _ hE
theorem gt_f_X3_parse_L20 {Xc : zw_X} {Q : Option Nat → zw_H → Prop} {X : String → Nat → zw_H → Prop} (hl : (zw_l Xc).stackTraces = false) (ok : zw_ok Xc cX3_parse "MultipoleLine$Parser" yX3_parse.name 2) (tab : zw_tab Xc []) (fin : zw_fin Xc (Option.some (Jvm.ClassFile.FieldType.object "MultipoleLine$Line")) (zq_A Q) X 889 8894) (hRm : zw_rm Xc = rm_X3_parse) {KE SE : Nat} (hKE : KE ≤ 889 ∧ SE ≤ 8894) {l0 : Option Nat} {k52 : zw_H → Prop} (hk52 : ∀  (h : zw_H), k52  h → zw_G Xc KE SE 2 h 52 [(0, va_rf l0)] [])  : ∀ (n9 kb sb : Nat), kb + n9 * 6 ≤ KE ∧ sb + n9 * 56 ≤ SE → ∀ (l1 : Int32) (h : zw_H), zl2 (f_X3_parse_B20 (zw_Zf Xc).2.2.2 Q X k52 l0) n9 l1 h → zw_G Xc kb sb 2 h 20 [(0, va_rf l0), (1, .int l1)] [] := by
  intro n9
  induction n9 with
  | zero => intro kb sb hk9 l1 h hE; exact hE.elim
  | succ n9 ih => intro kb sb hk9 l1 h hE; exact gt_f_X3_parse_B20 hl ok tab fin hRm ⟨by omega, by omega⟩ hKE (ih (kb + 6) (sb + 56) ⟨by omega, by omega⟩) hk52 hE
set_option maxHeartbeats 8000000 in
theorem gt_f_X3_parse_B52 {Xc : zw_X} {Q : Option Nat → zw_H → Prop} {X : String → Nat → zw_H → Prop} (hl : (zw_l Xc).stackTraces = false) (ok : zw_ok Xc cX3_parse "MultipoleLine$Parser" yX3_parse.name 2) (tab : zw_tab Xc []) (fin : zw_fin Xc (Option.some (Jvm.ClassFile.FieldType.object "MultipoleLine$Line")) (zq_A Q) X 889 8894) (hRm : zw_rm Xc = rm_X3_parse) {kb sb KE SE : Nat} (hk : kb + 33 ≤ KE ∧ sb + 331 ≤ SE) (hKE : KE ≤ 889 ∧ SE ≤ 8894) {R : zw_H → Prop} {l0 : Option Nat} (hR : ∀  (h : zw_H), R  h → zw_G Xc (kb + 33) (sb + 331) 2 h 52 [(0, va_rf l0)] []) {k71 : zw_H → Prop} (hk71 : ∀  (h : zw_H), k71  h → zw_G Xc KE SE 2 h 71 [(0, va_rf l0)] [])   {h : zw_H} (hE : f_X3_parse_B52 (zw_Zf Xc).2.2.2 Q X k71 l0 R  h) : zw_G Xc kb sb 2 h 52 [(0, va_rf l0)] [] := by
  unfold f_X3_parse_B52 at hE
  refine zg_aload_n ok dX3_parse_52 rfl 0 rfl ?_
  refine zg_getI ok lf_X3_64 dX3_parse_53 hE (fun v8 hE => ?_)
  refine zg_iconst (v := 2) ok dX3_parse_56 (by decide) ?_
  refine zg_icmp_ne (tgt := 71) ok dX3_parse_57 (by decide) hE (fun hE => ?_) (fun hE => ?_)
  · refine zg_wide (kc2 := KE) (ks2 := SE) (by omega) (by omega) ?_
    exact hk71 _ hE
  · refine zg_aload_n ok dX3_parse_60 rfl 0 rfl ?_
    refine zg_callV (vs := []) (rest := []) (rm := rm_X3_step) ok hRm lk_X3_32 dX3_parse_61 hE (fun hE => mt_X3_step hl hE) rfl (Nat.le_of_ble_eq_true rfl) ⟨⟨Nat.le_of_ble_eq_true rfl, Nat.le_of_ble_eq_true rfl⟩, (by show kb + 4 ≤ 889; omega), (by show sb + 40 ≤ 8894; omega)⟩ (zg_retV (fun h9 hE => ?_)) (zg_xok ok tab fin ⟨(by show kb + 4 ≤ 889; omega), (by show sb + 40 ≤ 8894; omega)⟩)
    refine zg_cost (kc2 := kb + 4) (ks2 := sb + 40) ⟨(by show kb + 4 = kb + 4; omega), (by show sb + 40 = sb + 40; omega)⟩ ?_
    refine zg_aload_n ok dX3_parse_64 rfl 0 rfl ?_
    refine zg_callV (vs := []) (rest := []) (rm := rm_X3_line) ok hRm lk_X3_152 dX3_parse_65 hE (fun hE => mt_X3_line hl hE) rfl (Nat.le_of_ble_eq_true rfl) ⟨⟨Nat.le_of_ble_eq_true rfl, Nat.le_of_ble_eq_true rfl⟩, (by show kb + 4 + 29 ≤ 889; omega), (by show sb + 40 + 291 ≤ 8894; omega)⟩ (zg_retV (fun h10 hE => ?_)) (zg_xok ok tab fin ⟨(by show kb + 4 + 29 ≤ 889; omega), (by show sb + 40 + 291 ≤ 8894; omega)⟩)
    refine zg_cost (kc2 := kb + 33) (ks2 := sb + 331) ⟨(by show kb + 4 + 29 = kb + 33; omega), (by show sb + 40 + 291 = sb + 331; omega)⟩ ?_
    refine zg_goto (tgt := 52) ok dX3_parse_68 (by decide) ?_
    exact hR _ hE
theorem gt_f_X3_parse_L52 {Xc : zw_X} {Q : Option Nat → zw_H → Prop} {X : String → Nat → zw_H → Prop} (hl : (zw_l Xc).stackTraces = false) (ok : zw_ok Xc cX3_parse "MultipoleLine$Parser" yX3_parse.name 2) (tab : zw_tab Xc []) (fin : zw_fin Xc (Option.some (Jvm.ClassFile.FieldType.object "MultipoleLine$Line")) (zq_A Q) X 889 8894) (hRm : zw_rm Xc = rm_X3_parse) {KE SE : Nat} (hKE : KE ≤ 889 ∧ SE ≤ 8894) {l0 : Option Nat} {k71 : zw_H → Prop} (hk71 : ∀  (h : zw_H), k71  h → zw_G Xc KE SE 2 h 71 [(0, va_rf l0)] [])  : ∀ (n9 kb sb : Nat), kb + n9 * 33 ≤ KE ∧ sb + n9 * 331 ≤ SE → ∀  (h : zw_H), zl1 (f_X3_parse_B52 (zw_Zf Xc).2.2.2 Q X k71 l0) n9  h → zw_G Xc kb sb 2 h 52 [(0, va_rf l0)] [] := by
  intro n9
  induction n9 with
  | zero => intro kb sb hk9  h hE; exact hE.elim
  | succ n9 ih => intro kb sb hk9  h hE; exact gt_f_X3_parse_B52 hl ok tab fin hRm ⟨by omega, by omega⟩ hKE (ih (kb + 33) (sb + 331) ⟨by omega, by omega⟩) hk71 hE
set_option maxHeartbeats 8000000 in
theorem gt_f_X3_parse_J105 {Xc : zw_X} {Q : Option Nat → zw_H → Prop} {X : String → Nat → zw_H → Prop} (hl : (zw_l Xc).stackTraces = false) (ok : zw_ok Xc cX3_parse "MultipoleLine$Parser" yX3_parse.name 2) (tab : zw_tab Xc []) (fin : zw_fin Xc (Option.some (Jvm.ClassFile.FieldType.object "MultipoleLine$Line")) (zq_A Q) X 889 8894) (hRm : zw_rm Xc = rm_X3_parse)  {l0 : Option Nat} {s0 : Int32} {s1 : Option Nat} {h : zw_H} (hE : f_X3_parse_J105 (zw_Zf Xc).2.2.2 Q X  l0 s0 s1 h) : zw_G Xc 888 8886 2 h 105 [(0, va_rf l0)] [.int s0, va_rf s1] := by
  unfold f_X3_parse_J105 at hE
  refine zg_iconst (v := 5) ok dX3_parse_105 (by decide) ?_
  refine zg_callV (vs := [zI s0, zI 5]) (rest := []) (rm := rm_X3_check) ok hRm lk_X3_91 dX3_parse_106 hE (fun hE => mt_X3_check hl hE) rfl (Nat.le_of_ble_eq_true rfl) ⟨⟨Nat.le_of_ble_eq_true rfl, Nat.le_of_ble_eq_true rfl⟩, Nat.le_of_ble_eq_true rfl, Nat.le_of_ble_eq_true rfl⟩ (zg_retV (fun h14 hE => ?_)) (zg_xok ok tab fin ⟨Nat.le_of_ble_eq_true rfl, Nat.le_of_ble_eq_true rfl⟩)
  refine zg_cost (kc2 := 889) (ks2 := 8894) ⟨rfl, rfl⟩ ?_
  refine zg_aload_n ok dX3_parse_109 rfl 0 rfl ?_
  refine zg_getA ok lf_X3_18 dX3_parse_110 hE (fun v12 hE => ?_)
  exact zg_aret ok fin (Or.inl ⟨_, rfl⟩) dX3_parse_113 ⟨Nat.le_of_ble_eq_true rfl, Nat.le_of_ble_eq_true rfl⟩ hE
set_option maxHeartbeats 8000000 in
theorem gt_f_X3_parse_J85 {Xc : zw_X} {Q : Option Nat → zw_H → Prop} {X : String → Nat → zw_H → Prop} (hl : (zw_l Xc).stackTraces = false) (ok : zw_ok Xc cX3_parse "MultipoleLine$Parser" yX3_parse.name 2) (tab : zw_tab Xc []) (fin : zw_fin Xc (Option.some (Jvm.ClassFile.FieldType.object "MultipoleLine$Line")) (zq_A Q) X 889 8894) (hRm : zw_rm Xc = rm_X3_parse)  {l0 : Option Nat} {s0 : Int32} {s1 : Option Nat} {h : zw_H} (hE : f_X3_parse_J85 (zw_Zf Xc).2.2.2 Q X  l0 s0 s1 h) : zw_G Xc 887 8878 2 h 85 [(0, va_rf l0)] [.int s0, va_rf s1] := by
  unfold f_X3_parse_J85 at hE
  refine zg_iconst (v := 1) ok dX3_parse_85 (by decide) ?_
  refine zg_callV (vs := [zI s0, zI 1]) (rest := []) (rm := rm_X3_check) ok hRm lk_X3_91 dX3_parse_86 hE (fun hE => mt_X3_check hl hE) rfl (Nat.le_of_ble_eq_true rfl) ⟨⟨Nat.le_of_ble_eq_true rfl, Nat.le_of_ble_eq_true rfl⟩, Nat.le_of_ble_eq_true rfl, Nat.le_of_ble_eq_true rfl⟩ (zg_retV (fun h12 hE => ?_)) (zg_xok ok tab fin ⟨Nat.le_of_ble_eq_true rfl, Nat.le_of_ble_eq_true rfl⟩)
  refine zg_cost (kc2 := 888) (ks2 := 8886) ⟨rfl, rfl⟩ ?_
  refine zg_aload_n ok dX3_parse_89 rfl 0 rfl ?_
  refine zg_aload_n ok dX3_parse_90 rfl 0 rfl ?_
  refine zg_getA ok lf_X3_18 dX3_parse_91 hE (fun v10 hE => ?_)
  refine zg_callV (vs := []) (rest := [va_rf l0]) (rm := rm_X4_size) ok hRm lk_X3_109 dX3_parse_94 hE (fun hE => mt_X4_size hl hE) rfl (Nat.le_of_ble_eq_true rfl) ⟨⟨Nat.le_of_ble_eq_true rfl, Nat.le_of_ble_eq_true rfl⟩, Nat.le_of_ble_eq_true rfl, Nat.le_of_ble_eq_true rfl⟩ (zg_retI (fun v11 h13 hE => ?_)) (zg_xok ok tab fin ⟨Nat.le_of_ble_eq_true rfl, Nat.le_of_ble_eq_true rfl⟩)
  refine zg_cost (kc2 := 888) (ks2 := 8886) ⟨rfl, rfl⟩ ?_
  refine zg_if_le (tgt := 104) ok dX3_parse_97 (by decide) hE (fun hE => ?_) (fun hE => ?_)
  · refine zg_iconst (v := 0) ok dX3_parse_104 (by decide) ?_
    exact gt_f_X3_parse_J105 hl ok tab fin hRm  hE
  · refine zg_iconst (v := 1) ok dX3_parse_100 (by decide) ?_
    refine zg_goto (tgt := 105) ok dX3_parse_101 (by decide) ?_
    exact gt_f_X3_parse_J105 hl ok tab fin hRm  hE
set_option maxHeartbeats 8000000 in
theorem mt_X3_parse {l : Launch} (hl : l.stackTraces = false) {Z : zw_Z} {a0 : Option Nat} {h : zw_H} {Q : Option Nat → zw_H → Prop} {X : String → Nat → zw_H → Prop} (hE : f_X3_parse Z.2.2.2 a0 h Q X) : zw_Met l Z yX3_parse (ws_ yX3_parse cX3_parse 2 (Option.some (Jvm.ClassFile.FieldType.object "MultipoleLine$Line"))) rm_X3_parse [zA a0] h (zq_A Q) X := by
  refine zg_start (own := "MultipoleLine$Parser") (by decide +kernel) rfl (Nat.le_of_ble_eq_true rfl) hl (fun Xc ok tab fin hRm hXl hXZ => ?_)
  subst hXl
  subst hXZ
  unfold f_X3_parse at hE
  refine zg_aload_n ok dX3_parse_0 rfl 0 rfl ?_
  refine zg_aload_n ok dX3_parse_1 rfl 0 rfl ?_
  refine zg_getA ok lf_X3_24 dX3_parse_2 hE (fun v1 hE => ?_)
  refine zg_ldcS ok ls_X3_141 dX3_parse_5 ?_
  refine zg_callV (vs := [zA ((zw_Zf Xc).2.2.2 24)]) (rest := [va_rf a0]) (rm := rm_J4_equals) ok hRm lk_X3_101 dX3_parse_7 hE (fun hE => mt_J4_equals hl hE) rfl (Nat.le_of_ble_eq_true rfl) ⟨⟨Nat.le_of_ble_eq_true rfl, Nat.le_of_ble_eq_true rfl⟩, Nat.le_of_ble_eq_true rfl, Nat.le_of_ble_eq_true rfl⟩ (zg_retI (fun v2 h1 hE => ?_)) (zg_xok ok tab fin ⟨Nat.le_of_ble_eq_true rfl, Nat.le_of_ble_eq_true rfl⟩)
  refine zg_cost (kc2 := 0) (ks2 := 0) ⟨rfl, rfl⟩ ?_
  refine zg_iconst (v := 1) ok dX3_parse_10 (by decide) ?_
  refine zg_callV (vs := [zI v2, zI 1]) (rest := []) (rm := rm_X3_check) ok hRm lk_X3_91 dX3_parse_11 hE (fun hE => mt_X3_check hl hE) rfl (Nat.le_of_ble_eq_true rfl) ⟨⟨Nat.le_of_ble_eq_true rfl, Nat.le_of_ble_eq_true rfl⟩, Nat.le_of_ble_eq_true rfl, Nat.le_of_ble_eq_true rfl⟩ (zg_retV (fun h2 hE => ?_)) (zg_xok ok tab fin ⟨Nat.le_of_ble_eq_true rfl, Nat.le_of_ble_eq_true rfl⟩)
  refine zg_cost (kc2 := 1) (ks2 := 8) ⟨rfl, rfl⟩ ?_
  refine zg_aload_n ok dX3_parse_14 rfl 0 rfl ?_
  refine zg_callV (vs := []) (rest := []) (rm := rm_X3_step) ok hRm lk_X3_32 dX3_parse_15 hE (fun hE => mt_X3_step hl hE) rfl (Nat.le_of_ble_eq_true rfl) ⟨⟨Nat.le_of_ble_eq_true rfl, Nat.le_of_ble_eq_true rfl⟩, Nat.le_of_ble_eq_true rfl, Nat.le_of_ble_eq_true rfl⟩ (zg_retV (fun h3 hE => ?_)) (zg_xok ok tab fin ⟨Nat.le_of_ble_eq_true rfl, Nat.le_of_ble_eq_true rfl⟩)
  refine zg_cost (kc2 := 5) (ks2 := 48) ⟨rfl, rfl⟩ ?_
  refine zg_iconst (v := 3) ok dX3_parse_18 (by decide) ?_
  refine zg_istore_nR (L' := [(1, .int 3), (0, va_rf a0)]) ok dX3_parse_19 rfl (by decide) 0 rfl rfl rfl ?_
  refine zg_sub (L' := [(0, va_rf a0), (1, .int 3)]) [1, 0] rfl ?_
  refine gt_f_X3_parse_L20 (KE := 29) (SE := 272) hl ok tab fin hRm ⟨Nat.le_of_ble_eq_true rfl, Nat.le_of_ble_eq_true rfl⟩ ?_ _ 5 48 ⟨Nat.le_of_ble_eq_true rfl, Nat.le_of_ble_eq_true rfl⟩ _ _ hE
  · intro h8 hE
    refine gt_f_X3_parse_L52 (KE := 887) (SE := 8878) hl ok tab fin hRm ⟨Nat.le_of_ble_eq_true rfl, Nat.le_of_ble_eq_true rfl⟩ ?_ _ 29 272 ⟨Nat.le_of_ble_eq_true rfl, Nat.le_of_ble_eq_true rfl⟩ _ hE
    · intro h11 hE
      refine zg_aload_n ok dX3_parse_71 rfl 0 rfl ?_
      refine zg_aload_n ok dX3_parse_72 rfl 0 rfl ?_
      refine zg_getI ok lf_X3_64 dX3_parse_73 hE (fun v9 hE => ?_)
      refine zg_iconst (v := 3) ok dX3_parse_76 (by decide) ?_
      refine zg_icmp_ne (tgt := 84) ok dX3_parse_77 (by decide) hE (fun hE => ?_) (fun hE => ?_)
      · refine zg_iconst (v := 0) ok dX3_parse_84 (by decide) ?_
        exact gt_f_X3_parse_J85 hl ok tab fin hRm  hE
      · refine zg_iconst (v := 1) ok dX3_parse_80 (by decide) ?_
        refine zg_goto (tgt := 85) ok dX3_parse_81 (by decide) ?_
        exact gt_f_X3_parse_J85 hl ok tab fin hRm  hE
set_option maxHeartbeats 8000000 in
theorem gt_f_J1_circularClear_B12 {Xc : zw_X} {Q : zw_H → Prop} {X : String → Nat → zw_H → Prop} (hl : (zw_l Xc).stackTraces = false) (ok : zw_ok Xc cJ1_circularClear "java/util/ArrayDeque" yJ1_circularClear.name 4) (tab : zw_tab Xc []) (fin : zw_fin Xc (Option.none : Option Jvm.ClassFile.FieldType) (zq_V Q) X 0 0) (hRm : zw_rm Xc = rm_J1_circularClear) {kc ks : Nat} (hb : kc ≤ 0 ∧ ks ≤ 0) {R : Int32 → Int32 → zw_H → Prop} {l0 : Option Nat} {l2 : Int32} (hR : ∀ (l1 : Int32) (l3 : Int32) (h : zw_H), R l1 l3 h → zw_G Xc kc ks 4 h 12 [(0, va_rf l0), (2, .int l2), (1, .int l1), (3, .int l3)] []) {k32 : zw_H → Prop} (hk32 : ∀  (h : zw_H), k32  h → zw_G Xc kc ks 4 h 32 [] [])  {l1 : Int32} {l3 : Int32} {h : zw_H} (hE : f_J1_circularClear_B12 (zw_Zf Xc).2.2.2 Q X k32 l0 l2 R l1 l3 h) : zw_G Xc kc ks 4 h 12 [(0, va_rf l0), (2, .int l2), (1, .int l1), (3, .int l3)] [] := by
  unfold f_J1_circularClear_B12 at hE
  refine zg_iload_n ok dJ1_circularClear_12 rfl 2 rfl ?_
  refine zg_iload_n ok dJ1_circularClear_13 rfl 3 rfl ?_
  refine zg_icmp_ge (tgt := 27) ok dJ1_circularClear_14 (by decide) hE (fun hE => ?_) (fun hE => ?_)
  · refine zg_iload_n ok dJ1_circularClear_27 rfl 3 rfl ?_
    refine zg_iload_n ok dJ1_circularClear_28 rfl 1 rfl ?_
    refine zg_icmp_ne (tgt := 35) ok dJ1_circularClear_29 (by decide) hE (fun hE => ?_) (fun hE => ?_)
    · refine zg_iconst (v := 0) ok dJ1_circularClear_35 (by decide) ?_
      refine zg_istore_nR (L' := [(1, .int 0), (0, va_rf l0), (2, .int l2), (3, .int l3)]) ok dJ1_circularClear_36 rfl (by decide) 0 rfl rfl rfl ?_
      refine zg_iload_n ok dJ1_circularClear_37 rfl 2 rfl ?_
      refine zg_istore_n (L' := [(3, .int l2), (1, .int 0), (0, va_rf l0), (2, .int l2)]) ok dJ1_circularClear_38 rfl (by decide) rfl ?_
      refine zg_goto (tgt := 12) ok dJ1_circularClear_39 (by decide) ?_
      refine zg_sub (L' := [(0, va_rf l0), (2, .int l2), (1, .int 0), (3, .int l2)]) [2, 3, 1, 0] rfl ?_
      exact hR _ _ _ hE
    · refine zg_sub (L' := []) [] rfl ?_
      exact hk32 _ hE
  · refine zg_aload_n ok dJ1_circularClear_17 rfl 0 rfl ?_
    refine zg_iload_n ok dJ1_circularClear_18 rfl 2 rfl ?_
    refine zg_null ok dJ1_circularClear_19 ?_
    refine zg_aastO ok lt_5 dJ1_circularClear_20 hE (fun h1 hE => ?_)
    refine zg_iincLR (k := 2) (L' := fun v2 => [(1, .int v2), (0, va_rf l0), (2, .int l2), (3, .int l3)]) ok dJ1_circularClear_21 (by decide +kernel) hE rfl (by decide) rfl (k9 := 0) rfl (fun _ => rfl) (fun v2 hE => ?_)
    refine zg_goto (tgt := 12) ok dJ1_circularClear_24 (by decide) ?_
    refine zg_sub (L' := [(0, va_rf l0), (2, .int l2), (1, .int v2), (3, .int l3)]) [1, 2, 0, 3] rfl ?_
    exact hR _ _ _ hE
theorem gt_f_J1_circularClear_L12 {Xc : zw_X} {Q : zw_H → Prop} {X : String → Nat → zw_H → Prop} (hl : (zw_l Xc).stackTraces = false) (ok : zw_ok Xc cJ1_circularClear "java/util/ArrayDeque" yJ1_circularClear.name 4) (tab : zw_tab Xc []) (fin : zw_fin Xc (Option.none : Option Jvm.ClassFile.FieldType) (zq_V Q) X 0 0) (hRm : zw_rm Xc = rm_J1_circularClear) {kc ks : Nat} (hb : kc ≤ 0 ∧ ks ≤ 0) {l0 : Option Nat} {l2 : Int32} {k32 : zw_H → Prop} (hk32 : ∀  (h : zw_H), k32  h → zw_G Xc kc ks 4 h 32 [] [])  : ∀ (n9 : Nat) (l1 : Int32) (l3 : Int32) (h : zw_H), zl3 (f_J1_circularClear_B12 (zw_Zf Xc).2.2.2 Q X k32 l0 l2) n9 l1 l3 h → zw_G Xc kc ks 4 h 12 [(0, va_rf l0), (2, .int l2), (1, .int l1), (3, .int l3)] [] := by
  intro n9
  induction n9 with
  | zero => intro l1 l3 h hE; exact hE.elim
  | succ n9 ih => intro l1 l3 h hE; exact gt_f_J1_circularClear_B12 hl ok tab fin hRm hb ih hk32 hE
set_option maxHeartbeats 8000000 in
theorem gt_f_J1_circularClear_J11 {Xc : zw_X} {Q : zw_H → Prop} {X : String → Nat → zw_H → Prop} (hl : (zw_l Xc).stackTraces = false) (ok : zw_ok Xc cJ1_circularClear "java/util/ArrayDeque" yJ1_circularClear.name 4) (tab : zw_tab Xc []) (fin : zw_fin Xc (Option.none : Option Jvm.ClassFile.FieldType) (zq_V Q) X 0 0) (hRm : zw_rm Xc = rm_J1_circularClear)  {l0 : Option Nat} {l1 : Int32} {l2 : Int32} {s0 : Int32} {h : zw_H} (hE : f_J1_circularClear_J11 (zw_Zf Xc).2.2.2 Q X  l0 l1 l2 s0 h) : zw_G Xc 0 0 4 h 11 [(0, va_rf l0), (1, .int l1), (2, .int l2)] [.int s0] := by
  unfold f_J1_circularClear_J11 at hE
  refine zg_istore_n (L' := [(3, .int s0), (0, va_rf l0), (1, .int l1), (2, .int l2)]) ok dJ1_circularClear_11 rfl (by decide) rfl ?_
  refine zg_sub (L' := [(0, va_rf l0), (2, .int l2), (1, .int l1), (3, .int s0)]) [1, 3, 2, 0] rfl ?_
  refine gt_f_J1_circularClear_L12 hl ok tab fin hRm ⟨Nat.le_of_ble_eq_true rfl, Nat.le_of_ble_eq_true rfl⟩ ?_ _ _ _ _ hE
  · intro h2 hE
    refine zg_goto (tgt := 42) ok dJ1_circularClear_32 (by decide) ?_
    exact zg_vret ok fin dJ1_circularClear_42 ⟨Nat.le_of_ble_eq_true rfl, Nat.le_of_ble_eq_true rfl⟩ hE
set_option maxHeartbeats 8000000 in
theorem mt_J1_circularClear {l : Launch} (hl : l.stackTraces = false) {Z : zw_Z} {a0 : Option Nat} {a1 : Int32} {a2 : Int32} {h : zw_H} {Q : zw_H → Prop} {X : String → Nat → zw_H → Prop} (hE : f_J1_circularClear Z.2.2.2 a0 a1 a2 h Q X) : zw_Met l Z yJ1_circularClear (ws_ yJ1_circularClear cJ1_circularClear 4 (Option.none : Option Jvm.ClassFile.FieldType)) rm_J1_circularClear [zA a0, zI a1, zI a2] h (zq_V Q) X := by
  refine zg_start (own := "java/util/ArrayDeque") (by decide +kernel) rfl (Nat.le_of_ble_eq_true rfl) hl (fun Xc ok tab fin hRm hXl hXZ => ?_)
  subst hXl
  subst hXZ
  unfold f_J1_circularClear at hE
  refine zg_iload_n ok dJ1_circularClear_0 rfl 1 rfl ?_
  refine zg_iload_n ok dJ1_circularClear_1 rfl 2 rfl ?_
  refine zg_icmp_gt (tgt := 9) ok dJ1_circularClear_2 (by decide) hE (fun hE => ?_) (fun hE => ?_)
  · refine zg_aload_n ok dJ1_circularClear_9 rfl 0 rfl ?_
    refine zg_alen ok dJ1_circularClear_10 hE (fun v1 hE => ?_)
    exact gt_f_J1_circularClear_J11 hl ok tab fin hRm  hE
  · refine zg_iload_n ok dJ1_circularClear_5 rfl 2 rfl ?_
    refine zg_goto (tgt := 11) ok dJ1_circularClear_6 (by decide) ?_
    exact gt_f_J1_circularClear_J11 hl ok tab fin hRm  hE
set_option maxHeartbeats 8000000 in
theorem mt_J1_clear {l : Launch} (hl : l.stackTraces = false) {Z : zw_Z} {a0 : Option Nat} {h : zw_H} {Q : zw_H → Prop} {X : String → Nat → zw_H → Prop} (hE : f_J1_clear Z.2.2.2 a0 h Q X) : zw_Met l Z yJ1_clear (ws_ yJ1_clear cJ1_clear 1 (Option.none : Option Jvm.ClassFile.FieldType)) rm_J1_clear [zA a0] h (zq_V Q) X := by
  refine zg_start (own := "java/util/ArrayDeque") (by decide +kernel) rfl (Nat.le_of_ble_eq_true rfl) hl (fun Xc ok tab fin hRm hXl hXZ => ?_)
  subst hXl
  subst hXZ
  unfold f_J1_clear at hE
  refine zg_aload_n ok dJ1_clear_0 rfl 0 rfl ?_
  refine zg_getA ok lf_J1_3 dJ1_clear_1 hE (fun v1 hE => ?_)
  refine zg_aload_n ok dJ1_clear_4 rfl 0 rfl ?_
  refine zg_getI ok lf_J1_24 dJ1_clear_5 hE (fun v2 hE => ?_)
  refine zg_aload_n ok dJ1_clear_8 rfl 0 rfl ?_
  refine zg_getI ok lf_J1_20 dJ1_clear_9 hE (fun v3 hE => ?_)
  refine zg_callS (vs := [zA v1, zI v2, zI v3]) (rest := []) (rm := rm_J1_circularClear) ok hRm lk_J1_181 dJ1_clear_12 hE (fun hE => mt_J1_circularClear hl hE) rfl (Nat.le_of_ble_eq_true rfl) ⟨⟨Nat.le_of_ble_eq_true rfl, Nat.le_of_ble_eq_true rfl⟩, Nat.le_of_ble_eq_true rfl, Nat.le_of_ble_eq_true rfl⟩ (zg_retV (fun h1 hE => ?_)) (zg_xok ok tab fin ⟨Nat.le_of_ble_eq_true rfl, Nat.le_of_ble_eq_true rfl⟩)
  refine zg_cost (kc2 := 0) (ks2 := 0) ⟨rfl, rfl⟩ ?_
  refine zg_aload_n ok dJ1_clear_15 rfl 0 rfl ?_
  refine zg_aload_n ok dJ1_clear_16 rfl 0 rfl ?_
  refine zg_iconst (v := 0) ok dJ1_clear_17 (by decide) ?_
  refine zg_dup_x1 ok dJ1_clear_18 rfl (zw_rfc _) ?_
  refine zg_put (ty := .int) ok lf_J1_20 (Or.inl rfl) (by decide) (by decide +kernel) rfl rfl dJ1_clear_19 hE (fun h2 hE => ?_)
  refine zg_put (ty := .int) ok lf_J1_24 (Or.inl rfl) (by decide) (by decide +kernel) rfl rfl dJ1_clear_22 hE (fun h3 hE => ?_)
  exact zg_vret ok fin dJ1_clear_25 ⟨Nat.le_of_ble_eq_true rfl, Nat.le_of_ble_eq_true rfl⟩ hE
set_option maxHeartbeats 8000000 in
theorem mt_J18_init_2 {l : Launch} (hl : l.stackTraces = false) {Z : zw_Z} {a0 : Option Nat} {h : zw_H} {Q : zw_H → Prop} {X : String → Nat → zw_H → Prop} (hE : f_J18_init_2 Z.2.2.2 a0 h Q X) : zw_Met l Z yJ18_init_2 (ws_ yJ18_init_2 cJ18_init_2 1 (Option.none : Option Jvm.ClassFile.FieldType)) rm_J18_init_2 [zA a0] h (zq_V Q) X := by
  refine zg_start (own := "java/lang/IllegalArgumentException") (by decide +kernel) rfl (Nat.le_of_ble_eq_true rfl) hl (fun Xc ok tab fin hRm hXl hXZ => ?_)
  subst hXl
  subst hXZ
  unfold f_J18_init_2 at hE
  refine zg_aload_n ok dJ18_init_2_0 rfl 0 rfl ?_
  refine zg_callI (vs := []) (rest := []) (rm := rm_J8_init_2) ok hRm lk_J18_1 dJ18_init_2_1 hE.1 hE.2 (fun hE => mt_J8_init_2 hl hE) rfl (Nat.le_of_ble_eq_true rfl) ⟨⟨Nat.le_of_ble_eq_true rfl, Nat.le_of_ble_eq_true rfl⟩, Nat.le_of_ble_eq_true rfl, Nat.le_of_ble_eq_true rfl⟩ (zg_retV (fun h1 hE => ?_)) (zg_xok ok tab fin ⟨Nat.le_of_ble_eq_true rfl, Nat.le_of_ble_eq_true rfl⟩)
  refine zg_cost (kc2 := 0) (ks2 := 0) ⟨rfl, rfl⟩ ?_
  exact zg_vret ok fin dJ18_init_2_4 ⟨Nat.le_of_ble_eq_true rfl, Nat.le_of_ble_eq_true rfl⟩ hE
set_option maxHeartbeats 8000000 in
theorem gt_f_X1_load_J76 {Xc : zw_X} {Q : Int32 → zw_H → Prop} {X : String → Nat → zw_H → Prop} (hl : (zw_l Xc).stackTraces = false) (ok : zw_ok Xc cX1_load "MultipoleLine" yX1_load.name 3) (tab : zw_tab Xc (tableOf [((25 : Nat), (75 : Nat), (76 : Nat), (131 : Nat))])) (fin : zw_fin Xc (Option.some Jvm.ClassFile.FieldType.int) (zq_I Q) X 1139 10211) (hRm : zw_rm Xc = rm_X1_load)  {l0 : Option Nat} {s0 : Option Nat} {h : zw_H} (hE : f_X1_load_J76 (zw_Zf Xc).2.2.2 Q X  l0 s0 h) : zw_G Xc 1138 10205 3 h 76 [(0, va_rf l0)] [va_rf s0] := by
  unfold f_X1_load_J76 at hE
  refine zg_astore_n (L' := [(2, va_rf s0), (0, va_rf l0)]) ok dX1_load_76 rfl (by decide) rfl ?_
  refine zg_aload_n ok dX1_load_77 rfl 1 rfl ?_
  refine zg_aload_n ok dX1_load_78 rfl 0 rfl ?_
  refine zg_getI ok lf_X1_133 dX1_load_79 hE (fun v3 hE => ?_)
  refine zg_put (ty := .int) ok lf_X1_117 (Or.inl rfl) (by decide) (by decide +kernel) rfl rfl dX1_load_82 hE (fun h7 hE => ?_)
  refine zg_aload_n ok dX1_load_85 rfl 1 rfl ?_
  refine zg_aload_n ok dX1_load_86 rfl 0 rfl ?_
  refine zg_getI ok lf_X1_136 dX1_load_87 hE (fun v4 hE => ?_)
  refine zg_put (ty := .int) ok lf_X1_31 (Or.inl rfl) (by decide) (by decide +kernel) rfl rfl dX1_load_90 hE (fun h8 hE => ?_)
  exact zg_throw0 ok tab fin hRm lx_X1_55_57 dX1_load_93 dX1_load_96 dX1_load_97 dX1_load_100 (by decide +kernel) ⟨Nat.le_of_ble_eq_true rfl, Nat.le_of_ble_eq_true rfl, Nat.le_of_ble_eq_true rfl, Nat.le_of_ble_eq_true rfl⟩ (Nat.le_of_ble_eq_true rfl) ⟨Nat.le_of_ble_eq_true rfl, Nat.le_of_ble_eq_true rfl⟩ hE
set_option maxHeartbeats 8000000 in
theorem gt_f_X1_load_B50 {Xc : zw_X} {Q : Int32 → zw_H → Prop} {X : String → Nat → zw_H → Prop} (hl : (zw_l Xc).stackTraces = false) (ok : zw_ok Xc cX1_load "MultipoleLine" yX1_load.name 3) (tab : zw_tab Xc (tableOf [((25 : Nat), (75 : Nat), (76 : Nat), (131 : Nat))])) (fin : zw_fin Xc (Option.some Jvm.ClassFile.FieldType.int) (zq_I Q) X 1139 10211) (hRm : zw_rm Xc = rm_X1_load) {kc ks : Nat} (hb : kc ≤ 1139 ∧ ks ≤ 10211) {R : Int32 → zw_H → Prop} {l0 : Option Nat} (hR : ∀ (l2 : Int32) (h : zw_H), R l2 h → zw_G Xc kc ks 3 h 50 [(0, va_rf l0), (2, .int l2)] []) {k68 : zw_H → Prop} (hk68 : ∀  (h : zw_H), k68  h → zw_G Xc kc ks 3 h 68 [(0, va_rf l0)] [])  {l2 : Int32} {h : zw_H} (hE : f_X1_load_B50 (zw_Zf Xc).2.2.2 Q X k68 l0 R l2 h) : zw_G Xc kc ks 3 h 50 [(0, va_rf l0), (2, .int l2)] [] := by
  unfold f_X1_load_B50 at hE
  refine zg_iload_n ok dX1_load_50 rfl 1 rfl ?_
  refine zg_iconst (v := 2) ok dX1_load_51 (by decide) ?_
  refine zg_icmp_ge (tgt := 68) ok dX1_load_52 (by decide) hE (fun hE => ?_) (fun hE => ?_)
  · refine zg_sub (L' := [(0, va_rf l0)]) [0] rfl ?_
    exact hk68 _ hE
  · refine zg_aload_n ok dX1_load_55 rfl 0 rfl ?_
    refine zg_getA ok lf_X1_44 dX1_load_56 hE (fun v7 hE => ?_)
    refine zg_iload_n ok dX1_load_59 rfl 1 rfl ?_
    refine zg_null ok dX1_load_60 ?_
    refine zg_aastL ok lt_8 dX1_load_61 hE (fun h12 hE => ?_)
    refine zg_iincL (k := 1) (L' := fun v8 => [(2, .int v8), (0, va_rf l0)]) ok dX1_load_62 (by decide +kernel) hE rfl (by decide) (fun _ => rfl) (fun v8 hE => ?_)
    refine zg_goto (tgt := 50) ok dX1_load_65 (by decide) ?_
    refine zg_sub (L' := [(0, va_rf l0), (2, .int v8)]) [1, 0] rfl ?_
    exact hR _ _ hE
theorem gt_f_X1_load_L50 {Xc : zw_X} {Q : Int32 → zw_H → Prop} {X : String → Nat → zw_H → Prop} (hl : (zw_l Xc).stackTraces = false) (ok : zw_ok Xc cX1_load "MultipoleLine" yX1_load.name 3) (tab : zw_tab Xc (tableOf [((25 : Nat), (75 : Nat), (76 : Nat), (131 : Nat))])) (fin : zw_fin Xc (Option.some Jvm.ClassFile.FieldType.int) (zq_I Q) X 1139 10211) (hRm : zw_rm Xc = rm_X1_load) {kc ks : Nat} (hb : kc ≤ 1139 ∧ ks ≤ 10211) {l0 : Option Nat} {k68 : zw_H → Prop} (hk68 : ∀  (h : zw_H), k68  h → zw_G Xc kc ks 3 h 68 [(0, va_rf l0)] [])  : ∀ (n9 : Nat) (l2 : Int32) (h : zw_H), zl2 (f_X1_load_B50 (zw_Zf Xc).2.2.2 Q X k68 l0) n9 l2 h → zw_G Xc kc ks 3 h 50 [(0, va_rf l0), (2, .int l2)] [] := by
  intro n9
  induction n9 with
  | zero => intro l2 h hE; exact hE.elim
  | succ n9 ih => intro l2 h hE; exact gt_f_X1_load_B50 hl ok tab fin hRm hb ih hk68 hE
set_option maxHeartbeats 8000000 in
theorem mt_X1_load {l : Launch} (hl : l.stackTraces = false) {Z : zw_Z} {a0 : Option Nat} {a1 : Int32} {h : zw_H} {Q : Int32 → zw_H → Prop} {X : String → Nat → zw_H → Prop} (hE : f_X1_load Z.2.2.2 a0 a1 h Q X) : zw_Met l Z yX1_load (wsW_ yX1_load cX1_load 3 (Option.some Jvm.ClassFile.FieldType.int) [((25 : Nat), (75 : Nat), (76 : Nat), (131 : Nat))]) rm_X1_load [zA a0, zI a1] h (zq_I Q) X := by
  refine zg_startW (own := "MultipoleLine") (by decide +kernel) rfl (Nat.le_of_ble_eq_true rfl) hl (fun Xc ok tab fin hRm hXl hXZ => ?_)
  subst hXl
  subst hXZ
  unfold f_X1_load at hE
  refine zg_iload_n ok dX1_load_0 rfl 1 rfl ?_
  refine zg_aload_n ok dX1_load_1 rfl 0 rfl ?_
  refine zg_getI ok lf_X1_114 dX1_load_2 hE (fun v1 hE => ?_)
  refine zg_iconst (v := 1) ok dX1_load_5 (by decide) ?_
  refine zg_iadd ok dX1_load_6 ?_
  refine zg_callS (vs := [zI a1, zI (v1 + 1)]) (rest := []) (rm := rm_X1_checkIndex) ok hRm lk_X1_84 dX1_load_7 hE (fun hE => mt_X1_checkIndex hl hE) rfl (Nat.le_of_ble_eq_true rfl) ⟨⟨Nat.le_of_ble_eq_true rfl, Nat.le_of_ble_eq_true rfl⟩, Nat.le_of_ble_eq_true rfl, Nat.le_of_ble_eq_true rfl⟩ (zg_retV (fun h1 hE => ?_)) (fun _ _ _ hE => zg_xout ok tab fin (by decide +kernel) ⟨Nat.le_of_ble_eq_true rfl, Nat.le_of_ble_eq_true rfl⟩ hE)
  refine zg_cost (kc2 := 1) (ks2 := 6) ⟨rfl, rfl⟩ ?_
  refine zg_aload_n ok dX1_load_10 rfl 0 rfl ?_
  refine zg_iconst (v := 0) ok dX1_load_11 (by decide) ?_
  refine zg_put (ty := .int) ok lf_X1_114 (Or.inl rfl) (by decide) (by decide +kernel) rfl rfl dX1_load_12 hE (fun h2 hE => ?_)
  refine zg_aload_n ok dX1_load_15 rfl 0 rfl ?_
  refine zg_iconst (v := 0) ok dX1_load_16 (by decide) ?_
  refine zg_put (ty := .int) ok lf_X1_117 (Or.inl rfl) (by decide) (by decide +kernel) rfl rfl dX1_load_17 hE (fun h3 hE => ?_)
  refine zg_aload_n ok dX1_load_20 rfl 0 rfl ?_
  refine zg_iconst (v := (-1)) ok dX1_load_21 (by decide) ?_
  refine zg_put (ty := .int) ok lf_X1_31 (Or.inl rfl) (by decide) (by decide +kernel) rfl rfl dX1_load_22 hE (fun h4 hE => ?_)
  refine zg_aload_n ok dX1_load_25 rfl 0 rfl ?_
  refine zg_new ok ln_X1_120 (by rw [hRm]; exact ⟨Nat.le_of_ble_eq_true rfl, Nat.le_of_ble_eq_true rfl⟩) dX1_load_26 hE (fun v2 h5 hE => ?_)
  refine zg_cost (kc2 := 2) (ks2 := 14) ⟨rfl, rfl⟩ ?_
  refine zg_dup ok dX1_load_29 (zw_rfc _) ?_
  refine zg_aload_n ok dX1_load_30 rfl 0 rfl ?_
  refine zg_iload_n ok dX1_load_31 rfl 1 rfl ?_
  refine zg_callI (vs := [zA a0, zI a1]) (rest := [va_rf (some v2), va_rf a0]) (rm := rm_X3_init) ok hRm lk_X1_122 dX1_load_32 (by simp) hE (fun hE => mt_X3_init hl hE) rfl (Nat.le_of_ble_eq_true rfl) ⟨⟨Nat.le_of_ble_eq_true rfl, Nat.le_of_ble_eq_true rfl⟩, Nat.le_of_ble_eq_true rfl, Nat.le_of_ble_eq_true rfl⟩ (zg_retV (fun h6 hE => ?_)) (fun E9 q9 h9 hE => ?_)
  · refine zg_cost (kc2 := 249) (ks2 := 1311) ⟨rfl, rfl⟩ ?_
    refine zg_callV (vs := []) (rest := [va_rf a0]) (rm := rm_X3_parse) ok hRm lk_X1_125 dX1_load_35 hE (fun hE => mt_X3_parse hl hE) rfl (Nat.le_of_ble_eq_true rfl) ⟨⟨Nat.le_of_ble_eq_true rfl, Nat.le_of_ble_eq_true rfl⟩, Nat.le_of_ble_eq_true rfl, Nat.le_of_ble_eq_true rfl⟩ (zg_retA (fun v5 h9 hE => ?_)) (fun E9 q9 h9 hE => ?_)
    · refine zg_cost (kc2 := 1138) (ks2 := 10205) ⟨rfl, rfl⟩ ?_
      refine zg_put (ty := (.object "MultipoleLine$Line")) ok lf_X1_68 (Or.inl rfl) (by decide) (by decide +kernel) (zw_nrO _ _) (zw_frO _ _) dX1_load_38 hE (fun h10 hE => ?_)
      refine zg_aload_n ok dX1_load_41 rfl 0 rfl ?_
      refine zg_getA ok lf_X1_38 dX1_load_42 hE (fun v6 hE => ?_)
      refine zg_callV (vs := []) (rest := []) (rm := rm_J1_clear) ok hRm lk_X1_128 dX1_load_45 hE (fun hE => mt_J1_clear hl hE) rfl (Nat.le_of_ble_eq_true rfl) ⟨⟨Nat.le_of_ble_eq_true rfl, Nat.le_of_ble_eq_true rfl⟩, Nat.le_of_ble_eq_true rfl, Nat.le_of_ble_eq_true rfl⟩ (zg_retV (fun h11 hE => ?_)) (fun E9 q9 h9 hE => ?_)
      · refine zg_cost (kc2 := 1138) (ks2 := 10205) ⟨rfl, rfl⟩ ?_
        refine zg_iconst (v := 0) ok dX1_load_48 (by decide) ?_
        refine zg_istore_n (L' := [(2, .int 0), (0, va_rf a0), (1, .int a1)]) ok dX1_load_49 rfl (by decide) rfl ?_
        refine zg_sub (L' := [(0, va_rf a0), (2, .int 0)]) [1, 0] rfl ?_
        refine gt_f_X1_load_L50 hl ok tab fin hRm ⟨Nat.le_of_ble_eq_true rfl, Nat.le_of_ble_eq_true rfl⟩ ?_ _ _ _ hE
        · intro h13 hE
          refine zg_aload_n ok dX1_load_68 rfl 0 rfl ?_
          refine zg_getA ok lf_X1_68 dX1_load_69 hE (fun v9 hE => ?_)
          refine zg_callV (vs := []) (rest := []) (rm := rm_X4_size) ok hRm lk_X1_80 dX1_load_72 hE (fun hE => mt_X4_size hl hE) rfl (Nat.le_of_ble_eq_true rfl) ⟨⟨Nat.le_of_ble_eq_true rfl, Nat.le_of_ble_eq_true rfl⟩, Nat.le_of_ble_eq_true rfl, Nat.le_of_ble_eq_true rfl⟩ (zg_retI (fun v10 h14 hE => ?_)) (fun E9 q9 h9 hE => ?_)
          · refine zg_cost (kc2 := 1138) (ks2 := 10205) ⟨rfl, rfl⟩ ?_
            exact zg_iret ok fin dX1_load_75 ⟨Nat.le_of_ble_eq_true rfl, Nat.le_of_ble_eq_true rfl⟩ hE
          · by_cases c9 : E9 = "MultipoleLine$Flaw"
            · rw [if_pos c9] at hE
              subst c9
              refine zg_catch ok tab ((tableOf [((25 : Nat), (75 : Nat), (76 : Nat), (131 : Nat))]).take 0) ((tableOf [((25 : Nat), (75 : Nat), (76 : Nat), (131 : Nat))])[0]) ((tableOf [((25 : Nat), (75 : Nat), (76 : Nat), (131 : Nat))]).drop 1) rfl (fun z hz => by cases hz) (by decide +kernel) (by decide) q359 q807 ?_
              exact gt_f_X1_load_J76 hl ok tab fin hRm  hE
            rw [if_neg c9] at hE
            exact hE.elim
      · by_cases c9 : E9 = "MultipoleLine$Flaw"
        · rw [if_pos c9] at hE
          subst c9
          refine zg_catch ok tab ((tableOf [((25 : Nat), (75 : Nat), (76 : Nat), (131 : Nat))]).take 0) ((tableOf [((25 : Nat), (75 : Nat), (76 : Nat), (131 : Nat))])[0]) ((tableOf [((25 : Nat), (75 : Nat), (76 : Nat), (131 : Nat))]).drop 1) rfl (fun z hz => by cases hz) (by decide +kernel) (by decide) q359 q807 ?_
          refine zg_sub (L' := [(0, va_rf a0)]) [0] rfl ?_
          exact gt_f_X1_load_J76 hl ok tab fin hRm  hE
        rw [if_neg c9] at hE
        exact hE.elim
    · by_cases c9 : E9 = "MultipoleLine$Flaw"
      · rw [if_pos c9] at hE
        subst c9
        refine zg_catch ok tab ((tableOf [((25 : Nat), (75 : Nat), (76 : Nat), (131 : Nat))]).take 0) ((tableOf [((25 : Nat), (75 : Nat), (76 : Nat), (131 : Nat))])[0]) ((tableOf [((25 : Nat), (75 : Nat), (76 : Nat), (131 : Nat))]).drop 1) rfl (fun z hz => by cases hz) (by decide +kernel) (by decide) q359 q807 ?_
        refine zg_sub (L' := [(0, va_rf a0)]) [0] rfl ?_
        exact gt_f_X1_load_J76 hl ok tab fin hRm  hE
      rw [if_neg c9] at hE
      exact hE.elim
  · by_cases c9 : E9 = "MultipoleLine$Flaw"
    · rw [if_pos c9] at hE
      subst c9
      refine zg_catch ok tab ((tableOf [((25 : Nat), (75 : Nat), (76 : Nat), (131 : Nat))]).take 0) ((tableOf [((25 : Nat), (75 : Nat), (76 : Nat), (131 : Nat))])[0]) ((tableOf [((25 : Nat), (75 : Nat), (76 : Nat), (131 : Nat))]).drop 1) rfl (fun z hz => by cases hz) (by decide +kernel) (by decide) q359 q807 ?_
      refine zg_wide (kc2 := 1138) (ks2 := 10205) (Nat.le_of_ble_eq_true rfl) (Nat.le_of_ble_eq_true rfl) ?_
      refine zg_sub (L' := [(0, va_rf a0)]) [0] rfl ?_
      exact gt_f_X1_load_J76 hl ok tab fin hRm  hE
    rw [if_neg c9] at hE
    exact hE.elim
set_option maxHeartbeats 8000000 in
theorem mt_J24_init {l : Launch} (hl : l.stackTraces = false) {Z : zw_Z} {a0 : Option Nat} {h : zw_H} {Q : zw_H → Prop} {X : String → Nat → zw_H → Prop} (hE : f_J24_init Z.2.2.2 a0 h Q X) : zw_Met l Z yJ24_init (ws_ yJ24_init cJ24_init 1 (Option.none : Option Jvm.ClassFile.FieldType)) rm_J24_init [zA a0] h (zq_V Q) X := by
  refine zg_start (own := "java/lang/IllegalStateException") (by decide +kernel) rfl (Nat.le_of_ble_eq_true rfl) hl (fun Xc ok tab fin hRm hXl hXZ => ?_)
  subst hXl
  subst hXZ
  unfold f_J24_init at hE
  refine zg_aload_n ok dJ24_init_0 rfl 0 rfl ?_
  refine zg_callI (vs := []) (rest := []) (rm := rm_J8_init_2) ok hRm lk_J24_1 dJ24_init_1 hE.1 hE.2 (fun hE => mt_J8_init_2 hl hE) rfl (Nat.le_of_ble_eq_true rfl) ⟨⟨Nat.le_of_ble_eq_true rfl, Nat.le_of_ble_eq_true rfl⟩, Nat.le_of_ble_eq_true rfl, Nat.le_of_ble_eq_true rfl⟩ (zg_retV (fun h1 hE => ?_)) (zg_xok ok tab fin ⟨Nat.le_of_ble_eq_true rfl, Nat.le_of_ble_eq_true rfl⟩)
  refine zg_cost (kc2 := 0) (ks2 := 0) ⟨rfl, rfl⟩ ?_
  exact zg_vret ok fin dJ24_init_4 ⟨Nat.le_of_ble_eq_true rfl, Nat.le_of_ble_eq_true rfl⟩ hE
set_option maxHeartbeats 8000000 in
theorem mt_X1_checkState {l : Launch} (hl : l.stackTraces = false) {Z : zw_Z} {a0 : Int32} {h : zw_H} {Q : zw_H → Prop} {X : String → Nat → zw_H → Prop} (hE : f_X1_checkState Z.2.2.2 a0 h Q X) : zw_Met l Z yX1_checkState (ws_ yX1_checkState cX1_checkState 1 (Option.none : Option Jvm.ClassFile.FieldType)) rm_X1_checkState [zI a0] h (zq_V Q) X := by
  refine zg_start (own := "MultipoleLine") (by decide +kernel) rfl (Nat.le_of_ble_eq_true rfl) hl (fun Xc ok tab fin hRm hXl hXZ => ?_)
  subst hXl
  subst hXZ
  unfold f_X1_checkState at hE
  refine zg_iload_n ok dX1_checkState_0 rfl 0 rfl ?_
  refine zg_if_ne (tgt := 12) ok dX1_checkState_1 (by decide) hE (fun hE => ?_) (fun hE => ?_)
  · exact zg_vret ok fin dX1_checkState_12 ⟨Nat.le_of_ble_eq_true rfl, Nat.le_of_ble_eq_true rfl⟩ hE
  · exact zg_throw0 ok tab fin hRm lx_X1_65_67 dX1_checkState_4 dX1_checkState_7 dX1_checkState_8 dX1_checkState_11 (fun z hz => by cases hz) ⟨Nat.le_of_ble_eq_true rfl, Nat.le_of_ble_eq_true rfl, Nat.le_of_ble_eq_true rfl, Nat.le_of_ble_eq_true rfl⟩ (Nat.le_of_ble_eq_true rfl) ⟨Nat.le_of_ble_eq_true rfl, Nat.le_of_ble_eq_true rfl⟩ hE
set_option maxHeartbeats 8000000 in
theorem gt_f_X1_loaded_J12 {Xc : zw_X} {Q : Option Nat → zw_H → Prop} {X : String → Nat → zw_H → Prop} (hl : (zw_l Xc).stackTraces = false) (ok : zw_ok Xc cX1_loaded "MultipoleLine" yX1_loaded.name 1) (tab : zw_tab Xc []) (fin : zw_fin Xc (Option.some (Jvm.ClassFile.FieldType.object "MultipoleLine$Line")) (zq_A Q) X 1 6) (hRm : zw_rm Xc = rm_X1_loaded)  {l0 : Option Nat} {s0 : Int32} {h : zw_H} (hE : f_X1_loaded_J12 (zw_Zf Xc).2.2.2 Q X  l0 s0 h) : zw_G Xc 0 0 1 h 12 [(0, va_rf l0)] [.int s0] := by
  unfold f_X1_loaded_J12 at hE
  refine zg_callS (vs := [zI s0]) (rest := []) (rm := rm_X1_checkState) ok hRm lk_X1_72 dX1_loaded_12 hE (fun hE => mt_X1_checkState hl hE) rfl (Nat.le_of_ble_eq_true rfl) ⟨⟨Nat.le_of_ble_eq_true rfl, Nat.le_of_ble_eq_true rfl⟩, Nat.le_of_ble_eq_true rfl, Nat.le_of_ble_eq_true rfl⟩ (zg_retV (fun h1 hE => ?_)) (zg_xok ok tab fin ⟨Nat.le_of_ble_eq_true rfl, Nat.le_of_ble_eq_true rfl⟩)
  refine zg_cost (kc2 := 1) (ks2 := 6) ⟨rfl, rfl⟩ ?_
  refine zg_aload_n ok dX1_loaded_15 rfl 0 rfl ?_
  refine zg_getA ok lf_X1_68 dX1_loaded_16 hE (fun v2 hE => ?_)
  exact zg_aret ok fin (Or.inl ⟨_, rfl⟩) dX1_loaded_19 ⟨Nat.le_of_ble_eq_true rfl, Nat.le_of_ble_eq_true rfl⟩ hE
set_option maxHeartbeats 8000000 in
theorem mt_X1_loaded {l : Launch} (hl : l.stackTraces = false) {Z : zw_Z} {a0 : Option Nat} {h : zw_H} {Q : Option Nat → zw_H → Prop} {X : String → Nat → zw_H → Prop} (hE : f_X1_loaded Z.2.2.2 a0 h Q X) : zw_Met l Z yX1_loaded (ws_ yX1_loaded cX1_loaded 1 (Option.some (Jvm.ClassFile.FieldType.object "MultipoleLine$Line"))) rm_X1_loaded [zA a0] h (zq_A Q) X := by
  refine zg_start (own := "MultipoleLine") (by decide +kernel) rfl (Nat.le_of_ble_eq_true rfl) hl (fun Xc ok tab fin hRm hXl hXZ => ?_)
  subst hXl
  subst hXZ
  unfold f_X1_loaded at hE
  refine zg_aload_n ok dX1_loaded_0 rfl 0 rfl ?_
  refine zg_getA ok lf_X1_68 dX1_loaded_1 hE (fun v1 hE => ?_)
  refine zg_ifnull (tgt := 11) ok dX1_loaded_4 (by decide) hE (fun hE => ?_) (fun hE => ?_)
  · refine zg_iconst (v := 0) ok dX1_loaded_11 (by decide) ?_
    exact gt_f_X1_loaded_J12 hl ok tab fin hRm  hE
  · refine zg_iconst (v := 1) ok dX1_loaded_7 (by decide) ?_
    refine zg_goto (tgt := 12) ok dX1_loaded_8 (by decide) ?_
    exact gt_f_X1_loaded_J12 hl ok tab fin hRm  hE
set_option maxHeartbeats 8000000 in
theorem mt_X1_flag {l : Launch} (hl : l.stackTraces = false) {Z : zw_Z} {a0 : Int32} {h : zw_H} {Q : Int32 → zw_H → Prop} {X : String → Nat → zw_H → Prop} (hE : f_X1_flag Z.2.2.2 a0 h Q X) : zw_Met l Z yX1_flag (ws_ yX1_flag cX1_flag 1 (Option.some Jvm.ClassFile.FieldType.int)) rm_X1_flag [zI a0] h (zq_I Q) X := by
  refine zg_start (own := "MultipoleLine") (by decide +kernel) rfl (Nat.le_of_ble_eq_true rfl) hl (fun Xc ok tab fin hRm hXl hXZ => ?_)
  subst hXl
  subst hXZ
  unfold f_X1_flag at hE
  refine zg_iload_n ok dX1_flag_0 rfl 0 rfl ?_
  refine zg_if_eq (tgt := 8) ok dX1_flag_1 (by decide) hE (fun hE => ?_) (fun hE => ?_)
  · refine zg_iconst (v := 0) ok dX1_flag_8 (by decide) ?_
    exact zg_iret ok fin dX1_flag_9 ⟨Nat.le_of_ble_eq_true rfl, Nat.le_of_ble_eq_true rfl⟩ hE
  · refine zg_iconst (v := 1) ok dX1_flag_4 (by decide) ?_
    refine zg_goto (tgt := 9) ok dX1_flag_5 (by decide) ?_
    exact zg_iret ok fin dX1_flag_9 ⟨Nat.le_of_ble_eq_true rfl, Nat.le_of_ble_eq_true rfl⟩ hE
set_option maxHeartbeats 8000000 in
theorem gt_f_X4_freeMany_B4 {Xc : zw_X} {Q : Int32 → zw_H → Prop} {X : String → Nat → zw_H → Prop} (hl : (zw_l Xc).stackTraces = false) (ok : zw_ok Xc cX4_freeMany "MultipoleLine$Line" yX4_freeMany.name 3) (tab : zw_tab Xc []) (fin : zw_fin Xc (Option.some Jvm.ClassFile.FieldType.int) (zq_I Q) X 0 0) (hRm : zw_rm Xc = rm_X4_freeMany) {kc ks : Nat} (hb : kc ≤ 0 ∧ ks ≤ 0) {R : Int32 → Int32 → zw_H → Prop} {l0 : Option Nat} (hR : ∀ (l1 : Int32) (l2 : Int32) (h : zw_H), R l1 l2 h → zw_G Xc kc ks 3 h 4 [(0, va_rf l0), (1, .int l1), (2, .int l2)] []) {k32 : Int32 → zw_H → Prop} (hk32 : ∀ (l1 : Int32) (h : zw_H), k32 l1 h → zw_G Xc kc ks 3 h 32 [(1, .int l1)] [])  {l1 : Int32} {l2 : Int32} {h : zw_H} (hE : f_X4_freeMany_B4 (zw_Zf Xc).2.2.2 Q X k32 l0 R l1 l2 h) : zw_G Xc kc ks 3 h 4 [(0, va_rf l0), (1, .int l1), (2, .int l2)] [] := by
  unfold f_X4_freeMany_B4 at hE
  refine zg_iload_n ok dX4_freeMany_4 rfl 2 rfl ?_
  refine zg_aload_n ok dX4_freeMany_5 rfl 0 rfl ?_
  refine zg_callV (vs := []) (rest := [.int l2]) (rm := rm_X4_size) ok hRm lk_X4_37 dX4_freeMany_6 hE (fun hE => mt_X4_size hl hE) rfl (Nat.le_of_ble_eq_true rfl) ⟨⟨Nat.le_of_ble_eq_true rfl, Nat.le_of_ble_eq_true rfl⟩, (by show kc + 0 ≤ 0; omega), (by show ks + 0 ≤ 0; omega)⟩ (zg_retI (fun v1 h1 hE => ?_)) (zg_xok ok tab fin ⟨(by show kc + 0 ≤ 0; omega), (by show ks + 0 ≤ 0; omega)⟩)
  refine zg_cost (kc2 := kc) (ks2 := ks) ⟨(by show kc + 0 = kc; omega), (by show ks + 0 = ks; omega)⟩ ?_
  refine zg_icmp_ge (tgt := 32) ok dX4_freeMany_9 (by decide) hE (fun hE => ?_) (fun hE => ?_)
  · refine zg_sub (L' := [(1, .int l1)]) [1] rfl ?_
    exact hk32 _ _ hE
  · refine zg_iload_n ok dX4_freeMany_12 rfl 1 rfl ?_
    refine zg_aload_n ok dX4_freeMany_13 rfl 0 rfl ?_
    refine zg_iload_n ok dX4_freeMany_14 rfl 2 rfl ?_
    refine zg_callV (vs := [zI l2]) (rest := [.int l1]) (rm := rm_X4_at) ok hRm lk_X4_41 dX4_freeMany_15 hE (fun hE => mt_X4_at hl hE) rfl (Nat.le_of_ble_eq_true rfl) ⟨⟨Nat.le_of_ble_eq_true rfl, Nat.le_of_ble_eq_true rfl⟩, (by show kc + 0 ≤ 0; omega), (by show ks + 0 ≤ 0; omega)⟩ (zg_retA (fun v2 h2 hE => ?_)) (zg_xok ok tab fin ⟨(by show kc + 0 ≤ 0; omega), (by show ks + 0 ≤ 0; omega)⟩)
    refine zg_cost (kc2 := kc) (ks2 := ks) ⟨(by show kc + 0 = kc; omega), (by show ks + 0 = ks; omega)⟩ ?_
    refine zg_getI ok lf_X4_78 dX4_freeMany_18 hE (fun v3 hE => ?_)
    refine zg_callSN (vs := [zI v3]) (rest := [.int l1]) (rm := rm_X1_flag) ok hRm lk_X4_82 dX4_freeMany_21 hE (fun hE => mt_X1_flag hl hE) rfl (Nat.le_of_ble_eq_true rfl) ⟨⟨Nat.le_of_ble_eq_true rfl, Nat.le_of_ble_eq_true rfl⟩, (by show kc + 0 ≤ 0; omega), (by show ks + 0 ≤ 0; omega)⟩ (zg_retI (fun v4 h3 hE => ?_)) (zg_xok ok tab fin ⟨(by show kc + 0 ≤ 0; omega), (by show ks + 0 ≤ 0; omega)⟩)
    refine zg_cost (kc2 := kc) (ks2 := ks) ⟨(by show kc + 0 = kc; omega), (by show ks + 0 = ks; omega)⟩ ?_
    refine zg_iadd ok dX4_freeMany_24 ?_
    refine zg_letI hE (fun v5 hE => ?_)
    refine zg_istore_nR (L' := [(1, .int v5), (0, va_rf l0), (2, .int l2)]) ok dX4_freeMany_25 rfl (by decide) 0 rfl rfl rfl ?_
    refine zg_iincL (k := 2) (L' := fun v6 => [(2, .int v6), (1, .int v5), (0, va_rf l0)]) ok dX4_freeMany_26 (by decide +kernel) hE rfl (by decide) (fun _ => rfl) (fun v6 hE => ?_)
    refine zg_goto (tgt := 4) ok dX4_freeMany_29 (by decide) ?_
    refine zg_sub (L' := [(0, va_rf l0), (1, .int v5), (2, .int v6)]) [2, 1, 0] rfl ?_
    exact hR _ _ _ hE
theorem gt_f_X4_freeMany_L4 {Xc : zw_X} {Q : Int32 → zw_H → Prop} {X : String → Nat → zw_H → Prop} (hl : (zw_l Xc).stackTraces = false) (ok : zw_ok Xc cX4_freeMany "MultipoleLine$Line" yX4_freeMany.name 3) (tab : zw_tab Xc []) (fin : zw_fin Xc (Option.some Jvm.ClassFile.FieldType.int) (zq_I Q) X 0 0) (hRm : zw_rm Xc = rm_X4_freeMany) {kc ks : Nat} (hb : kc ≤ 0 ∧ ks ≤ 0) {l0 : Option Nat} {k32 : Int32 → zw_H → Prop} (hk32 : ∀ (l1 : Int32) (h : zw_H), k32 l1 h → zw_G Xc kc ks 3 h 32 [(1, .int l1)] [])  : ∀ (n9 : Nat) (l1 : Int32) (l2 : Int32) (h : zw_H), zl3 (f_X4_freeMany_B4 (zw_Zf Xc).2.2.2 Q X k32 l0) n9 l1 l2 h → zw_G Xc kc ks 3 h 4 [(0, va_rf l0), (1, .int l1), (2, .int l2)] [] := by
  intro n9
  induction n9 with
  | zero => intro l1 l2 h hE; exact hE.elim
  | succ n9 ih => intro l1 l2 h hE; exact gt_f_X4_freeMany_B4 hl ok tab fin hRm hb ih hk32 hE
set_option maxHeartbeats 8000000 in
theorem mt_X4_freeMany {l : Launch} (hl : l.stackTraces = false) {Z : zw_Z} {a0 : Option Nat} {h : zw_H} {Q : Int32 → zw_H → Prop} {X : String → Nat → zw_H → Prop} (hE : f_X4_freeMany Z.2.2.2 a0 h Q X) : zw_Met l Z yX4_freeMany (ws_ yX4_freeMany cX4_freeMany 3 (Option.some Jvm.ClassFile.FieldType.int)) rm_X4_freeMany [zA a0] h (zq_I Q) X := by
  refine zg_start (own := "MultipoleLine$Line") (by decide +kernel) rfl (Nat.le_of_ble_eq_true rfl) hl (fun Xc ok tab fin hRm hXl hXZ => ?_)
  subst hXl
  subst hXZ
  unfold f_X4_freeMany at hE
  refine zg_iconst (v := 0) ok dX4_freeMany_0 (by decide) ?_
  refine zg_istore_nR (L' := [(1, .int 0), (0, va_rf a0)]) ok dX4_freeMany_1 rfl (by decide) 0 rfl rfl rfl ?_
  refine zg_iconst (v := 0) ok dX4_freeMany_2 (by decide) ?_
  refine zg_istore_n (L' := [(2, .int 0), (1, .int 0), (0, va_rf a0)]) ok dX4_freeMany_3 rfl (by decide) rfl ?_
  refine zg_sub (L' := [(0, va_rf a0), (1, .int 0), (2, .int 0)]) [2, 1, 0] rfl ?_
  refine gt_f_X4_freeMany_L4 hl ok tab fin hRm ⟨Nat.le_of_ble_eq_true rfl, Nat.le_of_ble_eq_true rfl⟩ ?_ _ _ _ _ hE
  · intro v7 h4 hE
    refine zg_iload_n ok dX4_freeMany_32 rfl 0 rfl ?_
    exact zg_iret ok fin dX4_freeMany_33 ⟨Nat.le_of_ble_eq_true rfl, Nat.le_of_ble_eq_true rfl⟩ hE
set_option maxHeartbeats 8000000 in
theorem mt_X4_number {l : Launch} (hl : l.stackTraces = false) {Z : zw_Z} {a0 : Option Nat} {a1 : Int32} {h : zw_H} {Q : Int32 → zw_H → Prop} {X : String → Nat → zw_H → Prop} (hE : f_X4_number Z.2.2.2 a0 a1 h Q X) : zw_Met l Z yX4_number (ws_ yX4_number cX4_number 2 (Option.some Jvm.ClassFile.FieldType.int)) rm_X4_number [zA a0, zI a1] h (zq_I Q) X := by
  refine zg_start (own := "MultipoleLine$Line") (by decide +kernel) rfl (Nat.le_of_ble_eq_true rfl) hl (fun Xc ok tab fin hRm hXl hXZ => ?_)
  subst hXl
  subst hXZ
  unfold f_X4_number at hE
  refine zg_iload_n ok dX4_number_0 rfl 1 rfl ?_
  refine zg_iconst (v := 3) ok dX4_number_1 (by decide) ?_
  refine zg_icmp_ne (tgt := 12) ok dX4_number_2 (by decide) hE (fun hE => ?_) (fun hE => ?_)
  · refine zg_iload_n ok dX4_number_12 rfl 1 rfl ?_
    refine zg_iconst (v := 4) ok dX4_number_13 (by decide) ?_
    refine zg_icmp_ne (tgt := 24) ok dX4_number_14 (by decide) hE (fun hE => ?_) (fun hE => ?_)
    · refine zg_aload_n ok dX4_number_24 rfl 0 rfl ?_
      refine zg_getI ok lf_X4_64 dX4_number_25 hE (fun v1 hE => ?_)
      exact zg_iret ok fin dX4_number_28 ⟨Nat.le_of_ble_eq_true rfl, Nat.le_of_ble_eq_true rfl⟩ hE
    · refine zg_aload_n ok dX4_number_17 rfl 0 rfl ?_
      refine zg_getI ok lf_X4_61 dX4_number_18 hE (fun v2 hE => ?_)
      refine zg_goto (tgt := 28) ok dX4_number_21 (by decide) ?_
      exact zg_iret ok fin dX4_number_28 ⟨Nat.le_of_ble_eq_true rfl, Nat.le_of_ble_eq_true rfl⟩ hE
  · refine zg_aload_n ok dX4_number_5 rfl 0 rfl ?_
    refine zg_getI ok lf_X4_57 dX4_number_6 hE (fun v3 hE => ?_)
    refine zg_goto (tgt := 28) ok dX4_number_9 (by decide) ?_
    exact zg_iret ok fin dX4_number_28 ⟨Nat.le_of_ble_eq_true rfl, Nat.le_of_ble_eq_true rfl⟩ hE
set_option maxHeartbeats 8000000 in
theorem gt_f_X4_charges_B4 {Xc : zw_X} {Q : Int32 → zw_H → Prop} {X : String → Nat → zw_H → Prop} (hl : (zw_l Xc).stackTraces = false) (ok : zw_ok Xc cX4_charges "MultipoleLine$Line" yX4_charges.name 3) (tab : zw_tab Xc []) (fin : zw_fin Xc (Option.some Jvm.ClassFile.FieldType.int) (zq_I Q) X 0 0) (hRm : zw_rm Xc = rm_X4_charges) {kc ks : Nat} (hb : kc ≤ 0 ∧ ks ≤ 0) {R : Int32 → Int32 → zw_H → Prop} {l0 : Option Nat} (hR : ∀ (l1 : Int32) (l2 : Int32) (h : zw_H), R l1 l2 h → zw_G Xc kc ks 3 h 4 [(0, va_rf l0), (1, .int l1), (2, .int l2)] []) {k29 : Int32 → zw_H → Prop} (hk29 : ∀ (l1 : Int32) (h : zw_H), k29 l1 h → zw_G Xc kc ks 3 h 29 [(1, .int l1)] [])  {l1 : Int32} {l2 : Int32} {h : zw_H} (hE : f_X4_charges_B4 (zw_Zf Xc).2.2.2 Q X k29 l0 R l1 l2 h) : zw_G Xc kc ks 3 h 4 [(0, va_rf l0), (1, .int l1), (2, .int l2)] [] := by
  unfold f_X4_charges_B4 at hE
  refine zg_iload_n ok dX4_charges_4 rfl 2 rfl ?_
  refine zg_aload_n ok dX4_charges_5 rfl 0 rfl ?_
  refine zg_callV (vs := []) (rest := [.int l2]) (rm := rm_X4_size) ok hRm lk_X4_37 dX4_charges_6 hE (fun hE => mt_X4_size hl hE) rfl (Nat.le_of_ble_eq_true rfl) ⟨⟨Nat.le_of_ble_eq_true rfl, Nat.le_of_ble_eq_true rfl⟩, (by show kc + 0 ≤ 0; omega), (by show ks + 0 ≤ 0; omega)⟩ (zg_retI (fun v1 h1 hE => ?_)) (zg_xok ok tab fin ⟨(by show kc + 0 ≤ 0; omega), (by show ks + 0 ≤ 0; omega)⟩)
  refine zg_cost (kc2 := kc) (ks2 := ks) ⟨(by show kc + 0 = kc; omega), (by show ks + 0 = ks; omega)⟩ ?_
  refine zg_icmp_ge (tgt := 29) ok dX4_charges_9 (by decide) hE (fun hE => ?_) (fun hE => ?_)
  · refine zg_sub (L' := [(1, .int l1)]) [1] rfl ?_
    exact hk29 _ _ hE
  · refine zg_iload_n ok dX4_charges_12 rfl 1 rfl ?_
    refine zg_aload_n ok dX4_charges_13 rfl 0 rfl ?_
    refine zg_iload_n ok dX4_charges_14 rfl 2 rfl ?_
    refine zg_callV (vs := [zI l2]) (rest := [.int l1]) (rm := rm_X4_at) ok hRm lk_X4_41 dX4_charges_15 hE (fun hE => mt_X4_at hl hE) rfl (Nat.le_of_ble_eq_true rfl) ⟨⟨Nat.le_of_ble_eq_true rfl, Nat.le_of_ble_eq_true rfl⟩, (by show kc + 0 ≤ 0; omega), (by show ks + 0 ≤ 0; omega)⟩ (zg_retA (fun v2 h2 hE => ?_)) (zg_xok ok tab fin ⟨(by show kc + 0 ≤ 0; omega), (by show ks + 0 ≤ 0; omega)⟩)
    refine zg_cost (kc2 := kc) (ks2 := ks) ⟨(by show kc + 0 = kc; omega), (by show ks + 0 = ks; omega)⟩ ?_
    refine zg_getI ok lf_X4_89 dX4_charges_18 hE (fun v3 hE => ?_)
    refine zg_iadd ok dX4_charges_21 ?_
    refine zg_letI hE (fun v4 hE => ?_)
    refine zg_istore_nR (L' := [(1, .int v4), (0, va_rf l0), (2, .int l2)]) ok dX4_charges_22 rfl (by decide) 0 rfl rfl rfl ?_
    refine zg_iincL (k := 2) (L' := fun v5 => [(2, .int v5), (1, .int v4), (0, va_rf l0)]) ok dX4_charges_23 (by decide +kernel) hE rfl (by decide) (fun _ => rfl) (fun v5 hE => ?_)
    refine zg_goto (tgt := 4) ok dX4_charges_26 (by decide) ?_
    refine zg_sub (L' := [(0, va_rf l0), (1, .int v4), (2, .int v5)]) [2, 1, 0] rfl ?_
    exact hR _ _ _ hE
theorem gt_f_X4_charges_L4 {Xc : zw_X} {Q : Int32 → zw_H → Prop} {X : String → Nat → zw_H → Prop} (hl : (zw_l Xc).stackTraces = false) (ok : zw_ok Xc cX4_charges "MultipoleLine$Line" yX4_charges.name 3) (tab : zw_tab Xc []) (fin : zw_fin Xc (Option.some Jvm.ClassFile.FieldType.int) (zq_I Q) X 0 0) (hRm : zw_rm Xc = rm_X4_charges) {kc ks : Nat} (hb : kc ≤ 0 ∧ ks ≤ 0) {l0 : Option Nat} {k29 : Int32 → zw_H → Prop} (hk29 : ∀ (l1 : Int32) (h : zw_H), k29 l1 h → zw_G Xc kc ks 3 h 29 [(1, .int l1)] [])  : ∀ (n9 : Nat) (l1 : Int32) (l2 : Int32) (h : zw_H), zl3 (f_X4_charges_B4 (zw_Zf Xc).2.2.2 Q X k29 l0) n9 l1 l2 h → zw_G Xc kc ks 3 h 4 [(0, va_rf l0), (1, .int l1), (2, .int l2)] [] := by
  intro n9
  induction n9 with
  | zero => intro l1 l2 h hE; exact hE.elim
  | succ n9 ih => intro l1 l2 h hE; exact gt_f_X4_charges_B4 hl ok tab fin hRm hb ih hk29 hE
set_option maxHeartbeats 8000000 in
theorem mt_X4_charges {l : Launch} (hl : l.stackTraces = false) {Z : zw_Z} {a0 : Option Nat} {h : zw_H} {Q : Int32 → zw_H → Prop} {X : String → Nat → zw_H → Prop} (hE : f_X4_charges Z.2.2.2 a0 h Q X) : zw_Met l Z yX4_charges (ws_ yX4_charges cX4_charges 3 (Option.some Jvm.ClassFile.FieldType.int)) rm_X4_charges [zA a0] h (zq_I Q) X := by
  refine zg_start (own := "MultipoleLine$Line") (by decide +kernel) rfl (Nat.le_of_ble_eq_true rfl) hl (fun Xc ok tab fin hRm hXl hXZ => ?_)
  subst hXl
  subst hXZ
  unfold f_X4_charges at hE
  refine zg_iconst (v := 0) ok dX4_charges_0 (by decide) ?_
  refine zg_istore_nR (L' := [(1, .int 0), (0, va_rf a0)]) ok dX4_charges_1 rfl (by decide) 0 rfl rfl rfl ?_
  refine zg_iconst (v := 0) ok dX4_charges_2 (by decide) ?_
  refine zg_istore_n (L' := [(2, .int 0), (1, .int 0), (0, va_rf a0)]) ok dX4_charges_3 rfl (by decide) rfl ?_
  refine zg_sub (L' := [(0, va_rf a0), (1, .int 0), (2, .int 0)]) [2, 1, 0] rfl ?_
  refine gt_f_X4_charges_L4 hl ok tab fin hRm ⟨Nat.le_of_ble_eq_true rfl, Nat.le_of_ble_eq_true rfl⟩ ?_ _ _ _ _ hE
  · intro v6 h3 hE
    refine zg_iload_n ok dX4_charges_29 rfl 0 rfl ?_
    exact zg_iret ok fin dX4_charges_30 ⟨Nat.le_of_ble_eq_true rfl, Nat.le_of_ble_eq_true rfl⟩ hE
set_option maxHeartbeats 8000000 in
theorem mt_J14_abs {l : Launch} (hl : l.stackTraces = false) {Z : zw_Z} {a0 : Int32} {h : zw_H} {Q : Int32 → zw_H → Prop} {X : String → Nat → zw_H → Prop} (hE : f_J14_abs Z.2.2.2 a0 h Q X) : zw_Met l Z yJ14_abs (ws_ yJ14_abs cJ14_abs 1 (Option.some Jvm.ClassFile.FieldType.int)) rm_J14_abs [zI a0] h (zq_I Q) X := by
  refine zg_startF (own := "java/lang/Math") (by decide +kernel) rfl (Nat.le_of_ble_eq_true rfl) hl (fun Xc ok tab fin hRm hXl hXZ => ?_)
  subst hXl
  subst hXZ
  unfold f_J14_abs at hE
  refine zg_iload_n ok dJ14_abs_0 rfl 0 rfl ?_
  refine zg_if_ge (tgt := 9) ok dJ14_abs_1 (by decide) hE (fun hE => ?_) (fun hE => ?_)
  · refine zg_iload_n ok dJ14_abs_9 rfl 0 rfl ?_
    exact zg_iret ok fin dJ14_abs_10 ⟨Nat.le_of_ble_eq_true rfl, Nat.le_of_ble_eq_true rfl⟩ hE
  · refine zg_iload_n ok dJ14_abs_4 rfl 0 rfl ?_
    refine zg_ineg ok dJ14_abs_5 ?_
    refine zg_goto (tgt := 10) ok dJ14_abs_6 (by decide) ?_
    exact zg_iret ok fin dJ14_abs_10 ⟨Nat.le_of_ble_eq_true rfl, Nat.le_of_ble_eq_true rfl⟩ hE
set_option maxHeartbeats 8000000 in
theorem gt_f_X4_weights_B4 {Xc : zw_X} {Q : Int32 → zw_H → Prop} {X : String → Nat → zw_H → Prop} (hl : (zw_l Xc).stackTraces = false) (ok : zw_ok Xc cX4_weights "MultipoleLine$Line" yX4_weights.name 3) (tab : zw_tab Xc []) (fin : zw_fin Xc (Option.some Jvm.ClassFile.FieldType.int) (zq_I Q) X 0 0) (hRm : zw_rm Xc = rm_X4_weights) {kc ks : Nat} (hb : kc ≤ 0 ∧ ks ≤ 0) {R : Int32 → Int32 → zw_H → Prop} {l0 : Option Nat} (hR : ∀ (l1 : Int32) (l2 : Int32) (h : zw_H), R l1 l2 h → zw_G Xc kc ks 3 h 4 [(0, va_rf l0), (1, .int l1), (2, .int l2)] []) {k32 : Int32 → zw_H → Prop} (hk32 : ∀ (l1 : Int32) (h : zw_H), k32 l1 h → zw_G Xc kc ks 3 h 32 [(1, .int l1)] [])  {l1 : Int32} {l2 : Int32} {h : zw_H} (hE : f_X4_weights_B4 (zw_Zf Xc).2.2.2 Q X k32 l0 R l1 l2 h) : zw_G Xc kc ks 3 h 4 [(0, va_rf l0), (1, .int l1), (2, .int l2)] [] := by
  unfold f_X4_weights_B4 at hE
  refine zg_iload_n ok dX4_weights_4 rfl 2 rfl ?_
  refine zg_aload_n ok dX4_weights_5 rfl 0 rfl ?_
  refine zg_callV (vs := []) (rest := [.int l2]) (rm := rm_X4_size) ok hRm lk_X4_37 dX4_weights_6 hE (fun hE => mt_X4_size hl hE) rfl (Nat.le_of_ble_eq_true rfl) ⟨⟨Nat.le_of_ble_eq_true rfl, Nat.le_of_ble_eq_true rfl⟩, (by show kc + 0 ≤ 0; omega), (by show ks + 0 ≤ 0; omega)⟩ (zg_retI (fun v1 h1 hE => ?_)) (zg_xok ok tab fin ⟨(by show kc + 0 ≤ 0; omega), (by show ks + 0 ≤ 0; omega)⟩)
  refine zg_cost (kc2 := kc) (ks2 := ks) ⟨(by show kc + 0 = kc; omega), (by show ks + 0 = ks; omega)⟩ ?_
  refine zg_icmp_ge (tgt := 32) ok dX4_weights_9 (by decide) hE (fun hE => ?_) (fun hE => ?_)
  · refine zg_sub (L' := [(1, .int l1)]) [1] rfl ?_
    exact hk32 _ _ hE
  · refine zg_iload_n ok dX4_weights_12 rfl 1 rfl ?_
    refine zg_aload_n ok dX4_weights_13 rfl 0 rfl ?_
    refine zg_iload_n ok dX4_weights_14 rfl 2 rfl ?_
    refine zg_callV (vs := [zI l2]) (rest := [.int l1]) (rm := rm_X4_at) ok hRm lk_X4_41 dX4_weights_15 hE (fun hE => mt_X4_at hl hE) rfl (Nat.le_of_ble_eq_true rfl) ⟨⟨Nat.le_of_ble_eq_true rfl, Nat.le_of_ble_eq_true rfl⟩, (by show kc + 0 ≤ 0; omega), (by show ks + 0 ≤ 0; omega)⟩ (zg_retA (fun v2 h2 hE => ?_)) (zg_xok ok tab fin ⟨(by show kc + 0 ≤ 0; omega), (by show ks + 0 ≤ 0; omega)⟩)
    refine zg_cost (kc2 := kc) (ks2 := ks) ⟨(by show kc + 0 = kc; omega), (by show ks + 0 = ks; omega)⟩ ?_
    refine zg_getI ok lf_X4_89 dX4_weights_18 hE (fun v3 hE => ?_)
    refine zg_callS (vs := [zI v3]) (rest := [.int l1]) (rm := rm_J14_abs) ok hRm lk_X4_92 dX4_weights_21 hE (fun hE => mt_J14_abs hl hE) rfl (Nat.le_of_ble_eq_true rfl) ⟨⟨Nat.le_of_ble_eq_true rfl, Nat.le_of_ble_eq_true rfl⟩, (by show kc + 0 ≤ 0; omega), (by show ks + 0 ≤ 0; omega)⟩ (zg_retI (fun v4 h3 hE => ?_)) (zg_xok ok tab fin ⟨(by show kc + 0 ≤ 0; omega), (by show ks + 0 ≤ 0; omega)⟩)
    refine zg_cost (kc2 := kc) (ks2 := ks) ⟨(by show kc + 0 = kc; omega), (by show ks + 0 = ks; omega)⟩ ?_
    refine zg_iadd ok dX4_weights_24 ?_
    refine zg_letI hE (fun v5 hE => ?_)
    refine zg_istore_nR (L' := [(1, .int v5), (0, va_rf l0), (2, .int l2)]) ok dX4_weights_25 rfl (by decide) 0 rfl rfl rfl ?_
    refine zg_iincL (k := 2) (L' := fun v6 => [(2, .int v6), (1, .int v5), (0, va_rf l0)]) ok dX4_weights_26 (by decide +kernel) hE rfl (by decide) (fun _ => rfl) (fun v6 hE => ?_)
    refine zg_goto (tgt := 4) ok dX4_weights_29 (by decide) ?_
    refine zg_sub (L' := [(0, va_rf l0), (1, .int v5), (2, .int v6)]) [2, 1, 0] rfl ?_
    exact hR _ _ _ hE
theorem gt_f_X4_weights_L4 {Xc : zw_X} {Q : Int32 → zw_H → Prop} {X : String → Nat → zw_H → Prop} (hl : (zw_l Xc).stackTraces = false) (ok : zw_ok Xc cX4_weights "MultipoleLine$Line" yX4_weights.name 3) (tab : zw_tab Xc []) (fin : zw_fin Xc (Option.some Jvm.ClassFile.FieldType.int) (zq_I Q) X 0 0) (hRm : zw_rm Xc = rm_X4_weights) {kc ks : Nat} (hb : kc ≤ 0 ∧ ks ≤ 0) {l0 : Option Nat} {k32 : Int32 → zw_H → Prop} (hk32 : ∀ (l1 : Int32) (h : zw_H), k32 l1 h → zw_G Xc kc ks 3 h 32 [(1, .int l1)] [])  : ∀ (n9 : Nat) (l1 : Int32) (l2 : Int32) (h : zw_H), zl3 (f_X4_weights_B4 (zw_Zf Xc).2.2.2 Q X k32 l0) n9 l1 l2 h → zw_G Xc kc ks 3 h 4 [(0, va_rf l0), (1, .int l1), (2, .int l2)] [] := by
  intro n9
  induction n9 with
  | zero => intro l1 l2 h hE; exact hE.elim
  | succ n9 ih => intro l1 l2 h hE; exact gt_f_X4_weights_B4 hl ok tab fin hRm hb ih hk32 hE
set_option maxHeartbeats 8000000 in
theorem mt_X4_weights {l : Launch} (hl : l.stackTraces = false) {Z : zw_Z} {a0 : Option Nat} {h : zw_H} {Q : Int32 → zw_H → Prop} {X : String → Nat → zw_H → Prop} (hE : f_X4_weights Z.2.2.2 a0 h Q X) : zw_Met l Z yX4_weights (ws_ yX4_weights cX4_weights 3 (Option.some Jvm.ClassFile.FieldType.int)) rm_X4_weights [zA a0] h (zq_I Q) X := by
  refine zg_start (own := "MultipoleLine$Line") (by decide +kernel) rfl (Nat.le_of_ble_eq_true rfl) hl (fun Xc ok tab fin hRm hXl hXZ => ?_)
  subst hXl
  subst hXZ
  unfold f_X4_weights at hE
  refine zg_iconst (v := 0) ok dX4_weights_0 (by decide) ?_
  refine zg_istore_nR (L' := [(1, .int 0), (0, va_rf a0)]) ok dX4_weights_1 rfl (by decide) 0 rfl rfl rfl ?_
  refine zg_iconst (v := 0) ok dX4_weights_2 (by decide) ?_
  refine zg_istore_n (L' := [(2, .int 0), (1, .int 0), (0, va_rf a0)]) ok dX4_weights_3 rfl (by decide) rfl ?_
  refine zg_sub (L' := [(0, va_rf a0), (1, .int 0), (2, .int 0)]) [2, 1, 0] rfl ?_
  refine gt_f_X4_weights_L4 hl ok tab fin hRm ⟨Nat.le_of_ble_eq_true rfl, Nat.le_of_ble_eq_true rfl⟩ ?_ _ _ _ _ hE
  · intro v7 h4 hE
    refine zg_iload_n ok dX4_weights_32 rfl 0 rfl ?_
    exact zg_iret ok fin dX4_weights_33 ⟨Nat.le_of_ble_eq_true rfl, Nat.le_of_ble_eq_true rfl⟩ hE
set_option maxHeartbeats 8000000 in
theorem mt_J25_wordIndex {l : Launch} (hl : l.stackTraces = false) {Z : zw_Z} {a0 : Int32} {h : zw_H} {Q : Int32 → zw_H → Prop} {X : String → Nat → zw_H → Prop} (hE : f_J25_wordIndex Z.2.2.2 a0 h Q X) : zw_Met l Z yJ25_wordIndex (ws_ yJ25_wordIndex cJ25_wordIndex 1 (Option.some Jvm.ClassFile.FieldType.int)) rm_J25_wordIndex [zI a0] h (zq_I Q) X := by
  refine zg_start (own := "java/util/BitSet") (by decide +kernel) rfl (Nat.le_of_ble_eq_true rfl) hl (fun Xc ok tab fin hRm hXl hXZ => ?_)
  subst hXl
  subst hXZ
  unfold f_J25_wordIndex at hE
  refine zg_iload_n ok dJ25_wordIndex_0 rfl 0 rfl ?_
  refine zg_bipush (v := 6) ok dJ25_wordIndex_1 (by decide) ?_
  refine zg_ishr ok dJ25_wordIndex_3 ?_
  exact zg_iret ok fin dJ25_wordIndex_4 ⟨Nat.le_of_ble_eq_true rfl, Nat.le_of_ble_eq_true rfl⟩ hE
set_option maxHeartbeats 8000000 in
theorem mt_J25_initWords {l : Launch} (hl : l.stackTraces = false) {Z : zw_Z} {a0 : Option Nat} {a1 : Int32} {h : zw_H} {Q : zw_H → Prop} {X : String → Nat → zw_H → Prop} (hE : f_J25_initWords Z.2.2.2 a0 a1 h Q X) : zw_Met l Z yJ25_initWords (ws_ yJ25_initWords cJ25_initWords 2 (Option.none : Option Jvm.ClassFile.FieldType)) rm_J25_initWords [zA a0, zI a1] h (zq_V Q) X := by
  refine zg_start (own := "java/util/BitSet") (by decide +kernel) rfl (Nat.le_of_ble_eq_true rfl) hl (fun Xc ok tab fin hRm hXl hXZ => ?_)
  subst hXl
  subst hXZ
  unfold f_J25_initWords at hE
  refine zg_aload_n ok dJ25_initWords_0 rfl 0 rfl ?_
  refine zg_iload_n ok dJ25_initWords_1 rfl 1 rfl ?_
  refine zg_iconst (v := 1) ok dJ25_initWords_2 (by decide) ?_
  refine zg_isub ok dJ25_initWords_3 ?_
  refine zg_callS (vs := [zI (a1 - 1)]) (rest := [va_rf a0]) (rm := rm_J25_wordIndex) ok hRm lk_J25_52 dJ25_initWords_4 hE (fun hE => mt_J25_wordIndex hl hE) rfl (Nat.le_of_ble_eq_true rfl) ⟨⟨Nat.le_of_ble_eq_true rfl, Nat.le_of_ble_eq_true rfl⟩, Nat.le_of_ble_eq_true rfl, Nat.le_of_ble_eq_true rfl⟩ (zg_retI (fun v1 h1 hE => ?_)) (zg_xok ok tab fin ⟨Nat.le_of_ble_eq_true rfl, Nat.le_of_ble_eq_true rfl⟩)
  refine zg_cost (kc2 := 0) (ks2 := 0) ⟨rfl, rfl⟩ ?_
  refine zg_iconst (v := 1) ok dJ25_initWords_7 (by decide) ?_
  refine zg_iadd ok dJ25_initWords_8 ?_
  refine zg_newJ (b := 4) ok (by rw [hRm]; exact ⟨Nat.le_of_ble_eq_true rfl, Nat.le_of_ble_eq_true rfl⟩) (Nat.le_of_ble_eq_true rfl) dJ25_initWords_9 hE (fun v2 h2 hE => ?_)
  refine zg_cost (kc2 := 1) (ks2 := 4) ⟨rfl, rfl⟩ ?_
  refine zg_put (ty := (.array .long)) ok lf_J25_11 (Or.inl rfl) (by decide) (by decide +kernel) (zw_nrA _ _) (zw_frA _ _) dJ25_initWords_11 hE (fun h3 hE => ?_)
  exact zg_vret ok fin dJ25_initWords_14 ⟨Nat.le_of_ble_eq_true rfl, Nat.le_of_ble_eq_true rfl⟩ hE
set_option maxHeartbeats 8000000 in
theorem mt_J25_init {l : Launch} (hl : l.stackTraces = false) {Z : zw_Z} {a0 : Option Nat} {a1 : Int32} {h : zw_H} {Q : zw_H → Prop} {X : String → Nat → zw_H → Prop} (hE : f_J25_init Z.2.2.2 a0 a1 h Q X) : zw_Met l Z yJ25_init (ws_ yJ25_init cJ25_init 2 (Option.none : Option Jvm.ClassFile.FieldType)) rm_J25_init [zA a0, zI a1] h (zq_V Q) X := by
  refine zg_start (own := "java/util/BitSet") (by decide +kernel) rfl (Nat.le_of_ble_eq_true rfl) hl (fun Xc ok tab fin hRm hXl hXZ => ?_)
  subst hXl
  subst hXZ
  unfold f_J25_init at hE
  refine zg_aload_n ok dJ25_init_0 rfl 0 rfl ?_
  refine zg_objInitE (rest := []) ok hRm q1170 ⟨Nat.le_of_ble_eq_true rfl, Nat.le_of_ble_eq_true rfl⟩ (Nat.le_of_ble_eq_true rfl) dJ25_init_1 hE (fun hE => ?_)
  refine zg_aload_n ok dJ25_init_4 rfl 0 rfl ?_
  refine zg_iconst (v := 0) ok dJ25_init_5 (by decide) ?_
  refine zg_put (ty := .int) ok lf_J25_7 (Or.inl rfl) (by decide) (by decide +kernel) rfl rfl dJ25_init_6 hE (fun h1 hE => ?_)
  refine zg_aload_n ok dJ25_init_9 rfl 0 rfl ?_
  refine zg_iconst (v := 0) ok dJ25_init_10 (by decide) ?_
  refine zg_put (ty := .boolean) ok lf_J25_24 (Or.inl rfl) (by decide) (by decide +kernel) rfl rfl dJ25_init_11 hE (fun h2 hE => ?_)
  refine zg_iload_n ok dJ25_init_14 rfl 1 rfl ?_
  refine zg_if_ge (tgt := 45) ok dJ25_init_15 (by decide) hE (fun hE => ?_) (fun hE => ?_)
  · refine zg_aload_n ok dJ25_init_45 rfl 0 rfl ?_
    refine zg_iload_n ok dJ25_init_46 rfl 1 rfl ?_
    refine zg_callV (vs := [zI a1]) (rest := []) (rm := rm_J25_initWords) ok hRm lk_J25_27 dJ25_init_47 hE (fun hE => mt_J25_initWords hl hE) rfl (Nat.le_of_ble_eq_true rfl) ⟨⟨Nat.le_of_ble_eq_true rfl, Nat.le_of_ble_eq_true rfl⟩, Nat.le_of_ble_eq_true rfl, Nat.le_of_ble_eq_true rfl⟩ (zg_retV (fun h3 hE => ?_)) (zg_xok ok tab fin ⟨Nat.le_of_ble_eq_true rfl, Nat.le_of_ble_eq_true rfl⟩)
    refine zg_cost (kc2 := 1) (ks2 := 4) ⟨rfl, rfl⟩ ?_
    refine zg_aload_n ok dJ25_init_50 rfl 0 rfl ?_
    refine zg_iconst (v := 1) ok dJ25_init_51 (by decide) ?_
    refine zg_put (ty := .boolean) ok lf_J25_24 (Or.inl rfl) (by decide) (by decide +kernel) rfl rfl dJ25_init_52 hE (fun h4 hE => ?_)
    exact zg_vret ok fin dJ25_init_55 ⟨Nat.le_of_ble_eq_true rfl, Nat.le_of_ble_eq_true rfl⟩ hE
  · exact hE.elim
set_option maxHeartbeats 8000000 in
theorem mt_X4_around {l : Launch} (hl : l.stackTraces = false) {Z : zw_Z} {a0 : Option Nat} {a1 : Int32} {a2 : Int32} {h : zw_H} {Q : Option Nat → zw_H → Prop} {X : String → Nat → zw_H → Prop} (hE : f_X4_around Z.2.2.2 a0 a1 a2 h Q X) : zw_Met l Z yX4_around (ws_ yX4_around cX4_around 3 (Option.some (Jvm.ClassFile.FieldType.object "MultipoleLine$Box"))) rm_X4_around [zA a0, zI a1, zI a2] h (zq_A Q) X := by
  refine zg_start (own := "MultipoleLine$Line") (by decide +kernel) rfl (Nat.le_of_ble_eq_true rfl) hl (fun Xc ok tab fin hRm hXl hXZ => ?_)
  subst hXl
  subst hXZ
  unfold f_X4_around at hE
  refine zg_aload_n ok dX4_around_0 rfl 0 rfl ?_
  refine zg_getA ok lf_X4_20 dX4_around_1 hE (fun v1 hE => ?_)
  refine zg_iload_n ok dX4_around_4 rfl 1 rfl ?_
  refine zg_aaldBB ok dX4_around_5 hE (fun v2 hE => ?_)
  refine zg_iload_n ok dX4_around_6 rfl 2 rfl ?_
  refine zg_sipush (v := 256) ok dX4_around_7 (by decide) ?_
  refine zg_iload_n ok dX4_around_10 rfl 1 rfl ?_
  refine zg_ishr ok dX4_around_11 ?_
  refine zg_idivE ok dX4_around_12 hE (fun hE => ?_)
  refine zg_aaldB ok dX4_around_13 hE (fun v3 hE => ?_)
  exact zg_aret ok fin (Or.inl ⟨_, rfl⟩) dX4_around_14 ⟨Nat.le_of_ble_eq_true rfl, Nat.le_of_ble_eq_true rfl⟩ hE
set_option maxHeartbeats 8000000 in
theorem mt_X4_leaf {l : Launch} (hl : l.stackTraces = false) {Z : zw_Z} {a0 : Option Nat} {a1 : Int32} {h : zw_H} {Q : Option Nat → zw_H → Prop} {X : String → Nat → zw_H → Prop} (hE : f_X4_leaf Z.2.2.2 a0 a1 h Q X) : zw_Met l Z yX4_leaf (ws_ yX4_leaf cX4_leaf 2 (Option.some (Jvm.ClassFile.FieldType.object "MultipoleLine$Box"))) rm_X4_leaf [zA a0, zI a1] h (zq_A Q) X := by
  refine zg_start (own := "MultipoleLine$Line") (by decide +kernel) rfl (Nat.le_of_ble_eq_true rfl) hl (fun Xc ok tab fin hRm hXl hXZ => ?_)
  subst hXl
  subst hXZ
  unfold f_X4_leaf at hE
  refine zg_aload_n ok dX4_leaf_0 rfl 0 rfl ?_
  refine zg_aload_n ok dX4_leaf_1 rfl 0 rfl ?_
  refine zg_getI ok lf_X4_57 dX4_leaf_2 hE (fun v1 hE => ?_)
  refine zg_iload_n ok dX4_leaf_5 rfl 1 rfl ?_
  refine zg_callV (vs := [zI v1, zI a1]) (rest := []) (rm := rm_X4_around) ok hRm lk_X4_98 dX4_leaf_6 hE (fun hE => mt_X4_around hl hE) rfl (Nat.le_of_ble_eq_true rfl) ⟨⟨Nat.le_of_ble_eq_true rfl, Nat.le_of_ble_eq_true rfl⟩, Nat.le_of_ble_eq_true rfl, Nat.le_of_ble_eq_true rfl⟩ (zg_retA (fun v2 h1 hE => ?_)) (zg_xok ok tab fin ⟨Nat.le_of_ble_eq_true rfl, Nat.le_of_ble_eq_true rfl⟩)
  refine zg_cost (kc2 := 0) (ks2 := 0) ⟨rfl, rfl⟩ ?_
  exact zg_aret ok fin (Or.inl ⟨_, rfl⟩) dX4_leaf_9 ⟨Nat.le_of_ble_eq_true rfl, Nat.le_of_ble_eq_true rfl⟩ hE
set_option maxHeartbeats 8000000 in
theorem mt_J9_init {l : Launch} (hl : l.stackTraces = false) {Z : zw_Z} {a0 : Option Nat} {a1 : Option Nat} {h : zw_H} {Q : zw_H → Prop} {X : String → Nat → zw_H → Prop} (hE : f_J9_init Z.2.2.2 a0 a1 h Q X) : zw_Met l Z yJ9_init (ws_ yJ9_init cJ9_init 2 (Option.none : Option Jvm.ClassFile.FieldType)) rm_J9_init [zA a0, zA a1] h (zq_V Q) X := by
  refine zg_start (own := "java/lang/IndexOutOfBoundsException") (by decide +kernel) rfl (Nat.le_of_ble_eq_true rfl) hl (fun Xc ok tab fin hRm hXl hXZ => ?_)
  subst hXl
  subst hXZ
  unfold f_J9_init at hE
  refine zg_aload_n ok dJ9_init_0 rfl 0 rfl ?_
  refine zg_aload_n ok dJ9_init_1 rfl 1 rfl ?_
  refine zg_callI (vs := [zA a1]) (rest := []) (rm := rm_J8_init) ok hRm lk_J9_7 dJ9_init_2 hE.1 hE.2 (fun hE => mt_J8_init hl hE) rfl (Nat.le_of_ble_eq_true rfl) ⟨⟨Nat.le_of_ble_eq_true rfl, Nat.le_of_ble_eq_true rfl⟩, Nat.le_of_ble_eq_true rfl, Nat.le_of_ble_eq_true rfl⟩ (zg_retV (fun h1 hE => ?_)) (zg_xok ok tab fin ⟨Nat.le_of_ble_eq_true rfl, Nat.le_of_ble_eq_true rfl⟩)
  refine zg_cost (kc2 := 0) (ks2 := 0) ⟨rfl, rfl⟩ ?_
  exact zg_vret ok fin dJ9_init_5 ⟨Nat.le_of_ble_eq_true rfl, Nat.le_of_ble_eq_true rfl⟩ hE
set_option maxHeartbeats 8000000 in
theorem mt_J15_copyOf_4 {l : Launch} (hl : l.stackTraces = false) {Z : zw_Z} {a0 : Option Nat} {a1 : Int32} {h : zw_H} {Q : Option Nat → zw_H → Prop} {X : String → Nat → zw_H → Prop} (hE : f_J15_copyOf_4 Z.2.2.2 a0 a1 h Q X) : zw_Met l Z yJ15_copyOf_4 (ws_ yJ15_copyOf_4 cJ15_copyOf_4 3 (Option.some (Jvm.ClassFile.FieldType.array Jvm.ClassFile.FieldType.long))) rm_J15_copyOf_4 [zA a0, zI a1] h (zq_A Q) X := by
  refine zg_start (own := "java/util/Arrays") (by decide +kernel) rfl (Nat.le_of_ble_eq_true rfl) hl (fun Xc ok tab fin hRm hXl hXZ => ?_)
  subst hXl
  subst hXZ
  unfold f_J15_copyOf_4 at hE
  exact hE.elim
set_option maxHeartbeats 8000000 in
theorem mt_J25_ensureCapacity {l : Launch} (hl : l.stackTraces = false) {Z : zw_Z} {a0 : Option Nat} {a1 : Int32} {h : zw_H} {Q : zw_H → Prop} {X : String → Nat → zw_H → Prop} (hE : f_J25_ensureCapacity Z.2.2.2 a0 a1 h Q X) : zw_Met l Z yJ25_ensureCapacity (ws_ yJ25_ensureCapacity cJ25_ensureCapacity 3 (Option.none : Option Jvm.ClassFile.FieldType)) rm_J25_ensureCapacity [zA a0, zI a1] h (zq_V Q) X := by
  refine zg_start (own := "java/util/BitSet") (by decide +kernel) rfl (Nat.le_of_ble_eq_true rfl) hl (fun Xc ok tab fin hRm hXl hXZ => ?_)
  subst hXl
  subst hXZ
  unfold f_J25_ensureCapacity at hE
  refine zg_aload_n ok dJ25_ensureCapacity_0 rfl 0 rfl ?_
  refine zg_getA ok lf_J25_11 dJ25_ensureCapacity_1 hE (fun v1 hE => ?_)
  refine zg_alen ok dJ25_ensureCapacity_4 hE (fun v2 hE => ?_)
  refine zg_iload_n ok dJ25_ensureCapacity_5 rfl 1 rfl ?_
  refine zg_icmp_ge (tgt := 38) ok dJ25_ensureCapacity_6 (by decide) hE (fun hE => ?_) (fun hE => ?_)
  · exact zg_vret ok fin dJ25_ensureCapacity_38 ⟨Nat.le_of_ble_eq_true rfl, Nat.le_of_ble_eq_true rfl⟩ hE
  · refine zg_iconst (v := 2) ok dJ25_ensureCapacity_9 (by decide) ?_
    refine zg_aload_n ok dJ25_ensureCapacity_10 rfl 0 rfl ?_
    refine zg_getA ok lf_J25_11 dJ25_ensureCapacity_11 hE (fun v3 hE => ?_)
    refine zg_alen ok dJ25_ensureCapacity_14 hE (fun v4 hE => ?_)
    refine zg_imul ok dJ25_ensureCapacity_15 ?_
    refine zg_iload_n ok dJ25_ensureCapacity_16 rfl 1 rfl ?_
    refine zg_callS (vs := [zI ((2 : Int32) * v4), zI a1]) (rest := []) (rm := rm_J14_max) ok hRm lk_J25_133 dJ25_ensureCapacity_17 hE (fun hE => mt_J14_max hl hE) rfl (Nat.le_of_ble_eq_true rfl) ⟨⟨Nat.le_of_ble_eq_true rfl, Nat.le_of_ble_eq_true rfl⟩, Nat.le_of_ble_eq_true rfl, Nat.le_of_ble_eq_true rfl⟩ (zg_retI (fun v5 h1 hE => ?_)) (zg_xok ok tab fin ⟨Nat.le_of_ble_eq_true rfl, Nat.le_of_ble_eq_true rfl⟩)
    refine zg_cost (kc2 := 0) (ks2 := 0) ⟨rfl, rfl⟩ ?_
    refine zg_istore_n (L' := [(2, .int v5), (0, va_rf a0), (1, .int a1)]) ok dJ25_ensureCapacity_20 rfl (by decide) rfl ?_
    refine zg_aload_n ok dJ25_ensureCapacity_21 rfl 1 rfl ?_
    refine zg_aload_n ok dJ25_ensureCapacity_22 rfl 1 rfl ?_
    refine zg_getA ok lf_J25_11 dJ25_ensureCapacity_23 hE (fun v6 hE => ?_)
    refine zg_iload_n ok dJ25_ensureCapacity_26 rfl 0 rfl ?_
    refine zg_callS (vs := [zA v6, zI v5]) (rest := [va_rf a0]) (rm := rm_J15_copyOf_4) ok hRm lk_J25_59 dJ25_ensureCapacity_27 hE (fun hE => mt_J15_copyOf_4 hl hE) rfl (Nat.le_of_ble_eq_true rfl) ⟨⟨Nat.le_of_ble_eq_true rfl, Nat.le_of_ble_eq_true rfl⟩, Nat.le_of_ble_eq_true rfl, Nat.le_of_ble_eq_true rfl⟩ (zg_retA (fun v7 h2 hE => ?_)) (zg_xok ok tab fin ⟨Nat.le_of_ble_eq_true rfl, Nat.le_of_ble_eq_true rfl⟩)
    refine zg_cost (kc2 := 0) (ks2 := 0) ⟨rfl, rfl⟩ ?_
    refine zg_put (ty := (.array .long)) ok lf_J25_11 (Or.inl rfl) (by decide) (by decide +kernel) (zw_nrA _ _) (zw_frA _ _) dJ25_ensureCapacity_30 hE (fun h3 hE => ?_)
    refine zg_aload_n ok dJ25_ensureCapacity_33 rfl 1 rfl ?_
    refine zg_iconst (v := 0) ok dJ25_ensureCapacity_34 (by decide) ?_
    refine zg_put (ty := .boolean) ok lf_J25_24 (Or.inl rfl) (by decide) (by decide +kernel) rfl rfl dJ25_ensureCapacity_35 hE (fun h4 hE => ?_)
    exact zg_vret ok fin dJ25_ensureCapacity_38 ⟨Nat.le_of_ble_eq_true rfl, Nat.le_of_ble_eq_true rfl⟩ hE
set_option maxHeartbeats 8000000 in
theorem mt_J25_expandTo {l : Launch} (hl : l.stackTraces = false) {Z : zw_Z} {a0 : Option Nat} {a1 : Int32} {h : zw_H} {Q : zw_H → Prop} {X : String → Nat → zw_H → Prop} (hE : f_J25_expandTo Z.2.2.2 a0 a1 h Q X) : zw_Met l Z yJ25_expandTo (ws_ yJ25_expandTo cJ25_expandTo 3 (Option.none : Option Jvm.ClassFile.FieldType)) rm_J25_expandTo [zA a0, zI a1] h (zq_V Q) X := by
  refine zg_start (own := "java/util/BitSet") (by decide +kernel) rfl (Nat.le_of_ble_eq_true rfl) hl (fun Xc ok tab fin hRm hXl hXZ => ?_)
  subst hXl
  subst hXZ
  unfold f_J25_expandTo at hE
  refine zg_iload_n ok dJ25_expandTo_0 rfl 1 rfl ?_
  refine zg_iconst (v := 1) ok dJ25_expandTo_1 (by decide) ?_
  refine zg_iadd ok dJ25_expandTo_2 ?_
  refine zg_letI hE (fun v1 hE => ?_)
  refine zg_istore_n (L' := [(2, .int v1), (0, va_rf a0), (1, .int a1)]) ok dJ25_expandTo_3 rfl (by decide) rfl ?_
  refine zg_aload_n ok dJ25_expandTo_4 rfl 1 rfl ?_
  refine zg_getI ok lf_J25_7 dJ25_expandTo_5 hE (fun v2 hE => ?_)
  refine zg_iload_n ok dJ25_expandTo_8 rfl 0 rfl ?_
  refine zg_icmp_ge (tgt := 22) ok dJ25_expandTo_9 (by decide) hE (fun hE => ?_) (fun hE => ?_)
  · exact zg_vret ok fin dJ25_expandTo_22 ⟨Nat.le_of_ble_eq_true rfl, Nat.le_of_ble_eq_true rfl⟩ hE
  · refine zg_aload_n ok dJ25_expandTo_12 rfl 1 rfl ?_
    refine zg_iload_n ok dJ25_expandTo_13 rfl 0 rfl ?_
    refine zg_callV (vs := [zI v1]) (rest := []) (rm := rm_J25_ensureCapacity) ok hRm lk_J25_139 dJ25_expandTo_14 hE (fun hE => mt_J25_ensureCapacity hl hE) rfl (Nat.le_of_ble_eq_true rfl) ⟨⟨Nat.le_of_ble_eq_true rfl, Nat.le_of_ble_eq_true rfl⟩, Nat.le_of_ble_eq_true rfl, Nat.le_of_ble_eq_true rfl⟩ (zg_retV (fun h1 hE => ?_)) (zg_xok ok tab fin ⟨Nat.le_of_ble_eq_true rfl, Nat.le_of_ble_eq_true rfl⟩)
    refine zg_cost (kc2 := 0) (ks2 := 0) ⟨rfl, rfl⟩ ?_
    refine zg_aload_n ok dJ25_expandTo_17 rfl 1 rfl ?_
    refine zg_iload_n ok dJ25_expandTo_18 rfl 0 rfl ?_
    refine zg_put (ty := .int) ok lf_J25_7 (Or.inl rfl) (by decide) (by decide +kernel) rfl rfl dJ25_expandTo_19 hE (fun h2 hE => ?_)
    exact zg_vret ok fin dJ25_expandTo_22 ⟨Nat.le_of_ble_eq_true rfl, Nat.le_of_ble_eq_true rfl⟩ hE
set_option maxHeartbeats 8000000 in
theorem gt_f_J25_checkInvariants_J70 {Xc : zw_X} {Q : zw_H → Prop} {X : String → Nat → zw_H → Prop} (hl : (zw_l Xc).stackTraces = false) (ok : zw_ok Xc cJ25_checkInvariants "java/util/BitSet" yJ25_checkInvariants.name 1) (tab : zw_tab Xc []) (fin : zw_fin Xc (Option.none : Option Jvm.ClassFile.FieldType) (zq_V Q) X 0 0) (hRm : zw_rm Xc = rm_J25_checkInvariants)  {l0 : Option Nat}  {h : zw_H} (hE : f_J25_checkInvariants_J70 (zw_Zf Xc).2.2.2 Q X  l0 h) : zw_G Xc 0 0 1 h 70 [(0, va_rf l0)] [] := by
  unfold f_J25_checkInvariants_J70 at hE
  refine zg_getsI (C := "java/util/BitSet") (n := "$assertionsDisabled") (d' := "Z") (v := 1) ok (List.mem_of_getElem? (i := 4) rfl) q1230 dJ25_checkInvariants_70 ?_
  refine zg_if_ne (tgt := 110) ok dJ25_checkInvariants_73 (by decide) hE (fun hE => ?_) (fun hE => ?_)
  · exact zg_vret ok fin dJ25_checkInvariants_110 ⟨Nat.le_of_ble_eq_true rfl, Nat.le_of_ble_eq_true rfl⟩ hE
  · refine zg_aload_n ok dJ25_checkInvariants_76 rfl 0 rfl ?_
    refine zg_getI ok lf_J25_7 dJ25_checkInvariants_77 hE (fun v1 hE => ?_)
    refine zg_aload_n ok dJ25_checkInvariants_80 rfl 0 rfl ?_
    refine zg_getA ok lf_J25_11 dJ25_checkInvariants_81 hE (fun v2 hE => ?_)
    refine zg_alen ok dJ25_checkInvariants_84 hE (fun v3 hE => ?_)
    refine zg_icmp_eq (tgt := 110) ok dJ25_checkInvariants_85 (by decide) hE (fun hE => ?_) (fun hE => ?_)
    · exact zg_vret ok fin dJ25_checkInvariants_110 ⟨Nat.le_of_ble_eq_true rfl, Nat.le_of_ble_eq_true rfl⟩ hE
    · refine zg_aload_n ok dJ25_checkInvariants_88 rfl 0 rfl ?_
      refine zg_getA ok lf_J25_11 dJ25_checkInvariants_89 hE (fun v4 hE => ?_)
      refine zg_aload_n ok dJ25_checkInvariants_92 rfl 0 rfl ?_
      refine zg_getI ok lf_J25_7 dJ25_checkInvariants_93 hE (fun v5 hE => ?_)
      refine zg_lald ok dJ25_checkInvariants_96 hE (fun v6 hE => ?_)
      refine zg_lconst (v := 0) ok dJ25_checkInvariants_97 (by decide) ?_
      refine zg_lcmp ok dJ25_checkInvariants_98 ?_
      refine zg_if_eq (tgt := 110) ok dJ25_checkInvariants_99 (by decide) hE (fun hE => ?_) (fun hE => ?_)
      · exact zg_vret ok fin dJ25_checkInvariants_110 ⟨Nat.le_of_ble_eq_true rfl, Nat.le_of_ble_eq_true rfl⟩ hE
      · exact hE.elim
set_option maxHeartbeats 8000000 in
theorem gt_f_J25_checkInvariants_J37 {Xc : zw_X} {Q : zw_H → Prop} {X : String → Nat → zw_H → Prop} (hl : (zw_l Xc).stackTraces = false) (ok : zw_ok Xc cJ25_checkInvariants "java/util/BitSet" yJ25_checkInvariants.name 1) (tab : zw_tab Xc []) (fin : zw_fin Xc (Option.none : Option Jvm.ClassFile.FieldType) (zq_V Q) X 0 0) (hRm : zw_rm Xc = rm_J25_checkInvariants)  {l0 : Option Nat}  {h : zw_H} (hE : f_J25_checkInvariants_J37 (zw_Zf Xc).2.2.2 Q X  l0 h) : zw_G Xc 0 0 1 h 37 [(0, va_rf l0)] [] := by
  unfold f_J25_checkInvariants_J37 at hE
  refine zg_getsI (C := "java/util/BitSet") (n := "$assertionsDisabled") (d' := "Z") (v := 1) ok (List.mem_of_getElem? (i := 4) rfl) q1230 dJ25_checkInvariants_37 ?_
  refine zg_if_ne (tgt := 70) ok dJ25_checkInvariants_40 (by decide) hE (fun hE => ?_) (fun hE => ?_)
  · exact gt_f_J25_checkInvariants_J70 hl ok tab fin hRm  hE
  · refine zg_aload_n ok dJ25_checkInvariants_43 rfl 0 rfl ?_
    refine zg_getI ok lf_J25_7 dJ25_checkInvariants_44 hE (fun v7 hE => ?_)
    refine zg_if_lt (tgt := 62) ok dJ25_checkInvariants_47 (by decide) hE (fun hE => ?_) (fun hE => ?_)
    · exact hE.elim
    · refine zg_aload_n ok dJ25_checkInvariants_50 rfl 0 rfl ?_
      refine zg_getI ok lf_J25_7 dJ25_checkInvariants_51 hE (fun v8 hE => ?_)
      refine zg_aload_n ok dJ25_checkInvariants_54 rfl 0 rfl ?_
      refine zg_getA ok lf_J25_11 dJ25_checkInvariants_55 hE (fun v9 hE => ?_)
      refine zg_alen ok dJ25_checkInvariants_58 hE (fun v10 hE => ?_)
      refine zg_icmp_le (tgt := 70) ok dJ25_checkInvariants_59 (by decide) hE (fun hE => ?_) (fun hE => ?_)
      · exact gt_f_J25_checkInvariants_J70 hl ok tab fin hRm  hE
      · exact hE.elim
set_option maxHeartbeats 8000000 in
theorem mt_J25_checkInvariants {l : Launch} (hl : l.stackTraces = false) {Z : zw_Z} {a0 : Option Nat} {h : zw_H} {Q : zw_H → Prop} {X : String → Nat → zw_H → Prop} (hE : f_J25_checkInvariants Z.2.2.2 a0 h Q X) : zw_Met l Z yJ25_checkInvariants (ws_ yJ25_checkInvariants cJ25_checkInvariants 1 (Option.none : Option Jvm.ClassFile.FieldType)) rm_J25_checkInvariants [zA a0] h (zq_V Q) X := by
  refine zg_start (own := "java/util/BitSet") (by decide +kernel) rfl (Nat.le_of_ble_eq_true rfl) hl (fun Xc ok tab fin hRm hXl hXZ => ?_)
  subst hXl
  subst hXZ
  unfold f_J25_checkInvariants at hE
  refine zg_getsI (C := "java/util/BitSet") (n := "$assertionsDisabled") (d' := "Z") (v := 1) ok (List.mem_of_getElem? (i := 4) rfl) q1230 dJ25_checkInvariants_0 ?_
  refine zg_if_ne (tgt := 37) ok dJ25_checkInvariants_3 (by decide) hE (fun hE => ?_) (fun hE => ?_)
  · exact gt_f_J25_checkInvariants_J37 hl ok tab fin hRm  hE
  · refine zg_aload_n ok dJ25_checkInvariants_6 rfl 0 rfl ?_
    refine zg_getI ok lf_J25_7 dJ25_checkInvariants_7 hE (fun v11 hE => ?_)
    refine zg_if_eq (tgt := 37) ok dJ25_checkInvariants_10 (by decide) hE (fun hE => ?_) (fun hE => ?_)
    · exact gt_f_J25_checkInvariants_J37 hl ok tab fin hRm  hE
    · refine zg_aload_n ok dJ25_checkInvariants_13 rfl 0 rfl ?_
      refine zg_getA ok lf_J25_11 dJ25_checkInvariants_14 hE (fun v12 hE => ?_)
      refine zg_aload_n ok dJ25_checkInvariants_17 rfl 0 rfl ?_
      refine zg_getI ok lf_J25_7 dJ25_checkInvariants_18 hE (fun v13 hE => ?_)
      refine zg_iconst (v := 1) ok dJ25_checkInvariants_21 (by decide) ?_
      refine zg_isub ok dJ25_checkInvariants_22 ?_
      refine zg_lald ok dJ25_checkInvariants_23 hE (fun v14 hE => ?_)
      refine zg_lconst (v := 0) ok dJ25_checkInvariants_24 (by decide) ?_
      refine zg_lcmp ok dJ25_checkInvariants_25 ?_
      refine zg_if_ne (tgt := 37) ok dJ25_checkInvariants_26 (by decide) hE (fun hE => ?_) (fun hE => ?_)
      · exact gt_f_J25_checkInvariants_J37 hl ok tab fin hRm  hE
      · exact hE.elim
set_option maxHeartbeats 8000000 in
theorem mt_J25_set {l : Launch} (hl : l.stackTraces = false) {Z : zw_Z} {a0 : Option Nat} {a1 : Int32} {h : zw_H} {Q : zw_H → Prop} {X : String → Nat → zw_H → Prop} (hE : f_J25_set Z.2.2.2 a0 a1 h Q X) : zw_Met l Z yJ25_set (ws_ yJ25_set cJ25_set 3 (Option.none : Option Jvm.ClassFile.FieldType)) rm_J25_set [zA a0, zI a1] h (zq_V Q) X := by
  refine zg_start (own := "java/util/BitSet") (by decide +kernel) rfl (Nat.le_of_ble_eq_true rfl) hl (fun Xc ok tab fin hRm hXl hXZ => ?_)
  subst hXl
  subst hXZ
  unfold f_J25_set at hE
  refine zg_iload_n ok dJ25_set_0 rfl 1 rfl ?_
  refine zg_if_ge (tgt := 31) ok dJ25_set_1 (by decide) hE (fun hE => ?_) (fun hE => ?_)
  · refine zg_iload_n ok dJ25_set_31 rfl 1 rfl ?_
    refine zg_callS (vs := [zI a1]) (rest := []) (rm := rm_J25_wordIndex) ok hRm lk_J25_52 dJ25_set_32 hE (fun hE => mt_J25_wordIndex hl hE) rfl (Nat.le_of_ble_eq_true rfl) ⟨⟨Nat.le_of_ble_eq_true rfl, Nat.le_of_ble_eq_true rfl⟩, Nat.le_of_ble_eq_true rfl, Nat.le_of_ble_eq_true rfl⟩ (zg_retI (fun v1 h1 hE => ?_)) (zg_xok ok tab fin ⟨Nat.le_of_ble_eq_true rfl, Nat.le_of_ble_eq_true rfl⟩)
    refine zg_cost (kc2 := 0) (ks2 := 0) ⟨rfl, rfl⟩ ?_
    refine zg_istore_n (L' := [(2, .int v1), (0, va_rf a0), (1, .int a1)]) ok dJ25_set_35 rfl (by decide) rfl ?_
    refine zg_aload_n ok dJ25_set_36 rfl 1 rfl ?_
    refine zg_iload_n ok dJ25_set_37 rfl 0 rfl ?_
    refine zg_callV (vs := [zI v1]) (rest := []) (rm := rm_J25_expandTo) ok hRm lk_J25_155 dJ25_set_38 hE (fun hE => mt_J25_expandTo hl hE) rfl (Nat.le_of_ble_eq_true rfl) ⟨⟨Nat.le_of_ble_eq_true rfl, Nat.le_of_ble_eq_true rfl⟩, Nat.le_of_ble_eq_true rfl, Nat.le_of_ble_eq_true rfl⟩ (zg_retV (fun h2 hE => ?_)) (zg_xok ok tab fin ⟨Nat.le_of_ble_eq_true rfl, Nat.le_of_ble_eq_true rfl⟩)
    refine zg_cost (kc2 := 0) (ks2 := 0) ⟨rfl, rfl⟩ ?_
    refine zg_aload_n ok dJ25_set_41 rfl 1 rfl ?_
    refine zg_getA ok lf_J25_11 dJ25_set_42 hE (fun v2 hE => ?_)
    refine zg_iload_n ok dJ25_set_45 rfl 0 rfl ?_
    refine zg_dup2_11 ok dJ25_set_46 rfl (zw_rfc _) ?_
    refine zg_lald ok dJ25_set_47 hE (fun v3 hE => ?_)
    refine zg_lconst (v := 1) ok dJ25_set_48 (by decide) ?_
    refine zg_iload_n ok dJ25_set_49 rfl 2 rfl ?_
    refine zg_lshl ok dJ25_set_50 ?_
    refine zg_lor ok dJ25_set_51 ?_
    refine zg_last ok dJ25_set_52 hE (fun h3 hE => ?_)
    refine zg_aload_n ok dJ25_set_53 rfl 1 rfl ?_
    refine zg_callV (vs := []) (rest := []) (rm := rm_J25_checkInvariants) ok hRm lk_J25_56 dJ25_set_54 hE (fun hE => mt_J25_checkInvariants hl hE) rfl (Nat.le_of_ble_eq_true rfl) ⟨⟨Nat.le_of_ble_eq_true rfl, Nat.le_of_ble_eq_true rfl⟩, Nat.le_of_ble_eq_true rfl, Nat.le_of_ble_eq_true rfl⟩ (zg_retV (fun h4 hE => ?_)) (zg_xok ok tab fin ⟨Nat.le_of_ble_eq_true rfl, Nat.le_of_ble_eq_true rfl⟩)
    refine zg_cost (kc2 := 0) (ks2 := 0) ⟨rfl, rfl⟩ ?_
    exact zg_vret ok fin dJ25_set_57 ⟨Nat.le_of_ble_eq_true rfl, Nat.le_of_ble_eq_true rfl⟩ hE
  · exact hE.elim
set_option maxHeartbeats 8000000 in
theorem gt_f_X4_leaves_B16 {Xc : zw_X} {Q : Option Nat → zw_H → Prop} {X : String → Nat → zw_H → Prop} (hl : (zw_l Xc).stackTraces = false) (ok : zw_ok Xc cX4_leaves "MultipoleLine$Line" yX4_leaves.name 3) (tab : zw_tab Xc []) (fin : zw_fin Xc (Option.some (Jvm.ClassFile.FieldType.object "java/util/BitSet")) (zq_A Q) X 2 7) (hRm : zw_rm Xc = rm_X4_leaves) {kc ks : Nat} (hb : kc ≤ 2 ∧ ks ≤ 7) {R : Int32 → zw_H → Prop} {l0 : Option Nat} {l1 : Option Nat} (hR : ∀ (l2 : Int32) (h : zw_H), R l2 h → zw_G Xc kc ks 3 h 16 [(0, va_rf l0), (1, va_rf l1), (2, .int l2)] []) {k49 : zw_H → Prop} (hk49 : ∀  (h : zw_H), k49  h → zw_G Xc kc ks 3 h 49 [(1, va_rf l1)] [])  {l2 : Int32} {h : zw_H} (hE : f_X4_leaves_B16 (zw_Zf Xc).2.2.2 Q X k49 l0 l1 R l2 h) : zw_G Xc kc ks 3 h 16 [(0, va_rf l0), (1, va_rf l1), (2, .int l2)] [] := by
  unfold f_X4_leaves_B16 at hE
  refine zg_iload_n ok dX4_leaves_16 rfl 2 rfl ?_
  refine zg_aload_n ok dX4_leaves_17 rfl 0 rfl ?_
  refine zg_callV (vs := []) (rest := [.int l2]) (rm := rm_X4_size) ok hRm lk_X4_37 dX4_leaves_18 hE (fun hE => mt_X4_size hl hE) rfl (Nat.le_of_ble_eq_true rfl) ⟨⟨Nat.le_of_ble_eq_true rfl, Nat.le_of_ble_eq_true rfl⟩, (by show kc + 0 ≤ 2; omega), (by show ks + 0 ≤ 7; omega)⟩ (zg_retI (fun v3 h3 hE => ?_)) (zg_xok ok tab fin ⟨(by show kc + 0 ≤ 2; omega), (by show ks + 0 ≤ 7; omega)⟩)
  refine zg_cost (kc2 := kc) (ks2 := ks) ⟨(by show kc + 0 = kc; omega), (by show ks + 0 = ks; omega)⟩ ?_
  refine zg_icmp_ge (tgt := 49) ok dX4_leaves_21 (by decide) hE (fun hE => ?_) (fun hE => ?_)
  · refine zg_sub (L' := [(1, va_rf l1)]) [1] rfl ?_
    exact hk49 _ hE
  · refine zg_aload_n ok dX4_leaves_24 rfl 1 rfl ?_
    refine zg_aload_n ok dX4_leaves_25 rfl 0 rfl ?_
    refine zg_aload_n ok dX4_leaves_26 rfl 0 rfl ?_
    refine zg_iload_n ok dX4_leaves_27 rfl 2 rfl ?_
    refine zg_callV (vs := [zI l2]) (rest := [va_rf l0, va_rf l1]) (rm := rm_X4_at) ok hRm lk_X4_41 dX4_leaves_28 hE (fun hE => mt_X4_at hl hE) rfl (Nat.le_of_ble_eq_true rfl) ⟨⟨Nat.le_of_ble_eq_true rfl, Nat.le_of_ble_eq_true rfl⟩, (by show kc + 0 ≤ 2; omega), (by show ks + 0 ≤ 7; omega)⟩ (zg_retA (fun v4 h4 hE => ?_)) (zg_xok ok tab fin ⟨(by show kc + 0 ≤ 2; omega), (by show ks + 0 ≤ 7; omega)⟩)
    refine zg_cost (kc2 := kc) (ks2 := ks) ⟨(by show kc + 0 = kc; omega), (by show ks + 0 = ks; omega)⟩ ?_
    refine zg_getI ok lf_X4_86 dX4_leaves_31 hE (fun v5 hE => ?_)
    refine zg_callV (vs := [zI v5]) (rest := [va_rf l1]) (rm := rm_X4_leaf) ok hRm lk_X4_115 dX4_leaves_34 hE (fun hE => mt_X4_leaf hl hE) rfl (Nat.le_of_ble_eq_true rfl) ⟨⟨Nat.le_of_ble_eq_true rfl, Nat.le_of_ble_eq_true rfl⟩, (by show kc + 0 ≤ 2; omega), (by show ks + 0 ≤ 7; omega)⟩ (zg_retA (fun v6 h5 hE => ?_)) (zg_xok ok tab fin ⟨(by show kc + 0 ≤ 2; omega), (by show ks + 0 ≤ 7; omega)⟩)
    refine zg_cost (kc2 := kc) (ks2 := ks) ⟨(by show kc + 0 = kc; omega), (by show ks + 0 = ks; omega)⟩ ?_
    refine zg_getI ok lf_X4_119 dX4_leaves_37 hE (fun v7 hE => ?_)
    refine zg_callV (vs := [zI v7]) (rest := []) (rm := rm_J25_set) ok hRm lk_X4_122 dX4_leaves_40 hE (fun hE => mt_J25_set hl hE) rfl (Nat.le_of_ble_eq_true rfl) ⟨⟨Nat.le_of_ble_eq_true rfl, Nat.le_of_ble_eq_true rfl⟩, (by show kc + 0 ≤ 2; omega), (by show ks + 0 ≤ 7; omega)⟩ (zg_retV (fun h6 hE => ?_)) (zg_xok ok tab fin ⟨(by show kc + 0 ≤ 2; omega), (by show ks + 0 ≤ 7; omega)⟩)
    refine zg_cost (kc2 := kc) (ks2 := ks) ⟨(by show kc + 0 = kc; omega), (by show ks + 0 = ks; omega)⟩ ?_
    refine zg_iincLR (k := 2) (L' := fun v8 => [(2, .int v8), (0, va_rf l0), (1, va_rf l1)]) ok dX4_leaves_43 (by decide +kernel) hE rfl (by decide) rfl (k9 := 1) rfl (fun _ => rfl) (fun v8 hE => ?_)
    refine zg_goto (tgt := 16) ok dX4_leaves_46 (by decide) ?_
    refine zg_sub (L' := [(0, va_rf l0), (1, va_rf l1), (2, .int v8)]) [1, 2, 0] rfl ?_
    exact hR _ _ hE
theorem gt_f_X4_leaves_L16 {Xc : zw_X} {Q : Option Nat → zw_H → Prop} {X : String → Nat → zw_H → Prop} (hl : (zw_l Xc).stackTraces = false) (ok : zw_ok Xc cX4_leaves "MultipoleLine$Line" yX4_leaves.name 3) (tab : zw_tab Xc []) (fin : zw_fin Xc (Option.some (Jvm.ClassFile.FieldType.object "java/util/BitSet")) (zq_A Q) X 2 7) (hRm : zw_rm Xc = rm_X4_leaves) {kc ks : Nat} (hb : kc ≤ 2 ∧ ks ≤ 7) {l0 : Option Nat} {l1 : Option Nat} {k49 : zw_H → Prop} (hk49 : ∀  (h : zw_H), k49  h → zw_G Xc kc ks 3 h 49 [(1, va_rf l1)] [])  : ∀ (n9 : Nat) (l2 : Int32) (h : zw_H), zl2 (f_X4_leaves_B16 (zw_Zf Xc).2.2.2 Q X k49 l0 l1) n9 l2 h → zw_G Xc kc ks 3 h 16 [(0, va_rf l0), (1, va_rf l1), (2, .int l2)] [] := by
  intro n9
  induction n9 with
  | zero => intro l2 h hE; exact hE.elim
  | succ n9 ih => intro l2 h hE; exact gt_f_X4_leaves_B16 hl ok tab fin hRm hb ih hk49 hE
set_option maxHeartbeats 8000000 in
theorem mt_X4_leaves {l : Launch} (hl : l.stackTraces = false) {Z : zw_Z} {a0 : Option Nat} {h : zw_H} {Q : Option Nat → zw_H → Prop} {X : String → Nat → zw_H → Prop} (hE : f_X4_leaves Z.2.2.2 a0 h Q X) : zw_Met l Z yX4_leaves (ws_ yX4_leaves cX4_leaves 3 (Option.some (Jvm.ClassFile.FieldType.object "java/util/BitSet"))) rm_X4_leaves [zA a0] h (zq_A Q) X := by
  refine zg_start (own := "MultipoleLine$Line") (by decide +kernel) rfl (Nat.le_of_ble_eq_true rfl) hl (fun Xc ok tab fin hRm hXl hXZ => ?_)
  subst hXl
  subst hXZ
  unfold f_X4_leaves at hE
  refine zg_new ok ln_X4_110 (by rw [hRm]; exact ⟨Nat.le_of_ble_eq_true rfl, Nat.le_of_ble_eq_true rfl⟩) dX4_leaves_0 hE (fun v1 h1 hE => ?_)
  refine zg_cost (kc2 := 1) (ks2 := 3) ⟨rfl, rfl⟩ ?_
  refine zg_dup ok dX4_leaves_3 (zw_rfc _) ?_
  refine zg_iconst (v := 1) ok dX4_leaves_4 (by decide) ?_
  refine zg_aload_n ok dX4_leaves_5 rfl 0 rfl ?_
  refine zg_getI ok lf_X4_57 dX4_leaves_6 hE (fun v2 hE => ?_)
  refine zg_ishl ok dX4_leaves_9 ?_
  refine zg_callI (vs := [zI ((1 : Int32) <<< (v2 &&& 31))]) (rest := [va_rf (some v1)]) (rm := rm_J25_init) ok hRm lk_X4_112 dX4_leaves_10 (by simp) hE (fun hE => mt_J25_init hl hE) rfl (Nat.le_of_ble_eq_true rfl) ⟨⟨Nat.le_of_ble_eq_true rfl, Nat.le_of_ble_eq_true rfl⟩, Nat.le_of_ble_eq_true rfl, Nat.le_of_ble_eq_true rfl⟩ (zg_retV (fun h2 hE => ?_)) (zg_xok ok tab fin ⟨Nat.le_of_ble_eq_true rfl, Nat.le_of_ble_eq_true rfl⟩)
  refine zg_cost (kc2 := 2) (ks2 := 7) ⟨rfl, rfl⟩ ?_
  refine zg_astore_nR (L' := [(1, va_rf (some v1)), (0, va_rf a0)]) ok dX4_leaves_13 rfl (by decide) 0 rfl rfl rfl ?_
  refine zg_iconst (v := 0) ok dX4_leaves_14 (by decide) ?_
  refine zg_istore_nR (L' := [(2, .int 0), (1, va_rf (some v1)), (0, va_rf a0)]) ok dX4_leaves_15 rfl (by decide) 0 rfl rfl rfl ?_
  refine zg_sub (L' := [(0, va_rf a0), (1, va_rf (some v1)), (2, .int 0)]) [2, 1, 0] rfl ?_
  refine gt_f_X4_leaves_L16 hl ok tab fin hRm ⟨Nat.le_of_ble_eq_true rfl, Nat.le_of_ble_eq_true rfl⟩ ?_ _ _ _ hE
  · intro h7 hE
    refine zg_aload_n ok dX4_leaves_49 rfl 0 rfl ?_
    exact zg_aret ok fin (Or.inl ⟨_, rfl⟩) dX4_leaves_50 ⟨Nat.le_of_ble_eq_true rfl, Nat.le_of_ble_eq_true rfl⟩ hE
set_option maxHeartbeats 8000000 in
theorem mt_J26_bitCount {l : Launch} (hl : l.stackTraces = false) {Z : zw_Z} {a0 : Int64} {h : zw_H} {Q : Int32 → zw_H → Prop} {X : String → Nat → zw_H → Prop} (hE : f_J26_bitCount Z.2.2.2 a0 h Q X) : zw_Met l Z yJ26_bitCount (ws_ yJ26_bitCount cJ26_bitCount 2 (Option.some Jvm.ClassFile.FieldType.int)) rm_J26_bitCount [zJ a0] h (zq_I Q) X := by
  refine zg_startF (own := "java/lang/Long") (by decide +kernel) rfl (Nat.le_of_ble_eq_true rfl) hl (fun Xc ok tab fin hRm hXl hXZ => ?_)
  subst hXl
  subst hXZ
  unfold f_J26_bitCount at hE
  refine zg_lload_n ok dJ26_bitCount_0 rfl 0 rfl ?_
  refine zg_lload_n ok dJ26_bitCount_1 rfl 0 rfl ?_
  refine zg_iconst (v := 1) ok dJ26_bitCount_2 (by decide) ?_
  refine zg_lushr ok dJ26_bitCount_3 ?_
  refine zg_ldc2 (v := (6148914691236517205 : Int64)) ok q1239 dJ26_bitCount_4 ?_
  refine zg_land ok dJ26_bitCount_7 ?_
  refine zg_lsub ok dJ26_bitCount_8 ?_
  refine zg_letJ hE (fun v1 hE => ?_)
  refine zg_lstore_n (L' := [(0, .long v1)]) ok dJ26_bitCount_9 rfl (by decide) rfl ?_
  refine zg_lload_n ok dJ26_bitCount_10 rfl 0 rfl ?_
  refine zg_ldc2 (v := (3689348814741910323 : Int64)) ok q1240 dJ26_bitCount_11 ?_
  refine zg_land ok dJ26_bitCount_14 ?_
  refine zg_lload_n ok dJ26_bitCount_15 rfl 0 rfl ?_
  refine zg_iconst (v := 2) ok dJ26_bitCount_16 (by decide) ?_
  refine zg_lushr ok dJ26_bitCount_17 ?_
  refine zg_ldc2 (v := (3689348814741910323 : Int64)) ok q1240 dJ26_bitCount_18 ?_
  refine zg_land ok dJ26_bitCount_21 ?_
  refine zg_ladd ok dJ26_bitCount_22 ?_
  refine zg_letJ hE (fun v2 hE => ?_)
  refine zg_lstore_n (L' := [(0, .long v2)]) ok dJ26_bitCount_23 rfl (by decide) rfl ?_
  refine zg_lload_n ok dJ26_bitCount_24 rfl 0 rfl ?_
  refine zg_lload_n ok dJ26_bitCount_25 rfl 0 rfl ?_
  refine zg_iconst (v := 4) ok dJ26_bitCount_26 (by decide) ?_
  refine zg_lushr ok dJ26_bitCount_27 ?_
  refine zg_ladd ok dJ26_bitCount_28 ?_
  refine zg_ldc2 (v := (1085102592571150095 : Int64)) ok q1241 dJ26_bitCount_29 ?_
  refine zg_land ok dJ26_bitCount_32 ?_
  refine zg_letJ hE (fun v3 hE => ?_)
  refine zg_lstore_n (L' := [(0, .long v3)]) ok dJ26_bitCount_33 rfl (by decide) rfl ?_
  refine zg_lload_n ok dJ26_bitCount_34 rfl 0 rfl ?_
  refine zg_lload_n ok dJ26_bitCount_35 rfl 0 rfl ?_
  refine zg_bipush (v := 8) ok dJ26_bitCount_36 (by decide) ?_
  refine zg_lushr ok dJ26_bitCount_38 ?_
  refine zg_ladd ok dJ26_bitCount_39 ?_
  refine zg_letJ hE (fun v4 hE => ?_)
  refine zg_lstore_n (L' := [(0, .long v4)]) ok dJ26_bitCount_40 rfl (by decide) rfl ?_
  refine zg_lload_n ok dJ26_bitCount_41 rfl 0 rfl ?_
  refine zg_lload_n ok dJ26_bitCount_42 rfl 0 rfl ?_
  refine zg_bipush (v := 16) ok dJ26_bitCount_43 (by decide) ?_
  refine zg_lushr ok dJ26_bitCount_45 ?_
  refine zg_ladd ok dJ26_bitCount_46 ?_
  refine zg_letJ hE (fun v5 hE => ?_)
  refine zg_lstore_n (L' := [(0, .long v5)]) ok dJ26_bitCount_47 rfl (by decide) rfl ?_
  refine zg_lload_n ok dJ26_bitCount_48 rfl 0 rfl ?_
  refine zg_lload_n ok dJ26_bitCount_49 rfl 0 rfl ?_
  refine zg_bipush (v := 32) ok dJ26_bitCount_50 (by decide) ?_
  refine zg_lushr ok dJ26_bitCount_52 ?_
  refine zg_ladd ok dJ26_bitCount_53 ?_
  refine zg_letJ hE (fun v6 hE => ?_)
  refine zg_lstore_n (L' := [(0, .long v6)]) ok dJ26_bitCount_54 rfl (by decide) rfl ?_
  refine zg_lload_n ok dJ26_bitCount_55 rfl 0 rfl ?_
  refine zg_l2i ok dJ26_bitCount_56 ?_
  refine zg_bipush (v := 127) ok dJ26_bitCount_57 (by decide) ?_
  refine zg_iand ok dJ26_bitCount_59 ?_
  exact zg_iret ok fin dJ26_bitCount_60 ⟨Nat.le_of_ble_eq_true rfl, Nat.le_of_ble_eq_true rfl⟩ hE
set_option maxHeartbeats 8000000 in
theorem gt_f_J25_cardinality_B4 {Xc : zw_X} {Q : Int32 → zw_H → Prop} {X : String → Nat → zw_H → Prop} (hl : (zw_l Xc).stackTraces = false) (ok : zw_ok Xc cJ25_cardinality "java/util/BitSet" yJ25_cardinality.name 3) (tab : zw_tab Xc []) (fin : zw_fin Xc (Option.some Jvm.ClassFile.FieldType.int) (zq_I Q) X 0 0) (hRm : zw_rm Xc = rm_J25_cardinality) {kc ks : Nat} (hb : kc ≤ 0 ∧ ks ≤ 0) {R : Int32 → Int32 → zw_H → Prop} {l0 : Option Nat} (hR : ∀ (l1 : Int32) (l2 : Int32) (h : zw_H), R l1 l2 h → zw_G Xc kc ks 3 h 4 [(0, va_rf l0), (1, .int l1), (2, .int l2)] []) {k30 : Int32 → zw_H → Prop} (hk30 : ∀ (l1 : Int32) (h : zw_H), k30 l1 h → zw_G Xc kc ks 3 h 30 [(1, .int l1)] [])  {l1 : Int32} {l2 : Int32} {h : zw_H} (hE : f_J25_cardinality_B4 (zw_Zf Xc).2.2.2 Q X k30 l0 R l1 l2 h) : zw_G Xc kc ks 3 h 4 [(0, va_rf l0), (1, .int l1), (2, .int l2)] [] := by
  unfold f_J25_cardinality_B4 at hE
  refine zg_iload_n ok dJ25_cardinality_4 rfl 2 rfl ?_
  refine zg_aload_n ok dJ25_cardinality_5 rfl 0 rfl ?_
  refine zg_getI ok lf_J25_7 dJ25_cardinality_6 hE (fun v1 hE => ?_)
  refine zg_icmp_ge (tgt := 30) ok dJ25_cardinality_9 (by decide) hE (fun hE => ?_) (fun hE => ?_)
  · refine zg_sub (L' := [(1, .int l1)]) [1] rfl ?_
    exact hk30 _ _ hE
  · refine zg_iload_n ok dJ25_cardinality_12 rfl 1 rfl ?_
    refine zg_aload_n ok dJ25_cardinality_13 rfl 0 rfl ?_
    refine zg_getA ok lf_J25_11 dJ25_cardinality_14 hE (fun v2 hE => ?_)
    refine zg_iload_n ok dJ25_cardinality_17 rfl 2 rfl ?_
    refine zg_lald ok dJ25_cardinality_18 hE (fun v3 hE => ?_)
    refine zg_callS (vs := [zJ v3]) (rest := [.int l1]) (rm := rm_J26_bitCount) ok hRm lk_J25_196 dJ25_cardinality_19 hE (fun hE => mt_J26_bitCount hl hE) rfl (Nat.le_of_ble_eq_true rfl) ⟨⟨Nat.le_of_ble_eq_true rfl, Nat.le_of_ble_eq_true rfl⟩, (by show kc + 0 ≤ 0; omega), (by show ks + 0 ≤ 0; omega)⟩ (zg_retI (fun v4 h1 hE => ?_)) (zg_xok ok tab fin ⟨(by show kc + 0 ≤ 0; omega), (by show ks + 0 ≤ 0; omega)⟩)
    refine zg_cost (kc2 := kc) (ks2 := ks) ⟨(by show kc + 0 = kc; omega), (by show ks + 0 = ks; omega)⟩ ?_
    refine zg_iadd ok dJ25_cardinality_22 ?_
    refine zg_letI hE (fun v5 hE => ?_)
    refine zg_istore_nR (L' := [(1, .int v5), (0, va_rf l0), (2, .int l2)]) ok dJ25_cardinality_23 rfl (by decide) 0 rfl rfl rfl ?_
    refine zg_iincL (k := 2) (L' := fun v6 => [(2, .int v6), (1, .int v5), (0, va_rf l0)]) ok dJ25_cardinality_24 (by decide +kernel) hE rfl (by decide) (fun _ => rfl) (fun v6 hE => ?_)
    refine zg_goto (tgt := 4) ok dJ25_cardinality_27 (by decide) ?_
    refine zg_sub (L' := [(0, va_rf l0), (1, .int v5), (2, .int v6)]) [2, 1, 0] rfl ?_
    exact hR _ _ _ hE
theorem gt_f_J25_cardinality_L4 {Xc : zw_X} {Q : Int32 → zw_H → Prop} {X : String → Nat → zw_H → Prop} (hl : (zw_l Xc).stackTraces = false) (ok : zw_ok Xc cJ25_cardinality "java/util/BitSet" yJ25_cardinality.name 3) (tab : zw_tab Xc []) (fin : zw_fin Xc (Option.some Jvm.ClassFile.FieldType.int) (zq_I Q) X 0 0) (hRm : zw_rm Xc = rm_J25_cardinality) {kc ks : Nat} (hb : kc ≤ 0 ∧ ks ≤ 0) {l0 : Option Nat} {k30 : Int32 → zw_H → Prop} (hk30 : ∀ (l1 : Int32) (h : zw_H), k30 l1 h → zw_G Xc kc ks 3 h 30 [(1, .int l1)] [])  : ∀ (n9 : Nat) (l1 : Int32) (l2 : Int32) (h : zw_H), zl3 (f_J25_cardinality_B4 (zw_Zf Xc).2.2.2 Q X k30 l0) n9 l1 l2 h → zw_G Xc kc ks 3 h 4 [(0, va_rf l0), (1, .int l1), (2, .int l2)] [] := by
  intro n9
  induction n9 with
  | zero => intro l1 l2 h hE; exact hE.elim
  | succ n9 ih => intro l1 l2 h hE; exact gt_f_J25_cardinality_B4 hl ok tab fin hRm hb ih hk30 hE
set_option maxHeartbeats 8000000 in
theorem mt_J25_cardinality {l : Launch} (hl : l.stackTraces = false) {Z : zw_Z} {a0 : Option Nat} {h : zw_H} {Q : Int32 → zw_H → Prop} {X : String → Nat → zw_H → Prop} (hE : f_J25_cardinality Z.2.2.2 a0 h Q X) : zw_Met l Z yJ25_cardinality (ws_ yJ25_cardinality cJ25_cardinality 3 (Option.some Jvm.ClassFile.FieldType.int)) rm_J25_cardinality [zA a0] h (zq_I Q) X := by
  refine zg_start (own := "java/util/BitSet") (by decide +kernel) rfl (Nat.le_of_ble_eq_true rfl) hl (fun Xc ok tab fin hRm hXl hXZ => ?_)
  subst hXl
  subst hXZ
  unfold f_J25_cardinality at hE
  refine zg_iconst (v := 0) ok dJ25_cardinality_0 (by decide) ?_
  refine zg_istore_nR (L' := [(1, .int 0), (0, va_rf a0)]) ok dJ25_cardinality_1 rfl (by decide) 0 rfl rfl rfl ?_
  refine zg_iconst (v := 0) ok dJ25_cardinality_2 (by decide) ?_
  refine zg_istore_n (L' := [(2, .int 0), (1, .int 0), (0, va_rf a0)]) ok dJ25_cardinality_3 rfl (by decide) rfl ?_
  refine zg_sub (L' := [(0, va_rf a0), (1, .int 0), (2, .int 0)]) [2, 1, 0] rfl ?_
  refine gt_f_J25_cardinality_L4 hl ok tab fin hRm ⟨Nat.le_of_ble_eq_true rfl, Nat.le_of_ble_eq_true rfl⟩ ?_ _ _ _ _ hE
  · intro v7 h2 hE
    refine zg_iload_n ok dJ25_cardinality_30 rfl 0 rfl ?_
    exact zg_iret ok fin dJ25_cardinality_31 ⟨Nat.le_of_ble_eq_true rfl, Nat.le_of_ble_eq_true rfl⟩ hE
set_option maxHeartbeats 8000000 in
theorem gt_f_X1_extreme_J49 {Xc : zw_X} {Q : Int32 → zw_H → Prop} {X : String → Nat → zw_H → Prop} (hl : (zw_l Xc).stackTraces = false) (ok : zw_ok Xc cX1_extreme "MultipoleLine" yX1_extreme.name 5) (tab : zw_tab Xc []) (fin : zw_fin Xc (Option.some Jvm.ClassFile.FieldType.int) (zq_I Q) X 0 0) (hRm : zw_rm Xc = rm_X1_extreme) {kc ks : Nat} (hb : kc ≤ 0 ∧ ks ≤ 0) {R : Int32 → Int32 → zw_H → Prop} {l0 : Option Nat} {l1 : Int32} (hR : ∀ (l2 : Int32) (l3 : Int32) (h : zw_H), R l2 l3 h → zw_G Xc kc ks 5 h 4 [(0, va_rf l0), (1, .int l1), (2, .int l2), (3, .int l3)] []) {k55 : Int32 → zw_H → Prop} (hk55 : ∀ (l2 : Int32) (h : zw_H), k55 l2 h → zw_G Xc kc ks 5 h 55 [(2, .int l2)] [])  {l2 : Int32} {l3 : Int32}  {h : zw_H} (hE : f_X1_extreme_J49 (zw_Zf Xc).2.2.2 Q X R k55 l0 l1 l2 l3 h) : zw_G Xc kc ks 5 h 49 [(0, va_rf l0), (1, .int l1), (2, .int l2), (3, .int l3)] [] := by
  unfold f_X1_extreme_J49 at hE
  refine zg_iincL (k := 3) (L' := fun v4 => [(3, .int v4), (0, va_rf l0), (1, .int l1), (2, .int l2)]) ok dX1_extreme_49 (by decide +kernel) hE rfl (by decide) (fun _ => rfl) (fun v4 hE => ?_)
  refine zg_goto (tgt := 4) ok dX1_extreme_52 (by decide) ?_
  refine zg_sub (L' := [(0, va_rf l0), (1, .int l1), (2, .int l2), (3, .int v4)]) [1, 2, 3, 0] rfl ?_
  exact hR _ _ _ hE
set_option maxHeartbeats 8000000 in
theorem gt_f_X1_extreme_J46 {Xc : zw_X} {Q : Int32 → zw_H → Prop} {X : String → Nat → zw_H → Prop} (hl : (zw_l Xc).stackTraces = false) (ok : zw_ok Xc cX1_extreme "MultipoleLine" yX1_extreme.name 5) (tab : zw_tab Xc []) (fin : zw_fin Xc (Option.some Jvm.ClassFile.FieldType.int) (zq_I Q) X 0 0) (hRm : zw_rm Xc = rm_X1_extreme) {kc ks : Nat} (hb : kc ≤ 0 ∧ ks ≤ 0) {R : Int32 → Int32 → zw_H → Prop} {l0 : Option Nat} {l1 : Int32} (hR : ∀ (l2 : Int32) (l3 : Int32) (h : zw_H), R l2 l3 h → zw_G Xc kc ks 5 h 4 [(0, va_rf l0), (1, .int l1), (2, .int l2), (3, .int l3)] []) {k55 : Int32 → zw_H → Prop} (hk55 : ∀ (l2 : Int32) (h : zw_H), k55 l2 h → zw_G Xc kc ks 5 h 55 [(2, .int l2)] [])  {l3 : Int32} {l4 : Int32}  {h : zw_H} (hE : f_X1_extreme_J46 (zw_Zf Xc).2.2.2 Q X R k55 l0 l1 l3 l4 h) : zw_G Xc kc ks 5 h 46 [(0, va_rf l0), (1, .int l1), (3, .int l3), (4, .int l4)] [] := by
  unfold f_X1_extreme_J46 at hE
  refine zg_iload ok dX1_extreme_46 3 rfl ?_
  refine zg_istore_n (L' := [(2, .int l4), (0, va_rf l0), (1, .int l1), (3, .int l3), (4, .int l4)]) ok dX1_extreme_48 rfl (by decide) rfl ?_
  refine zg_sub (L' := [(0, va_rf l0), (1, .int l1), (2, .int l4), (3, .int l3)]) [1, 2, 0, 3] rfl ?_
  exact gt_f_X1_extreme_J49 hl ok tab fin hRm hb hR hk55 hE
set_option maxHeartbeats 8000000 in
theorem gt_f_X1_extreme_B4 {Xc : zw_X} {Q : Int32 → zw_H → Prop} {X : String → Nat → zw_H → Prop} (hl : (zw_l Xc).stackTraces = false) (ok : zw_ok Xc cX1_extreme "MultipoleLine" yX1_extreme.name 5) (tab : zw_tab Xc []) (fin : zw_fin Xc (Option.some Jvm.ClassFile.FieldType.int) (zq_I Q) X 0 0) (hRm : zw_rm Xc = rm_X1_extreme) {kc ks : Nat} (hb : kc ≤ 0 ∧ ks ≤ 0) {R : Int32 → Int32 → zw_H → Prop} {l0 : Option Nat} {l1 : Int32} (hR : ∀ (l2 : Int32) (l3 : Int32) (h : zw_H), R l2 l3 h → zw_G Xc kc ks 5 h 4 [(0, va_rf l0), (1, .int l1), (2, .int l2), (3, .int l3)] []) {k55 : Int32 → zw_H → Prop} (hk55 : ∀ (l2 : Int32) (h : zw_H), k55 l2 h → zw_G Xc kc ks 5 h 55 [(2, .int l2)] [])  {l2 : Int32} {l3 : Int32} {h : zw_H} (hE : f_X1_extreme_B4 (zw_Zf Xc).2.2.2 Q X k55 l0 l1 R l2 l3 h) : zw_G Xc kc ks 5 h 4 [(0, va_rf l0), (1, .int l1), (2, .int l2), (3, .int l3)] [] := by
  unfold f_X1_extreme_B4 at hE
  refine zg_iload_n ok dX1_extreme_4 rfl 3 rfl ?_
  refine zg_aload_n ok dX1_extreme_5 rfl 0 rfl ?_
  refine zg_callV (vs := []) (rest := [.int l3]) (rm := rm_X4_size) ok hRm lk_X1_80 dX1_extreme_6 hE (fun hE => mt_X4_size hl hE) rfl (Nat.le_of_ble_eq_true rfl) ⟨⟨Nat.le_of_ble_eq_true rfl, Nat.le_of_ble_eq_true rfl⟩, (by show kc + 0 ≤ 0; omega), (by show ks + 0 ≤ 0; omega)⟩ (zg_retI (fun v1 h1 hE => ?_)) (zg_xok ok tab fin ⟨(by show kc + 0 ≤ 0; omega), (by show ks + 0 ≤ 0; omega)⟩)
  refine zg_cost (kc2 := kc) (ks2 := ks) ⟨(by show kc + 0 = kc; omega), (by show ks + 0 = ks; omega)⟩ ?_
  refine zg_icmp_ge (tgt := 55) ok dX1_extreme_9 (by decide) hE (fun hE => ?_) (fun hE => ?_)
  · refine zg_sub (L' := [(2, .int l2)]) [2] rfl ?_
    exact hk55 _ _ hE
  · refine zg_aload_n ok dX1_extreme_12 rfl 0 rfl ?_
    refine zg_iload_n ok dX1_extreme_13 rfl 3 rfl ?_
    refine zg_callV (vs := [zI l3]) (rest := []) (rm := rm_X4_at) ok hRm lk_X1_88 dX1_extreme_14 hE (fun hE => mt_X4_at hl hE) rfl (Nat.le_of_ble_eq_true rfl) ⟨⟨Nat.le_of_ble_eq_true rfl, Nat.le_of_ble_eq_true rfl⟩, (by show kc + 0 ≤ 0; omega), (by show ks + 0 ≤ 0; omega)⟩ (zg_retA (fun v2 h2 hE => ?_)) (zg_xok ok tab fin ⟨(by show kc + 0 ≤ 0; omega), (by show ks + 0 ≤ 0; omega)⟩)
    refine zg_cost (kc2 := kc) (ks2 := ks) ⟨(by show kc + 0 = kc; omega), (by show ks + 0 = ks; omega)⟩ ?_
    refine zg_getI ok lf_X1_139 dX1_extreme_17 hE (fun v3 hE => ?_)
    refine zg_istore (L' := [(4, .int v3), (0, va_rf l0), (1, .int l1), (2, .int l2), (3, .int l3)]) ok dX1_extreme_20 (by decide) rfl ?_
    refine zg_iload_n ok dX1_extreme_22 rfl 3 rfl ?_
    refine zg_iconst (v := (-1)) ok dX1_extreme_23 (by decide) ?_
    refine zg_icmp_eq (tgt := 46) ok dX1_extreme_24 (by decide) hE (fun hE => ?_) (fun hE => ?_)
    · refine zg_sub (L' := [(0, va_rf l0), (1, .int l1), (3, .int l3), (4, .int v3)]) [1, 2, 4, 0] rfl ?_
      exact gt_f_X1_extreme_J46 hl ok tab fin hRm hb hR hk55 hE
    · refine zg_iload_n ok dX1_extreme_27 rfl 2 rfl ?_
      refine zg_if_eq (tgt := 40) ok dX1_extreme_28 (by decide) hE (fun hE => ?_) (fun hE => ?_)
      · refine zg_iload ok dX1_extreme_40 0 rfl ?_
        refine zg_iload_n ok dX1_extreme_42 rfl 3 rfl ?_
        refine zg_icmp_ge (tgt := 49) ok dX1_extreme_43 (by decide) hE (fun hE => ?_) (fun hE => ?_)
        · refine zg_sub (L' := [(0, va_rf l0), (1, .int l1), (2, .int l2), (3, .int l3)]) [1, 2, 3, 4] rfl ?_
          exact gt_f_X1_extreme_J49 hl ok tab fin hRm hb hR hk55 hE
        · refine zg_sub (L' := [(0, va_rf l0), (1, .int l1), (3, .int l3), (4, .int v3)]) [1, 2, 4, 0] rfl ?_
          exact gt_f_X1_extreme_J46 hl ok tab fin hRm hb hR hk55 hE
      · refine zg_iload ok dX1_extreme_31 0 rfl ?_
        refine zg_iload_n ok dX1_extreme_33 rfl 3 rfl ?_
        refine zg_icmp_le (tgt := 49) ok dX1_extreme_34 (by decide) hE (fun hE => ?_) (fun hE => ?_)
        · refine zg_sub (L' := [(0, va_rf l0), (1, .int l1), (2, .int l2), (3, .int l3)]) [1, 2, 3, 4] rfl ?_
          exact gt_f_X1_extreme_J49 hl ok tab fin hRm hb hR hk55 hE
        · refine zg_goto (tgt := 46) ok dX1_extreme_37 (by decide) ?_
          refine zg_sub (L' := [(0, va_rf l0), (1, .int l1), (3, .int l3), (4, .int v3)]) [1, 2, 4, 0] rfl ?_
          exact gt_f_X1_extreme_J46 hl ok tab fin hRm hb hR hk55 hE
theorem gt_f_X1_extreme_L4 {Xc : zw_X} {Q : Int32 → zw_H → Prop} {X : String → Nat → zw_H → Prop} (hl : (zw_l Xc).stackTraces = false) (ok : zw_ok Xc cX1_extreme "MultipoleLine" yX1_extreme.name 5) (tab : zw_tab Xc []) (fin : zw_fin Xc (Option.some Jvm.ClassFile.FieldType.int) (zq_I Q) X 0 0) (hRm : zw_rm Xc = rm_X1_extreme) {kc ks : Nat} (hb : kc ≤ 0 ∧ ks ≤ 0) {l0 : Option Nat} {l1 : Int32} {k55 : Int32 → zw_H → Prop} (hk55 : ∀ (l2 : Int32) (h : zw_H), k55 l2 h → zw_G Xc kc ks 5 h 55 [(2, .int l2)] [])  : ∀ (n9 : Nat) (l2 : Int32) (l3 : Int32) (h : zw_H), zl3 (f_X1_extreme_B4 (zw_Zf Xc).2.2.2 Q X k55 l0 l1) n9 l2 l3 h → zw_G Xc kc ks 5 h 4 [(0, va_rf l0), (1, .int l1), (2, .int l2), (3, .int l3)] [] := by
  intro n9
  induction n9 with
  | zero => intro l2 l3 h hE; exact hE.elim
  | succ n9 ih => intro l2 l3 h hE; exact gt_f_X1_extreme_B4 hl ok tab fin hRm hb ih hk55 hE
set_option maxHeartbeats 8000000 in
theorem mt_X1_extreme {l : Launch} (hl : l.stackTraces = false) {Z : zw_Z} {a0 : Option Nat} {a1 : Int32} {h : zw_H} {Q : Int32 → zw_H → Prop} {X : String → Nat → zw_H → Prop} (hE : f_X1_extreme Z.2.2.2 a0 a1 h Q X) : zw_Met l Z yX1_extreme (ws_ yX1_extreme cX1_extreme 5 (Option.some Jvm.ClassFile.FieldType.int)) rm_X1_extreme [zA a0, zI a1] h (zq_I Q) X := by
  refine zg_start (own := "MultipoleLine") (by decide +kernel) rfl (Nat.le_of_ble_eq_true rfl) hl (fun Xc ok tab fin hRm hXl hXZ => ?_)
  subst hXl
  subst hXZ
  unfold f_X1_extreme at hE
  refine zg_iconst (v := (-1)) ok dX1_extreme_0 (by decide) ?_
  refine zg_istore_n (L' := [(2, .int (-1)), (0, va_rf a0), (1, .int a1)]) ok dX1_extreme_1 rfl (by decide) rfl ?_
  refine zg_iconst (v := 0) ok dX1_extreme_2 (by decide) ?_
  refine zg_istore_n (L' := [(3, .int 0), (2, .int (-1)), (0, va_rf a0), (1, .int a1)]) ok dX1_extreme_3 rfl (by decide) rfl ?_
  refine zg_sub (L' := [(0, va_rf a0), (1, .int a1), (2, .int (-1)), (3, .int 0)]) [2, 3, 1, 0] rfl ?_
  refine gt_f_X1_extreme_L4 hl ok tab fin hRm ⟨Nat.le_of_ble_eq_true rfl, Nat.le_of_ble_eq_true rfl⟩ ?_ _ _ _ _ hE
  · intro v5 h3 hE
    refine zg_iload_n ok dX1_extreme_55 rfl 0 rfl ?_
    exact zg_iret ok fin dX1_extreme_56 ⟨Nat.le_of_ble_eq_true rfl, Nat.le_of_ble_eq_true rfl⟩ hE
set_option maxHeartbeats 8000000 in
theorem gt_f_X1_count_J160 {Xc : zw_X} {Q : Int32 → zw_H → Prop} {X : String → Nat → zw_H → Prop} (hl : (zw_l Xc).stackTraces = false) (ok : zw_ok Xc cX1_count "MultipoleLine" yX1_count.name 3) (tab : zw_tab Xc []) (fin : zw_fin Xc (Option.some Jvm.ClassFile.FieldType.int) (zq_I Q) X 3 13) (hRm : zw_rm Xc = rm_X1_count)   {s0 : Int32} {s1 : Option Nat} {h : zw_H} (hE : f_X1_count_J160 (zw_Zf Xc).2.2.2 Q X  s0 s1 h) : zw_G Xc 1 6 3 h 160 [] [.int s0, va_rf s1] := by
  unfold f_X1_count_J160 at hE
  refine zg_callS (vs := [zA s1, zI s0]) (rest := []) (rm := rm_X1_extreme) ok hRm lk_X1_170 dX1_count_160 hE (fun hE => mt_X1_extreme hl hE) rfl (Nat.le_of_ble_eq_true rfl) ⟨⟨Nat.le_of_ble_eq_true rfl, Nat.le_of_ble_eq_true rfl⟩, Nat.le_of_ble_eq_true rfl, Nat.le_of_ble_eq_true rfl⟩ (zg_retI (fun v15 h13 hE => ?_)) (zg_xok ok tab fin ⟨Nat.le_of_ble_eq_true rfl, Nat.le_of_ble_eq_true rfl⟩)
  refine zg_cost (kc2 := 1) (ks2 := 6) ⟨rfl, rfl⟩ ?_
  refine zg_goto (tgt := 185) ok dX1_count_163 (by decide) ?_
  exact zg_iret ok fin dX1_count_185 ⟨Nat.le_of_ble_eq_true rfl, Nat.le_of_ble_eq_true rfl⟩ hE
set_option maxHeartbeats 8000000 in
theorem mt_X1_count {l : Launch} (hl : l.stackTraces = false) {Z : zw_Z} {a0 : Option Nat} {a1 : Int32} {h : zw_H} {Q : Int32 → zw_H → Prop} {X : String → Nat → zw_H → Prop} (hE : f_X1_count Z.2.2.2 a0 a1 h Q X) : zw_Met l Z yX1_count (ws_ yX1_count cX1_count 3 (Option.some Jvm.ClassFile.FieldType.int)) rm_X1_count [zA a0, zI a1] h (zq_I Q) X := by
  refine zg_start (own := "MultipoleLine") (by decide +kernel) rfl (Nat.le_of_ble_eq_true rfl) hl (fun Xc ok tab fin hRm hXl hXZ => ?_)
  subst hXl
  subst hXZ
  unfold f_X1_count at hE
  refine zg_aload_n ok dX1_count_0 rfl 0 rfl ?_
  refine zg_callV (vs := []) (rest := []) (rm := rm_X1_loaded) ok hRm lk_X1_76 dX1_count_1 hE (fun hE => mt_X1_loaded hl hE) rfl (Nat.le_of_ble_eq_true rfl) ⟨⟨Nat.le_of_ble_eq_true rfl, Nat.le_of_ble_eq_true rfl⟩, Nat.le_of_ble_eq_true rfl, Nat.le_of_ble_eq_true rfl⟩ (zg_retA (fun v1 h1 hE => ?_)) (zg_xok ok tab fin ⟨Nat.le_of_ble_eq_true rfl, Nat.le_of_ble_eq_true rfl⟩)
  refine zg_cost (kc2 := 1) (ks2 := 6) ⟨rfl, rfl⟩ ?_
  refine zg_astore_n (L' := [(2, va_rf v1), (0, va_rf a0), (1, .int a1)]) ok dX1_count_4 rfl (by decide) rfl ?_
  refine zg_iload_n ok dX1_count_5 rfl 2 rfl ?_
  by_cases c9 : a1 = 0
  · rw [if_pos c9] at hE
    refine zg_tabIn (tgt := 76) ok dX1_count_6 (by rw [c9] <;> decide) (by rw [c9] <;> decide) (by rw [c9]; rfl) (by decide) ?_
    refine zg_aload_n ok dX1_count_76 rfl 0 rfl ?_
    refine zg_callV (vs := []) (rest := []) (rm := rm_X4_size) ok hRm lk_X1_80 dX1_count_77 hE (fun hE => mt_X4_size hl hE) rfl (Nat.le_of_ble_eq_true rfl) ⟨⟨Nat.le_of_ble_eq_true rfl, Nat.le_of_ble_eq_true rfl⟩, Nat.le_of_ble_eq_true rfl, Nat.le_of_ble_eq_true rfl⟩ (zg_retI (fun v2 h2 hE => ?_)) (zg_xok ok tab fin ⟨Nat.le_of_ble_eq_true rfl, Nat.le_of_ble_eq_true rfl⟩)
    refine zg_cost (kc2 := 1) (ks2 := 6) ⟨rfl, rfl⟩ ?_
    refine zg_goto (tgt := 185) ok dX1_count_80 (by decide) ?_
    exact zg_iret ok fin dX1_count_185 ⟨Nat.le_of_ble_eq_true rfl, Nat.le_of_ble_eq_true rfl⟩ hE
  rw [if_neg c9] at hE
  by_cases c9 : a1 = 1
  · rw [if_pos c9] at hE
    refine zg_tabIn (tgt := 83) ok dX1_count_6 (by rw [c9] <;> decide) (by rw [c9] <;> decide) (by rw [c9]; rfl) (by decide) ?_
    refine zg_aload_n ok dX1_count_83 rfl 0 rfl ?_
    refine zg_callV (vs := []) (rest := []) (rm := rm_X4_freeMany) ok hRm lk_X1_142 dX1_count_84 hE (fun hE => mt_X4_freeMany hl hE) rfl (Nat.le_of_ble_eq_true rfl) ⟨⟨Nat.le_of_ble_eq_true rfl, Nat.le_of_ble_eq_true rfl⟩, Nat.le_of_ble_eq_true rfl, Nat.le_of_ble_eq_true rfl⟩ (zg_retI (fun v3 h3 hE => ?_)) (zg_xok ok tab fin ⟨Nat.le_of_ble_eq_true rfl, Nat.le_of_ble_eq_true rfl⟩)
    refine zg_cost (kc2 := 1) (ks2 := 6) ⟨rfl, rfl⟩ ?_
    refine zg_goto (tgt := 185) ok dX1_count_87 (by decide) ?_
    exact zg_iret ok fin dX1_count_185 ⟨Nat.le_of_ble_eq_true rfl, Nat.le_of_ble_eq_true rfl⟩ hE
  rw [if_neg c9] at hE
  by_cases c9 : a1 = 2
  · rw [if_pos c9] at hE
    refine zg_tabIn (tgt := 90) ok dX1_count_6 (by rw [c9] <;> decide) (by rw [c9] <;> decide) (by rw [c9]; rfl) (by decide) ?_
    refine zg_aload_n ok dX1_count_90 rfl 0 rfl ?_
    refine zg_callV (vs := []) (rest := []) (rm := rm_X4_size) ok hRm lk_X1_80 dX1_count_91 hE (fun hE => mt_X4_size hl hE) rfl (Nat.le_of_ble_eq_true rfl) ⟨⟨Nat.le_of_ble_eq_true rfl, Nat.le_of_ble_eq_true rfl⟩, Nat.le_of_ble_eq_true rfl, Nat.le_of_ble_eq_true rfl⟩ (zg_retI (fun v4 h4 hE => ?_)) (zg_xok ok tab fin ⟨Nat.le_of_ble_eq_true rfl, Nat.le_of_ble_eq_true rfl⟩)
    refine zg_cost (kc2 := 1) (ks2 := 6) ⟨rfl, rfl⟩ ?_
    refine zg_aload_n ok dX1_count_94 rfl 0 rfl ?_
    refine zg_callV (vs := []) (rest := [.int v4]) (rm := rm_X4_freeMany) ok hRm lk_X1_142 dX1_count_95 hE (fun hE => mt_X4_freeMany hl hE) rfl (Nat.le_of_ble_eq_true rfl) ⟨⟨Nat.le_of_ble_eq_true rfl, Nat.le_of_ble_eq_true rfl⟩, Nat.le_of_ble_eq_true rfl, Nat.le_of_ble_eq_true rfl⟩ (zg_retI (fun v5 h5 hE => ?_)) (zg_xok ok tab fin ⟨Nat.le_of_ble_eq_true rfl, Nat.le_of_ble_eq_true rfl⟩)
    refine zg_cost (kc2 := 1) (ks2 := 6) ⟨rfl, rfl⟩ ?_
    refine zg_isub ok dX1_count_98 ?_
    refine zg_goto (tgt := 185) ok dX1_count_99 (by decide) ?_
    exact zg_iret ok fin dX1_count_185 ⟨Nat.le_of_ble_eq_true rfl, Nat.le_of_ble_eq_true rfl⟩ hE
  rw [if_neg c9] at hE
  by_cases c9 : a1 = 3
  · rw [if_pos c9] at hE
    refine zg_tabIn (tgt := 102) ok dX1_count_6 (by rw [c9] <;> decide) (by rw [c9] <;> decide) (by rw [c9]; rfl) (by decide) ?_
    refine zg_aload_n ok dX1_count_102 rfl 0 rfl ?_
    refine zg_iload_n ok dX1_count_103 rfl 2 rfl ?_
    refine zg_callV (vs := [zI a1]) (rest := []) (rm := rm_X4_number) ok hRm lk_X1_145 dX1_count_104 hE (fun hE => mt_X4_number hl hE) rfl (Nat.le_of_ble_eq_true rfl) ⟨⟨Nat.le_of_ble_eq_true rfl, Nat.le_of_ble_eq_true rfl⟩, Nat.le_of_ble_eq_true rfl, Nat.le_of_ble_eq_true rfl⟩ (zg_retI (fun v6 h6 hE => ?_)) (zg_xok ok tab fin ⟨Nat.le_of_ble_eq_true rfl, Nat.le_of_ble_eq_true rfl⟩)
    refine zg_cost (kc2 := 1) (ks2 := 6) ⟨rfl, rfl⟩ ?_
    refine zg_goto (tgt := 185) ok dX1_count_107 (by decide) ?_
    exact zg_iret ok fin dX1_count_185 ⟨Nat.le_of_ble_eq_true rfl, Nat.le_of_ble_eq_true rfl⟩ hE
  rw [if_neg c9] at hE
  by_cases c9 : a1 = 4
  · rw [if_pos c9] at hE
    refine zg_tabIn (tgt := 102) ok dX1_count_6 (by rw [c9] <;> decide) (by rw [c9] <;> decide) (by rw [c9]; rfl) (by decide) ?_
    refine zg_aload_n ok dX1_count_102 rfl 0 rfl ?_
    refine zg_iload_n ok dX1_count_103 rfl 2 rfl ?_
    refine zg_callV (vs := [zI a1]) (rest := []) (rm := rm_X4_number) ok hRm lk_X1_145 dX1_count_104 hE (fun hE => mt_X4_number hl hE) rfl (Nat.le_of_ble_eq_true rfl) ⟨⟨Nat.le_of_ble_eq_true rfl, Nat.le_of_ble_eq_true rfl⟩, Nat.le_of_ble_eq_true rfl, Nat.le_of_ble_eq_true rfl⟩ (zg_retI (fun v7 h7 hE => ?_)) (zg_xok ok tab fin ⟨Nat.le_of_ble_eq_true rfl, Nat.le_of_ble_eq_true rfl⟩)
    refine zg_cost (kc2 := 1) (ks2 := 6) ⟨rfl, rfl⟩ ?_
    refine zg_goto (tgt := 185) ok dX1_count_107 (by decide) ?_
    exact zg_iret ok fin dX1_count_185 ⟨Nat.le_of_ble_eq_true rfl, Nat.le_of_ble_eq_true rfl⟩ hE
  rw [if_neg c9] at hE
  by_cases c9 : a1 = 5
  · rw [if_pos c9] at hE
    refine zg_tabIn (tgt := 102) ok dX1_count_6 (by rw [c9] <;> decide) (by rw [c9] <;> decide) (by rw [c9]; rfl) (by decide) ?_
    refine zg_aload_n ok dX1_count_102 rfl 0 rfl ?_
    refine zg_iload_n ok dX1_count_103 rfl 2 rfl ?_
    refine zg_callV (vs := [zI a1]) (rest := []) (rm := rm_X4_number) ok hRm lk_X1_145 dX1_count_104 hE (fun hE => mt_X4_number hl hE) rfl (Nat.le_of_ble_eq_true rfl) ⟨⟨Nat.le_of_ble_eq_true rfl, Nat.le_of_ble_eq_true rfl⟩, Nat.le_of_ble_eq_true rfl, Nat.le_of_ble_eq_true rfl⟩ (zg_retI (fun v8 h8 hE => ?_)) (zg_xok ok tab fin ⟨Nat.le_of_ble_eq_true rfl, Nat.le_of_ble_eq_true rfl⟩)
    refine zg_cost (kc2 := 1) (ks2 := 6) ⟨rfl, rfl⟩ ?_
    refine zg_goto (tgt := 185) ok dX1_count_107 (by decide) ?_
    exact zg_iret ok fin dX1_count_185 ⟨Nat.le_of_ble_eq_true rfl, Nat.le_of_ble_eq_true rfl⟩ hE
  rw [if_neg c9] at hE
  by_cases c9 : a1 = 6
  · rw [if_pos c9] at hE
    refine zg_tabIn (tgt := 110) ok dX1_count_6 (by rw [c9] <;> decide) (by rw [c9] <;> decide) (by rw [c9]; rfl) (by decide) ?_
    refine zg_aload_n ok dX1_count_110 rfl 0 rfl ?_
    refine zg_getI ok lf_X1_149 dX1_count_111 hE (fun v9 hE => ?_)
    refine zg_goto (tgt := 185) ok dX1_count_114 (by decide) ?_
    exact zg_iret ok fin dX1_count_185 ⟨Nat.le_of_ble_eq_true rfl, Nat.le_of_ble_eq_true rfl⟩ hE
  rw [if_neg c9] at hE
  by_cases c9 : a1 = 7
  · rw [if_pos c9] at hE
    refine zg_tabIn (tgt := 117) ok dX1_count_6 (by rw [c9] <;> decide) (by rw [c9] <;> decide) (by rw [c9]; rfl) (by decide) ?_
    refine zg_aload_n ok dX1_count_117 rfl 0 rfl ?_
    refine zg_callV (vs := []) (rest := []) (rm := rm_X4_charges) ok hRm lk_X1_152 dX1_count_118 hE (fun hE => mt_X4_charges hl hE) rfl (Nat.le_of_ble_eq_true rfl) ⟨⟨Nat.le_of_ble_eq_true rfl, Nat.le_of_ble_eq_true rfl⟩, Nat.le_of_ble_eq_true rfl, Nat.le_of_ble_eq_true rfl⟩ (zg_retI (fun v10 h9 hE => ?_)) (zg_xok ok tab fin ⟨Nat.le_of_ble_eq_true rfl, Nat.le_of_ble_eq_true rfl⟩)
    refine zg_cost (kc2 := 1) (ks2 := 6) ⟨rfl, rfl⟩ ?_
    refine zg_goto (tgt := 185) ok dX1_count_121 (by decide) ?_
    exact zg_iret ok fin dX1_count_185 ⟨Nat.le_of_ble_eq_true rfl, Nat.le_of_ble_eq_true rfl⟩ hE
  rw [if_neg c9] at hE
  by_cases c9 : a1 = 8
  · rw [if_pos c9] at hE
    refine zg_tabIn (tgt := 124) ok dX1_count_6 (by rw [c9] <;> decide) (by rw [c9] <;> decide) (by rw [c9]; rfl) (by decide) ?_
    refine zg_aload_n ok dX1_count_124 rfl 0 rfl ?_
    refine zg_callV (vs := []) (rest := []) (rm := rm_X4_weights) ok hRm lk_X1_155 dX1_count_125 hE (fun hE => mt_X4_weights hl hE) rfl (Nat.le_of_ble_eq_true rfl) ⟨⟨Nat.le_of_ble_eq_true rfl, Nat.le_of_ble_eq_true rfl⟩, Nat.le_of_ble_eq_true rfl, Nat.le_of_ble_eq_true rfl⟩ (zg_retI (fun v11 h10 hE => ?_)) (zg_xok ok tab fin ⟨Nat.le_of_ble_eq_true rfl, Nat.le_of_ble_eq_true rfl⟩)
    refine zg_cost (kc2 := 1) (ks2 := 6) ⟨rfl, rfl⟩ ?_
    refine zg_goto (tgt := 185) ok dX1_count_128 (by decide) ?_
    exact zg_iret ok fin dX1_count_185 ⟨Nat.le_of_ble_eq_true rfl, Nat.le_of_ble_eq_true rfl⟩ hE
  rw [if_neg c9] at hE
  by_cases c9 : a1 = 9
  · rw [if_pos c9] at hE
    refine zg_tabIn (tgt := 131) ok dX1_count_6 (by rw [c9] <;> decide) (by rw [c9] <;> decide) (by rw [c9]; rfl) (by decide) ?_
    refine zg_aload_n ok dX1_count_131 rfl 0 rfl ?_
    refine zg_callV (vs := []) (rest := []) (rm := rm_X4_leaves) ok hRm lk_X1_158 dX1_count_132 hE (fun hE => mt_X4_leaves hl hE) rfl (Nat.le_of_ble_eq_true rfl) ⟨⟨Nat.le_of_ble_eq_true rfl, Nat.le_of_ble_eq_true rfl⟩, Nat.le_of_ble_eq_true rfl, Nat.le_of_ble_eq_true rfl⟩ (zg_retA (fun v12 h11 hE => ?_)) (zg_xok ok tab fin ⟨Nat.le_of_ble_eq_true rfl, Nat.le_of_ble_eq_true rfl⟩)
    refine zg_cost (kc2 := 3) (ks2 := 13) ⟨rfl, rfl⟩ ?_
    refine zg_callV (vs := []) (rest := []) (rm := rm_J25_cardinality) ok hRm lk_X1_162 dX1_count_135 hE (fun hE => mt_J25_cardinality hl hE) rfl (Nat.le_of_ble_eq_true rfl) ⟨⟨Nat.le_of_ble_eq_true rfl, Nat.le_of_ble_eq_true rfl⟩, Nat.le_of_ble_eq_true rfl, Nat.le_of_ble_eq_true rfl⟩ (zg_retI (fun v13 h12 hE => ?_)) (zg_xok ok tab fin ⟨Nat.le_of_ble_eq_true rfl, Nat.le_of_ble_eq_true rfl⟩)
    refine zg_cost (kc2 := 3) (ks2 := 13) ⟨rfl, rfl⟩ ?_
    refine zg_goto (tgt := 185) ok dX1_count_138 (by decide) ?_
    exact zg_iret ok fin dX1_count_185 ⟨Nat.le_of_ble_eq_true rfl, Nat.le_of_ble_eq_true rfl⟩ hE
  rw [if_neg c9] at hE
  by_cases c9 : a1 = 10
  · rw [if_pos c9] at hE
    refine zg_tabIn (tgt := 141) ok dX1_count_6 (by rw [c9] <;> decide) (by rw [c9] <;> decide) (by rw [c9]; rfl) (by decide) ?_
    refine zg_aload_n ok dX1_count_141 rfl 0 rfl ?_
    refine zg_getI ok lf_X1_167 dX1_count_142 hE (fun v14 hE => ?_)
    refine zg_goto (tgt := 185) ok dX1_count_145 (by decide) ?_
    exact zg_iret ok fin dX1_count_185 ⟨Nat.le_of_ble_eq_true rfl, Nat.le_of_ble_eq_true rfl⟩ hE
  rw [if_neg c9] at hE
  by_cases c9 : a1 = 11
  · rw [if_pos c9] at hE
    refine zg_tabIn (tgt := 148) ok dX1_count_6 (by rw [c9] <;> decide) (by rw [c9] <;> decide) (by rw [c9]; rfl) (by decide) ?_
    refine zg_aload_n ok dX1_count_148 rfl 0 rfl ?_
    refine zg_iload_n ok dX1_count_149 rfl 2 rfl ?_
    refine zg_bipush (v := 12) ok dX1_count_150 (by decide) ?_
    refine zg_icmp_ne (tgt := 159) ok dX1_count_152 (by decide) hE (fun hE => ?_) (fun hE => ?_)
    · refine zg_iconst (v := 0) ok dX1_count_159 (by decide) ?_
      refine zg_sub (L' := []) [] rfl ?_
      exact gt_f_X1_count_J160 hl ok tab fin hRm  hE
    · refine zg_iconst (v := 1) ok dX1_count_155 (by decide) ?_
      refine zg_goto (tgt := 160) ok dX1_count_156 (by decide) ?_
      refine zg_sub (L' := []) [] rfl ?_
      exact gt_f_X1_count_J160 hl ok tab fin hRm  hE
  rw [if_neg c9] at hE
  by_cases c9 : a1 = 12
  · rw [if_pos c9] at hE
    refine zg_tabIn (tgt := 148) ok dX1_count_6 (by rw [c9] <;> decide) (by rw [c9] <;> decide) (by rw [c9]; rfl) (by decide) ?_
    refine zg_aload_n ok dX1_count_148 rfl 0 rfl ?_
    refine zg_iload_n ok dX1_count_149 rfl 2 rfl ?_
    refine zg_bipush (v := 12) ok dX1_count_150 (by decide) ?_
    refine zg_icmp_ne (tgt := 159) ok dX1_count_152 (by decide) hE (fun hE => ?_) (fun hE => ?_)
    · refine zg_iconst (v := 0) ok dX1_count_159 (by decide) ?_
      refine zg_sub (L' := []) [] rfl ?_
      exact gt_f_X1_count_J160 hl ok tab fin hRm  hE
    · refine zg_iconst (v := 1) ok dX1_count_155 (by decide) ?_
      refine zg_goto (tgt := 160) ok dX1_count_156 (by decide) ?_
      refine zg_sub (L' := []) [] rfl ?_
      exact gt_f_X1_count_J160 hl ok tab fin hRm  hE
  rw [if_neg c9] at hE
  by_cases c9 : a1 = 13
  · rw [if_pos c9] at hE
    refine zg_tabIn (tgt := 166) ok dX1_count_6 (by rw [c9] <;> decide) (by rw [c9] <;> decide) (by rw [c9]; rfl) (by decide) ?_
    refine zg_sipush (v := 256) ok dX1_count_166 (by decide) ?_
    refine zg_aload_n ok dX1_count_169 rfl 0 rfl ?_
    refine zg_getI ok lf_X1_101 dX1_count_170 hE (fun v16 hE => ?_)
    refine zg_ishr ok dX1_count_173 ?_
    refine zg_goto (tgt := 185) ok dX1_count_174 (by decide) ?_
    exact zg_iret ok fin dX1_count_185 ⟨Nat.le_of_ble_eq_true rfl, Nat.le_of_ble_eq_true rfl⟩ hE
  rw [if_neg c9] at hE
  obtain ⟨hd9, hE⟩ := hE
  refine zg_tabOut (tgt := 177) ok dX1_count_6 hd9 (by decide) ?_
  exact zg_throw0 ok tab fin hRm lx_X1_55_57 dX1_count_177 dX1_count_180 dX1_count_181 dX1_count_184 (fun z hz => by cases hz) ⟨Nat.le_of_ble_eq_true rfl, Nat.le_of_ble_eq_true rfl, Nat.le_of_ble_eq_true rfl, Nat.le_of_ble_eq_true rfl⟩ (Nat.le_of_ble_eq_true rfl) ⟨Nat.le_of_ble_eq_true rfl, Nat.le_of_ble_eq_true rfl⟩ hE
set_option maxHeartbeats 8000000 in
theorem mt_X1_bodyOf {l : Launch} (hl : l.stackTraces = false) {Z : zw_Z} {a0 : Option Nat} {a1 : Int32} {h : zw_H} {Q : Option Nat → zw_H → Prop} {X : String → Nat → zw_H → Prop} (hE : f_X1_bodyOf Z.2.2.2 a0 a1 h Q X) : zw_Met l Z yX1_bodyOf (ws_ yX1_bodyOf cX1_bodyOf 2 (Option.some (Jvm.ClassFile.FieldType.object "MultipoleLine$Body"))) rm_X1_bodyOf [zA a0, zI a1] h (zq_A Q) X := by
  refine zg_start (own := "MultipoleLine") (by decide +kernel) rfl (Nat.le_of_ble_eq_true rfl) hl (fun Xc ok tab fin hRm hXl hXZ => ?_)
  subst hXl
  subst hXZ
  unfold f_X1_bodyOf at hE
  refine zg_iload_n ok dX1_bodyOf_0 rfl 1 rfl ?_
  refine zg_aload_n ok dX1_bodyOf_1 rfl 0 rfl ?_
  refine zg_callV (vs := []) (rest := [.int a1]) (rm := rm_X1_loaded) ok hRm lk_X1_76 dX1_bodyOf_2 hE (fun hE => mt_X1_loaded hl hE) rfl (Nat.le_of_ble_eq_true rfl) ⟨⟨Nat.le_of_ble_eq_true rfl, Nat.le_of_ble_eq_true rfl⟩, Nat.le_of_ble_eq_true rfl, Nat.le_of_ble_eq_true rfl⟩ (zg_retA (fun v1 h1 hE => ?_)) (zg_xok ok tab fin ⟨Nat.le_of_ble_eq_true rfl, Nat.le_of_ble_eq_true rfl⟩)
  refine zg_cost (kc2 := 1) (ks2 := 6) ⟨rfl, rfl⟩ ?_
  refine zg_callV (vs := []) (rest := [.int a1]) (rm := rm_X4_size) ok hRm lk_X1_80 dX1_bodyOf_5 hE (fun hE => mt_X4_size hl hE) rfl (Nat.le_of_ble_eq_true rfl) ⟨⟨Nat.le_of_ble_eq_true rfl, Nat.le_of_ble_eq_true rfl⟩, Nat.le_of_ble_eq_true rfl, Nat.le_of_ble_eq_true rfl⟩ (zg_retI (fun v2 h2 hE => ?_)) (zg_xok ok tab fin ⟨Nat.le_of_ble_eq_true rfl, Nat.le_of_ble_eq_true rfl⟩)
  refine zg_cost (kc2 := 1) (ks2 := 6) ⟨rfl, rfl⟩ ?_
  refine zg_callS (vs := [zI a1, zI v2]) (rest := []) (rm := rm_X1_checkIndex) ok hRm lk_X1_84 dX1_bodyOf_8 hE (fun hE => mt_X1_checkIndex hl hE) rfl (Nat.le_of_ble_eq_true rfl) ⟨⟨Nat.le_of_ble_eq_true rfl, Nat.le_of_ble_eq_true rfl⟩, Nat.le_of_ble_eq_true rfl, Nat.le_of_ble_eq_true rfl⟩ (zg_retV (fun h3 hE => ?_)) (zg_xok ok tab fin ⟨Nat.le_of_ble_eq_true rfl, Nat.le_of_ble_eq_true rfl⟩)
  refine zg_cost (kc2 := 2) (ks2 := 12) ⟨rfl, rfl⟩ ?_
  refine zg_aload_n ok dX1_bodyOf_11 rfl 0 rfl ?_
  refine zg_getA ok lf_X1_68 dX1_bodyOf_12 hE (fun v3 hE => ?_)
  refine zg_iload_n ok dX1_bodyOf_15 rfl 1 rfl ?_
  refine zg_callV (vs := [zI a1]) (rest := []) (rm := rm_X4_at) ok hRm lk_X1_88 dX1_bodyOf_16 hE (fun hE => mt_X4_at hl hE) rfl (Nat.le_of_ble_eq_true rfl) ⟨⟨Nat.le_of_ble_eq_true rfl, Nat.le_of_ble_eq_true rfl⟩, Nat.le_of_ble_eq_true rfl, Nat.le_of_ble_eq_true rfl⟩ (zg_retA (fun v4 h4 hE => ?_)) (zg_xok ok tab fin ⟨Nat.le_of_ble_eq_true rfl, Nat.le_of_ble_eq_true rfl⟩)
  refine zg_cost (kc2 := 2) (ks2 := 12) ⟨rfl, rfl⟩ ?_
  exact zg_aret ok fin (Or.inl ⟨_, rfl⟩) dX1_bodyOf_19 ⟨Nat.le_of_ble_eq_true rfl, Nat.le_of_ble_eq_true rfl⟩ hE
set_option maxHeartbeats 8000000 in
theorem mt_X1_body_2 {l : Launch} (hl : l.stackTraces = false) {Z : zw_Z} {a0 : Option Nat} {a1 : Int32} {a2 : Int32} {h : zw_H} {Q : Int32 → zw_H → Prop} {X : String → Nat → zw_H → Prop} (hE : f_X1_body_2 Z.2.2.2 a0 a1 a2 h Q X) : zw_Met l Z yX1_body_2 (ws_ yX1_body_2 cX1_body_2 4 (Option.some Jvm.ClassFile.FieldType.int)) rm_X1_body_2 [zA a0, zI a1, zI a2] h (zq_I Q) X := by
  refine zg_start (own := "MultipoleLine") (by decide +kernel) rfl (Nat.le_of_ble_eq_true rfl) hl (fun Xc ok tab fin hRm hXl hXZ => ?_)
  subst hXl
  subst hXZ
  unfold f_X1_body_2 at hE
  refine zg_aload_n ok dX1_body_2_0 rfl 0 rfl ?_
  refine zg_iload_n ok dX1_body_2_1 rfl 1 rfl ?_
  refine zg_callV (vs := [zI a1]) (rest := []) (rm := rm_X1_bodyOf) ok hRm lk_X1_174 dX1_body_2_2 hE (fun hE => mt_X1_bodyOf hl hE) rfl (Nat.le_of_ble_eq_true rfl) ⟨⟨Nat.le_of_ble_eq_true rfl, Nat.le_of_ble_eq_true rfl⟩, Nat.le_of_ble_eq_true rfl, Nat.le_of_ble_eq_true rfl⟩ (zg_retA (fun v1 h1 hE => ?_)) (zg_xok ok tab fin ⟨Nat.le_of_ble_eq_true rfl, Nat.le_of_ble_eq_true rfl⟩)
  refine zg_cost (kc2 := 2) (ks2 := 12) ⟨rfl, rfl⟩ ?_
  refine zg_astore_n (L' := [(3, va_rf v1), (0, va_rf a0), (1, .int a1), (2, .int a2)]) ok dX1_body_2_5 rfl (by decide) rfl ?_
  refine zg_iload_n ok dX1_body_2_6 rfl 3 rfl ?_
  by_cases c9 : a2 = 0
  · rw [if_pos c9] at hE
    refine zg_tabIn (tgt := 40) ok dX1_body_2_7 (by rw [c9] <;> decide) (by rw [c9] <;> decide) (by rw [c9]; rfl) (by decide) ?_
    refine zg_aload_n ok dX1_body_2_40 rfl 0 rfl ?_
    refine zg_getI ok lf_X1_139 dX1_body_2_41 hE (fun v2 hE => ?_)
    refine zg_goto (tgt := 98) ok dX1_body_2_44 (by decide) ?_
    exact zg_iret ok fin dX1_body_2_98 ⟨Nat.le_of_ble_eq_true rfl, Nat.le_of_ble_eq_true rfl⟩ hE
  rw [if_neg c9] at hE
  by_cases c9 : a2 = 1
  · rw [if_pos c9] at hE
    refine zg_tabIn (tgt := 47) ok dX1_body_2_7 (by rw [c9] <;> decide) (by rw [c9] <;> decide) (by rw [c9]; rfl) (by decide) ?_
    refine zg_aload_n ok dX1_body_2_47 rfl 0 rfl ?_
    refine zg_getI ok lf_X1_177 dX1_body_2_48 hE (fun v3 hE => ?_)
    refine zg_goto (tgt := 98) ok dX1_body_2_51 (by decide) ?_
    exact zg_iret ok fin dX1_body_2_98 ⟨Nat.le_of_ble_eq_true rfl, Nat.le_of_ble_eq_true rfl⟩ hE
  rw [if_neg c9] at hE
  by_cases c9 : a2 = 2
  · rw [if_pos c9] at hE
    refine zg_tabIn (tgt := 54) ok dX1_body_2_7 (by rw [c9] <;> decide) (by rw [c9] <;> decide) (by rw [c9]; rfl) (by decide) ?_
    refine zg_iconst (v := 1) ok dX1_body_2_54 (by decide) ?_
    refine zg_aload_n ok dX1_body_2_55 rfl 0 rfl ?_
    refine zg_getI ok lf_X1_18 dX1_body_2_56 hE (fun v4 hE => ?_)
    refine zg_callS (vs := [zI v4]) (rest := [.int 1]) (rm := rm_X1_flag) ok hRm lk_X1_180 dX1_body_2_59 hE (fun hE => mt_X1_flag hl hE) rfl (Nat.le_of_ble_eq_true rfl) ⟨⟨Nat.le_of_ble_eq_true rfl, Nat.le_of_ble_eq_true rfl⟩, Nat.le_of_ble_eq_true rfl, Nat.le_of_ble_eq_true rfl⟩ (zg_retI (fun v5 h2 hE => ?_)) (zg_xok ok tab fin ⟨Nat.le_of_ble_eq_true rfl, Nat.le_of_ble_eq_true rfl⟩)
    refine zg_cost (kc2 := 2) (ks2 := 12) ⟨rfl, rfl⟩ ?_
    refine zg_isub ok dX1_body_2_62 ?_
    refine zg_goto (tgt := 98) ok dX1_body_2_63 (by decide) ?_
    exact zg_iret ok fin dX1_body_2_98 ⟨Nat.le_of_ble_eq_true rfl, Nat.le_of_ble_eq_true rfl⟩ hE
  rw [if_neg c9] at hE
  by_cases c9 : a2 = 3
  · rw [if_pos c9] at hE
    refine zg_tabIn (tgt := 66) ok dX1_body_2_7 (by rw [c9] <;> decide) (by rw [c9] <;> decide) (by rw [c9]; rfl) (by decide) ?_
    refine zg_aload_n ok dX1_body_2_66 rfl 1 rfl ?_
    refine zg_getA ok lf_X1_68 dX1_body_2_67 hE (fun v6 hE => ?_)
    refine zg_aload_n ok dX1_body_2_70 rfl 0 rfl ?_
    refine zg_getI ok lf_X1_139 dX1_body_2_71 hE (fun v7 hE => ?_)
    refine zg_callV (vs := [zI v7]) (rest := []) (rm := rm_X4_leaf) ok hRm lk_X1_184 dX1_body_2_74 hE (fun hE => mt_X4_leaf hl hE) rfl (Nat.le_of_ble_eq_true rfl) ⟨⟨Nat.le_of_ble_eq_true rfl, Nat.le_of_ble_eq_true rfl⟩, Nat.le_of_ble_eq_true rfl, Nat.le_of_ble_eq_true rfl⟩ (zg_retA (fun v8 h3 hE => ?_)) (zg_xok ok tab fin ⟨Nat.le_of_ble_eq_true rfl, Nat.le_of_ble_eq_true rfl⟩)
    refine zg_cost (kc2 := 2) (ks2 := 12) ⟨rfl, rfl⟩ ?_
    refine zg_getI ok lf_X1_188 dX1_body_2_77 hE (fun v9 hE => ?_)
    refine zg_goto (tgt := 98) ok dX1_body_2_80 (by decide) ?_
    exact zg_iret ok fin dX1_body_2_98 ⟨Nat.le_of_ble_eq_true rfl, Nat.le_of_ble_eq_true rfl⟩ hE
  rw [if_neg c9] at hE
  by_cases c9 : a2 = 4
  · rw [if_pos c9] at hE
    refine zg_tabIn (tgt := 83) ok dX1_body_2_7 (by rw [c9] <;> decide) (by rw [c9] <;> decide) (by rw [c9]; rfl) (by decide) ?_
    refine zg_aload_n ok dX1_body_2_83 rfl 0 rfl ?_
    refine zg_getI ok lf_X1_192 dX1_body_2_84 hE (fun v10 hE => ?_)
    refine zg_goto (tgt := 98) ok dX1_body_2_87 (by decide) ?_
    exact zg_iret ok fin dX1_body_2_98 ⟨Nat.le_of_ble_eq_true rfl, Nat.le_of_ble_eq_true rfl⟩ hE
  rw [if_neg c9] at hE
  obtain ⟨hd9, hE⟩ := hE
  refine zg_tabOut (tgt := 90) ok dX1_body_2_7 hd9 (by decide) ?_
  exact zg_throw0 ok tab fin hRm lx_X1_55_57 dX1_body_2_90 dX1_body_2_93 dX1_body_2_94 dX1_body_2_97 (fun z hz => by cases hz) ⟨Nat.le_of_ble_eq_true rfl, Nat.le_of_ble_eq_true rfl, Nat.le_of_ble_eq_true rfl, Nat.le_of_ble_eq_true rfl⟩ (Nat.le_of_ble_eq_true rfl) ⟨Nat.le_of_ble_eq_true rfl, Nat.le_of_ble_eq_true rfl⟩ hE
set_option maxHeartbeats 8000000 in
theorem mt_X1_isPoint {l : Launch} (hl : l.stackTraces = false) {Z : zw_Z} {a0 : Int32} {h : zw_H} {Q : Int32 → zw_H → Prop} {X : String → Nat → zw_H → Prop} (hE : f_X1_isPoint Z.2.2.2 a0 h Q X) : zw_Met l Z yX1_isPoint (ws_ yX1_isPoint cX1_isPoint 1 (Option.some Jvm.ClassFile.FieldType.boolean)) rm_X1_isPoint [zI a0] h (zq_I Q) X := by
  refine zg_start (own := "MultipoleLine") (by decide +kernel) rfl (Nat.le_of_ble_eq_true rfl) hl (fun Xc ok tab fin hRm hXl hXZ => ?_)
  subst hXl
  subst hXZ
  unfold f_X1_isPoint at hE
  refine zg_iload_n ok dX1_isPoint_0 rfl 0 rfl ?_
  refine zg_i2l ok dX1_isPoint_1 ?_
  refine zg_lconst (v := 0) ok dX1_isPoint_2 (by decide) ?_
  refine zg_ldc2 (v := (255 : Int64)) ok q1273 dX1_isPoint_3 ?_
  refine zg_callS (vs := [zJ a0.toInt64, zJ 0, zJ (255 : Int64)]) (rest := []) (rm := rm_X1_in) ok hRm lk_X1_58 dX1_isPoint_6 hE (fun hE => mt_X1_in hl hE) rfl (Nat.le_of_ble_eq_true rfl) ⟨⟨Nat.le_of_ble_eq_true rfl, Nat.le_of_ble_eq_true rfl⟩, Nat.le_of_ble_eq_true rfl, Nat.le_of_ble_eq_true rfl⟩ (zg_retI (fun v1 h1 hE => ?_)) (zg_xok ok tab fin ⟨Nat.le_of_ble_eq_true rfl, Nat.le_of_ble_eq_true rfl⟩)
  refine zg_cost (kc2 := 0) (ks2 := 0) ⟨rfl, rfl⟩ ?_
  exact zg_zretE (ret := none) ok fin dX1_isPoint_9 ⟨Nat.le_of_ble_eq_true rfl, Nat.le_of_ble_eq_true rfl⟩ hE
set_option maxHeartbeats 8000000 in
theorem mt_X1_checkArgument {l : Launch} (hl : l.stackTraces = false) {Z : zw_Z} {a0 : Int32} {h : zw_H} {Q : zw_H → Prop} {X : String → Nat → zw_H → Prop} (hE : f_X1_checkArgument Z.2.2.2 a0 h Q X) : zw_Met l Z yX1_checkArgument (ws_ yX1_checkArgument cX1_checkArgument 1 (Option.none : Option Jvm.ClassFile.FieldType)) rm_X1_checkArgument [zI a0] h (zq_V Q) X := by
  refine zg_start (own := "MultipoleLine") (by decide +kernel) rfl (Nat.le_of_ble_eq_true rfl) hl (fun Xc ok tab fin hRm hXl hXZ => ?_)
  subst hXl
  subst hXZ
  unfold f_X1_checkArgument at hE
  refine zg_iload_n ok dX1_checkArgument_0 rfl 0 rfl ?_
  refine zg_if_ne (tgt := 12) ok dX1_checkArgument_1 (by decide) hE (fun hE => ?_) (fun hE => ?_)
  · exact zg_vret ok fin dX1_checkArgument_12 ⟨Nat.le_of_ble_eq_true rfl, Nat.le_of_ble_eq_true rfl⟩ hE
  · exact zg_throw0 ok tab fin hRm lx_X1_55_57 dX1_checkArgument_4 dX1_checkArgument_7 dX1_checkArgument_8 dX1_checkArgument_11 (fun z hz => by cases hz) ⟨Nat.le_of_ble_eq_true rfl, Nat.le_of_ble_eq_true rfl, Nat.le_of_ble_eq_true rfl, Nat.le_of_ble_eq_true rfl⟩ (Nat.le_of_ble_eq_true rfl) ⟨Nat.le_of_ble_eq_true rfl, Nat.le_of_ble_eq_true rfl⟩ hE
set_option maxHeartbeats 8000000 in
theorem mt_X1_at {l : Launch} (hl : l.stackTraces = false) {Z : zw_Z} {a0 : Option Nat} {a1 : Int32} {h : zw_H} {Q : Option Nat → zw_H → Prop} {X : String → Nat → zw_H → Prop} (hE : f_X1_at Z.2.2.2 a0 a1 h Q X) : zw_Met l Z yX1_at (ws_ yX1_at cX1_at 3 (Option.some (Jvm.ClassFile.FieldType.object "MultipoleLine$Line"))) rm_X1_at [zA a0, zI a1] h (zq_A Q) X := by
  refine zg_start (own := "MultipoleLine") (by decide +kernel) rfl (Nat.le_of_ble_eq_true rfl) hl (fun Xc ok tab fin hRm hXl hXZ => ?_)
  subst hXl
  subst hXZ
  unfold f_X1_at at hE
  refine zg_aload_n ok dX1_at_0 rfl 0 rfl ?_
  refine zg_callV (vs := []) (rest := []) (rm := rm_X1_loaded) ok hRm lk_X1_76 dX1_at_1 hE (fun hE => mt_X1_loaded hl hE) rfl (Nat.le_of_ble_eq_true rfl) ⟨⟨Nat.le_of_ble_eq_true rfl, Nat.le_of_ble_eq_true rfl⟩, Nat.le_of_ble_eq_true rfl, Nat.le_of_ble_eq_true rfl⟩ (zg_retA (fun v1 h1 hE => ?_)) (zg_xok ok tab fin ⟨Nat.le_of_ble_eq_true rfl, Nat.le_of_ble_eq_true rfl⟩)
  refine zg_cost (kc2 := 1) (ks2 := 6) ⟨rfl, rfl⟩ ?_
  refine zg_astore_n (L' := [(2, va_rf v1), (0, va_rf a0), (1, .int a1)]) ok dX1_at_4 rfl (by decide) rfl ?_
  refine zg_iload_n ok dX1_at_5 rfl 2 rfl ?_
  refine zg_callS (vs := [zI a1]) (rest := []) (rm := rm_X1_isPoint) ok hRm lk_X1_94 dX1_at_6 hE (fun hE => mt_X1_isPoint hl hE) rfl (Nat.le_of_ble_eq_true rfl) ⟨⟨Nat.le_of_ble_eq_true rfl, Nat.le_of_ble_eq_true rfl⟩, Nat.le_of_ble_eq_true rfl, Nat.le_of_ble_eq_true rfl⟩ (zg_retI (fun v2 h2 hE => ?_)) (zg_xok ok tab fin ⟨Nat.le_of_ble_eq_true rfl, Nat.le_of_ble_eq_true rfl⟩)
  refine zg_cost (kc2 := 1) (ks2 := 6) ⟨rfl, rfl⟩ ?_
  refine zg_callS (vs := [zI v2]) (rest := []) (rm := rm_X1_checkArgument) ok hRm lk_X1_98 dX1_at_9 hE (fun hE => mt_X1_checkArgument hl hE) rfl (Nat.le_of_ble_eq_true rfl) ⟨⟨Nat.le_of_ble_eq_true rfl, Nat.le_of_ble_eq_true rfl⟩, Nat.le_of_ble_eq_true rfl, Nat.le_of_ble_eq_true rfl⟩ (zg_retV (fun h3 hE => ?_)) (zg_xok ok tab fin ⟨Nat.le_of_ble_eq_true rfl, Nat.le_of_ble_eq_true rfl⟩)
  refine zg_cost (kc2 := 2) (ks2 := 12) ⟨rfl, rfl⟩ ?_
  refine zg_aload_n ok dX1_at_12 rfl 0 rfl ?_
  exact zg_aret ok fin (Or.inl ⟨_, rfl⟩) dX1_at_13 ⟨Nat.le_of_ble_eq_true rfl, Nat.le_of_ble_eq_true rfl⟩ hE
set_option maxHeartbeats 8000000 in
theorem gt_f_X1_bodyAt_B8 {Xc : zw_X} {Q : Int32 → zw_H → Prop} {X : String → Nat → zw_H → Prop} (hl : (zw_l Xc).stackTraces = false) (ok : zw_ok Xc cX1_bodyAt "MultipoleLine" yX1_bodyAt.name 4) (tab : zw_tab Xc []) (fin : zw_fin Xc (Option.some Jvm.ClassFile.FieldType.int) (zq_I Q) X 2 12) (hRm : zw_rm Xc = rm_X1_bodyAt) {kc ks : Nat} (hb : kc ≤ 2 ∧ ks ≤ 12) {R : Int32 → zw_H → Prop} {l1 : Int32} {l2 : Option Nat} (hR : ∀ (l3 : Int32) (h : zw_H), R l3 h → zw_G Xc kc ks 4 h 8 [(1, .int l1), (2, va_rf l2), (3, .int l3)] []) {k28 : Int32 → zw_H → Prop} (hk28 : ∀ (l3 : Int32) (h : zw_H), k28 l3 h → zw_G Xc kc ks 4 h 28 [(3, .int l3)] []) {k36 : zw_H → Prop} (hk36 : ∀  (h : zw_H), k36  h → zw_G Xc kc ks 4 h 36 [] [])  {l3 : Int32} {h : zw_H} (hE : f_X1_bodyAt_B8 (zw_Zf Xc).2.2.2 Q X k28 k36 l1 l2 R l3 h) : zw_G Xc kc ks 4 h 8 [(1, .int l1), (2, va_rf l2), (3, .int l3)] [] := by
  unfold f_X1_bodyAt_B8 at hE
  refine zg_iload_n ok dX1_bodyAt_8 rfl 2 rfl ?_
  refine zg_aload_n ok dX1_bodyAt_9 rfl 1 rfl ?_
  refine zg_callV (vs := []) (rest := [.int l3]) (rm := rm_X4_size) ok hRm lk_X1_80 dX1_bodyAt_10 hE (fun hE => mt_X4_size hl hE) rfl (Nat.le_of_ble_eq_true rfl) ⟨⟨Nat.le_of_ble_eq_true rfl, Nat.le_of_ble_eq_true rfl⟩, (by show kc + 0 ≤ 2; omega), (by show ks + 0 ≤ 12; omega)⟩ (zg_retI (fun v2 h2 hE => ?_)) (zg_xok ok tab fin ⟨(by show kc + 0 ≤ 2; omega), (by show ks + 0 ≤ 12; omega)⟩)
  refine zg_cost (kc2 := kc) (ks2 := ks) ⟨(by show kc + 0 = kc; omega), (by show ks + 0 = ks; omega)⟩ ?_
  refine zg_icmp_ge (tgt := 36) ok dX1_bodyAt_13 (by decide) hE (fun hE => ?_) (fun hE => ?_)
  · refine zg_sub (L' := []) [] rfl ?_
    exact hk36 _ hE
  · refine zg_aload_n ok dX1_bodyAt_16 rfl 1 rfl ?_
    refine zg_iload_n ok dX1_bodyAt_17 rfl 2 rfl ?_
    refine zg_callV (vs := [zI l3]) (rest := []) (rm := rm_X4_at) ok hRm lk_X1_88 dX1_bodyAt_18 hE (fun hE => mt_X4_at hl hE) rfl (Nat.le_of_ble_eq_true rfl) ⟨⟨Nat.le_of_ble_eq_true rfl, Nat.le_of_ble_eq_true rfl⟩, (by show kc + 0 ≤ 2; omega), (by show ks + 0 ≤ 12; omega)⟩ (zg_retA (fun v3 h3 hE => ?_)) (zg_xok ok tab fin ⟨(by show kc + 0 ≤ 2; omega), (by show ks + 0 ≤ 12; omega)⟩)
    refine zg_cost (kc2 := kc) (ks2 := ks) ⟨(by show kc + 0 = kc; omega), (by show ks + 0 = ks; omega)⟩ ?_
    refine zg_getI ok lf_X1_139 dX1_bodyAt_21 hE (fun v4 hE => ?_)
    refine zg_iload_n ok dX1_bodyAt_24 rfl 0 rfl ?_
    refine zg_icmp_ne (tgt := 30) ok dX1_bodyAt_25 (by decide) hE (fun hE => ?_) (fun hE => ?_)
    · refine zg_iincLR (k := 2) (L' := fun v5 => [(3, .int v5), (1, .int l1), (2, va_rf l2)]) ok dX1_bodyAt_30 (by decide +kernel) hE rfl (by decide) rfl (k9 := 1) rfl (fun _ => rfl) (fun v5 hE => ?_)
      refine zg_goto (tgt := 8) ok dX1_bodyAt_33 (by decide) ?_
      refine zg_sub (L' := [(1, .int l1), (2, va_rf l2), (3, .int v5)]) [1, 2, 0] rfl ?_
      exact hR _ _ hE
    · refine zg_sub (L' := [(3, .int l3)]) [2] rfl ?_
      exact hk28 _ _ hE
theorem gt_f_X1_bodyAt_L8 {Xc : zw_X} {Q : Int32 → zw_H → Prop} {X : String → Nat → zw_H → Prop} (hl : (zw_l Xc).stackTraces = false) (ok : zw_ok Xc cX1_bodyAt "MultipoleLine" yX1_bodyAt.name 4) (tab : zw_tab Xc []) (fin : zw_fin Xc (Option.some Jvm.ClassFile.FieldType.int) (zq_I Q) X 2 12) (hRm : zw_rm Xc = rm_X1_bodyAt) {kc ks : Nat} (hb : kc ≤ 2 ∧ ks ≤ 12) {l1 : Int32} {l2 : Option Nat} {k28 : Int32 → zw_H → Prop} (hk28 : ∀ (l3 : Int32) (h : zw_H), k28 l3 h → zw_G Xc kc ks 4 h 28 [(3, .int l3)] []) {k36 : zw_H → Prop} (hk36 : ∀  (h : zw_H), k36  h → zw_G Xc kc ks 4 h 36 [] [])  : ∀ (n9 : Nat) (l3 : Int32) (h : zw_H), zl2 (f_X1_bodyAt_B8 (zw_Zf Xc).2.2.2 Q X k28 k36 l1 l2) n9 l3 h → zw_G Xc kc ks 4 h 8 [(1, .int l1), (2, va_rf l2), (3, .int l3)] [] := by
  intro n9
  induction n9 with
  | zero => intro l3 h hE; exact hE.elim
  | succ n9 ih => intro l3 h hE; exact gt_f_X1_bodyAt_B8 hl ok tab fin hRm hb ih hk28 hk36 hE
set_option maxHeartbeats 8000000 in
theorem mt_X1_bodyAt {l : Launch} (hl : l.stackTraces = false) {Z : zw_Z} {a0 : Option Nat} {a1 : Int32} {h : zw_H} {Q : Int32 → zw_H → Prop} {X : String → Nat → zw_H → Prop} (hE : f_X1_bodyAt Z.2.2.2 a0 a1 h Q X) : zw_Met l Z yX1_bodyAt (ws_ yX1_bodyAt cX1_bodyAt 4 (Option.some Jvm.ClassFile.FieldType.int)) rm_X1_bodyAt [zA a0, zI a1] h (zq_I Q) X := by
  refine zg_start (own := "MultipoleLine") (by decide +kernel) rfl (Nat.le_of_ble_eq_true rfl) hl (fun Xc ok tab fin hRm hXl hXZ => ?_)
  subst hXl
  subst hXZ
  unfold f_X1_bodyAt at hE
  refine zg_aload_n ok dX1_bodyAt_0 rfl 0 rfl ?_
  refine zg_iload_n ok dX1_bodyAt_1 rfl 1 rfl ?_
  refine zg_callV (vs := [zI a1]) (rest := []) (rm := rm_X1_at) ok hRm lk_X1_193 dX1_bodyAt_2 hE (fun hE => mt_X1_at hl hE) rfl (Nat.le_of_ble_eq_true rfl) ⟨⟨Nat.le_of_ble_eq_true rfl, Nat.le_of_ble_eq_true rfl⟩, Nat.le_of_ble_eq_true rfl, Nat.le_of_ble_eq_true rfl⟩ (zg_retA (fun v1 h1 hE => ?_)) (zg_xok ok tab fin ⟨Nat.le_of_ble_eq_true rfl, Nat.le_of_ble_eq_true rfl⟩)
  refine zg_cost (kc2 := 2) (ks2 := 12) ⟨rfl, rfl⟩ ?_
  refine zg_astore_n (L' := [(2, va_rf v1), (0, va_rf a0), (1, .int a1)]) ok dX1_bodyAt_5 rfl (by decide) rfl ?_
  refine zg_iconst (v := 0) ok dX1_bodyAt_6 (by decide) ?_
  refine zg_istore_nR (L' := [(3, .int 0), (2, va_rf v1), (0, va_rf a0), (1, .int a1)]) ok dX1_bodyAt_7 rfl (by decide) 0 rfl rfl rfl ?_
  refine zg_sub (L' := [(1, .int a1), (2, va_rf v1), (3, .int 0)]) [3, 1, 0] rfl ?_
  refine gt_f_X1_bodyAt_L8 hl ok tab fin hRm ⟨Nat.le_of_ble_eq_true rfl, Nat.le_of_ble_eq_true rfl⟩ ?_ ?_ _ _ _ hE
  · intro v6 h4 hE
    refine zg_iload_n ok dX1_bodyAt_28 rfl 0 rfl ?_
    exact zg_iret ok fin dX1_bodyAt_29 ⟨Nat.le_of_ble_eq_true rfl, Nat.le_of_ble_eq_true rfl⟩ hE
  · intro h5 hE
    refine zg_iconst (v := (-1)) ok dX1_bodyAt_36 (by decide) ?_
    exact zg_iret ok fin dX1_bodyAt_37 ⟨Nat.le_of_ble_eq_true rfl, Nat.le_of_ble_eq_true rfl⟩ hE
set_option maxHeartbeats 8000000 in
theorem mt_X4_box {l : Launch} (hl : l.stackTraces = false) {Z : zw_Z} {a0 : Option Nat} {a1 : Int32} {a2 : Int32} {h : zw_H} {Q : Option Nat → zw_H → Prop} {X : String → Nat → zw_H → Prop} (hE : f_X4_box Z.2.2.2 a0 a1 a2 h Q X) : zw_Met l Z yX4_box (ws_ yX4_box cX4_box 3 (Option.some (Jvm.ClassFile.FieldType.object "MultipoleLine$Box"))) rm_X4_box [zA a0, zI a1, zI a2] h (zq_A Q) X := by
  refine zg_start (own := "MultipoleLine$Line") (by decide +kernel) rfl (Nat.le_of_ble_eq_true rfl) hl (fun Xc ok tab fin hRm hXl hXZ => ?_)
  subst hXl
  subst hXZ
  unfold f_X4_box at hE
  refine zg_aload_n ok dX4_box_0 rfl 0 rfl ?_
  refine zg_getA ok lf_X4_20 dX4_box_1 hE (fun v1 hE => ?_)
  refine zg_iload_n ok dX4_box_4 rfl 1 rfl ?_
  refine zg_aaldBB ok dX4_box_5 hE (fun v2 hE => ?_)
  refine zg_iload_n ok dX4_box_6 rfl 2 rfl ?_
  refine zg_aaldB ok dX4_box_7 hE (fun v3 hE => ?_)
  exact zg_aret ok fin (Or.inl ⟨_, rfl⟩) dX4_box_8 ⟨Nat.le_of_ble_eq_true rfl, Nat.le_of_ble_eq_true rfl⟩ hE
set_option maxHeartbeats 8000000 in
theorem mt_X1_boxOf {l : Launch} (hl : l.stackTraces = false) {Z : zw_Z} {a0 : Option Nat} {a1 : Int32} {a2 : Int32} {h : zw_H} {Q : Option Nat → zw_H → Prop} {X : String → Nat → zw_H → Prop} (hE : f_X1_boxOf Z.2.2.2 a0 a1 a2 h Q X) : zw_Met l Z yX1_boxOf (ws_ yX1_boxOf cX1_boxOf 3 (Option.some (Jvm.ClassFile.FieldType.object "MultipoleLine$Box"))) rm_X1_boxOf [zA a0, zI a1, zI a2] h (zq_A Q) X := by
  refine zg_start (own := "MultipoleLine") (by decide +kernel) rfl (Nat.le_of_ble_eq_true rfl) hl (fun Xc ok tab fin hRm hXl hXZ => ?_)
  subst hXl
  subst hXZ
  unfold f_X1_boxOf at hE
  refine zg_iload_n ok dX1_boxOf_0 rfl 1 rfl ?_
  refine zg_aload_n ok dX1_boxOf_1 rfl 0 rfl ?_
  refine zg_callV (vs := []) (rest := [.int a1]) (rm := rm_X1_loaded) ok hRm lk_X1_76 dX1_boxOf_2 hE (fun hE => mt_X1_loaded hl hE) rfl (Nat.le_of_ble_eq_true rfl) ⟨⟨Nat.le_of_ble_eq_true rfl, Nat.le_of_ble_eq_true rfl⟩, Nat.le_of_ble_eq_true rfl, Nat.le_of_ble_eq_true rfl⟩ (zg_retA (fun v1 h1 hE => ?_)) (zg_xok ok tab fin ⟨Nat.le_of_ble_eq_true rfl, Nat.le_of_ble_eq_true rfl⟩)
  refine zg_cost (kc2 := 1) (ks2 := 6) ⟨rfl, rfl⟩ ?_
  refine zg_getI ok lf_X1_101 dX1_boxOf_5 hE (fun v2 hE => ?_)
  refine zg_iconst (v := 1) ok dX1_boxOf_8 (by decide) ?_
  refine zg_iadd ok dX1_boxOf_9 ?_
  refine zg_callS (vs := [zI a1, zI (v2 + 1)]) (rest := []) (rm := rm_X1_checkIndex) ok hRm lk_X1_84 dX1_boxOf_10 hE (fun hE => mt_X1_checkIndex hl hE) rfl (Nat.le_of_ble_eq_true rfl) ⟨⟨Nat.le_of_ble_eq_true rfl, Nat.le_of_ble_eq_true rfl⟩, Nat.le_of_ble_eq_true rfl, Nat.le_of_ble_eq_true rfl⟩ (zg_retV (fun h2 hE => ?_)) (zg_xok ok tab fin ⟨Nat.le_of_ble_eq_true rfl, Nat.le_of_ble_eq_true rfl⟩)
  refine zg_cost (kc2 := 2) (ks2 := 12) ⟨rfl, rfl⟩ ?_
  refine zg_iload_n ok dX1_boxOf_13 rfl 2 rfl ?_
  refine zg_iconst (v := 1) ok dX1_boxOf_14 (by decide) ?_
  refine zg_iload_n ok dX1_boxOf_15 rfl 1 rfl ?_
  refine zg_ishl ok dX1_boxOf_16 ?_
  refine zg_callS (vs := [zI a2, zI ((1 : Int32) <<< (a1 &&& 31))]) (rest := []) (rm := rm_X1_checkIndex) ok hRm lk_X1_84 dX1_boxOf_17 hE (fun hE => mt_X1_checkIndex hl hE) rfl (Nat.le_of_ble_eq_true rfl) ⟨⟨Nat.le_of_ble_eq_true rfl, Nat.le_of_ble_eq_true rfl⟩, Nat.le_of_ble_eq_true rfl, Nat.le_of_ble_eq_true rfl⟩ (zg_retV (fun h3 hE => ?_)) (zg_xok ok tab fin ⟨Nat.le_of_ble_eq_true rfl, Nat.le_of_ble_eq_true rfl⟩)
  refine zg_cost (kc2 := 3) (ks2 := 18) ⟨rfl, rfl⟩ ?_
  refine zg_aload_n ok dX1_boxOf_20 rfl 0 rfl ?_
  refine zg_getA ok lf_X1_68 dX1_boxOf_21 hE (fun v3 hE => ?_)
  refine zg_iload_n ok dX1_boxOf_24 rfl 1 rfl ?_
  refine zg_iload_n ok dX1_boxOf_25 rfl 2 rfl ?_
  refine zg_callV (vs := [zI a1, zI a2]) (rest := []) (rm := rm_X4_box) ok hRm lk_X1_104 dX1_boxOf_26 hE (fun hE => mt_X4_box hl hE) rfl (Nat.le_of_ble_eq_true rfl) ⟨⟨Nat.le_of_ble_eq_true rfl, Nat.le_of_ble_eq_true rfl⟩, Nat.le_of_ble_eq_true rfl, Nat.le_of_ble_eq_true rfl⟩ (zg_retA (fun v4 h4 hE => ?_)) (zg_xok ok tab fin ⟨Nat.le_of_ble_eq_true rfl, Nat.le_of_ble_eq_true rfl⟩)
  refine zg_cost (kc2 := 3) (ks2 := 18) ⟨rfl, rfl⟩ ?_
  exact zg_aret ok fin (Or.inl ⟨_, rfl⟩) dX1_boxOf_29 ⟨Nat.le_of_ble_eq_true rfl, Nat.le_of_ble_eq_true rfl⟩ hE
set_option maxHeartbeats 8000000 in
theorem mt_X5_first {l : Launch} (hl : l.stackTraces = false) {Z : zw_Z} {a0 : Option Nat} {h : zw_H} {Q : Int32 → zw_H → Prop} {X : String → Nat → zw_H → Prop} (hE : f_X5_first Z.2.2.2 a0 h Q X) : zw_Met l Z yX5_first (ws_ yX5_first cX5_first 1 (Option.some Jvm.ClassFile.FieldType.int)) rm_X5_first [zA a0] h (zq_I Q) X := by
  refine zg_start (own := "MultipoleLine$Box") (by decide +kernel) rfl (Nat.le_of_ble_eq_true rfl) hl (fun Xc ok tab fin hRm hXl hXZ => ?_)
  subst hXl
  subst hXZ
  unfold f_X5_first at hE
  refine zg_aload_n ok dX5_first_0 rfl 0 rfl ?_
  refine zg_getI ok lf_X5_15 dX5_first_1 hE (fun v1 hE => ?_)
  refine zg_aload_n ok dX5_first_4 rfl 0 rfl ?_
  refine zg_getI ok lf_X5_18 dX5_first_5 hE (fun v2 hE => ?_)
  refine zg_imul ok dX5_first_8 ?_
  exact zg_iret ok fin dX5_first_9 ⟨Nat.le_of_ble_eq_true rfl, Nat.le_of_ble_eq_true rfl⟩ hE
set_option maxHeartbeats 8000000 in
theorem mt_X5_has {l : Launch} (hl : l.stackTraces = false) {Z : zw_Z} {a0 : Option Nat} {a1 : Int32} {h : zw_H} {Q : Int32 → zw_H → Prop} {X : String → Nat → zw_H → Prop} (hE : f_X5_has Z.2.2.2 a0 a1 h Q X) : zw_Met l Z yX5_has (ws_ yX5_has cX5_has 2 (Option.some Jvm.ClassFile.FieldType.boolean)) rm_X5_has [zA a0, zI a1] h (zq_I Q) X := by
  refine zg_start (own := "MultipoleLine$Box") (by decide +kernel) rfl (Nat.le_of_ble_eq_true rfl) hl (fun Xc ok tab fin hRm hXl hXZ => ?_)
  subst hXl
  subst hXZ
  unfold f_X5_has at hE
  refine zg_iload_n ok dX5_has_0 rfl 1 rfl ?_
  refine zg_aload_n ok dX5_has_1 rfl 0 rfl ?_
  refine zg_getI ok lf_X5_18 dX5_has_2 hE (fun v1 hE => ?_)
  refine zg_idivE ok dX5_has_5 hE (fun hE => ?_)
  refine zg_aload_n ok dX5_has_6 rfl 0 rfl ?_
  refine zg_getI ok lf_X5_15 dX5_has_7 hE (fun v2 hE => ?_)
  refine zg_icmp_ne (tgt := 17) ok dX5_has_10 (by decide) hE (fun hE => ?_) (fun hE => ?_)
  · refine zg_iconst (v := 0) ok dX5_has_17 (by decide) ?_
    exact zg_zret ok fin dX5_has_18 ⟨Nat.le_of_ble_eq_true rfl, Nat.le_of_ble_eq_true rfl⟩ rfl hE
  · refine zg_iconst (v := 1) ok dX5_has_13 (by decide) ?_
    refine zg_goto (tgt := 18) ok dX5_has_14 (by decide) ?_
    exact zg_zret ok fin dX5_has_18 ⟨Nat.le_of_ble_eq_true rfl, Nat.le_of_ble_eq_true rfl⟩ rfl hE
set_option maxHeartbeats 8000000 in
theorem gt_f_X4_bodiesIn_B4 {Xc : zw_X} {Q : Int32 → zw_H → Prop} {X : String → Nat → zw_H → Prop} (hl : (zw_l Xc).stackTraces = false) (ok : zw_ok Xc cX4_bodiesIn "MultipoleLine$Line" yX4_bodiesIn.name 4) (tab : zw_tab Xc []) (fin : zw_fin Xc (Option.some Jvm.ClassFile.FieldType.int) (zq_I Q) X 0 0) (hRm : zw_rm Xc = rm_X4_bodiesIn) {kc ks : Nat} (hb : kc ≤ 0 ∧ ks ≤ 0) {R : Int32 → Int32 → zw_H → Prop} {l0 : Option Nat} {l1 : Option Nat} (hR : ∀ (l2 : Int32) (l3 : Int32) (h : zw_H), R l2 l3 h → zw_G Xc kc ks 4 h 4 [(0, va_rf l0), (1, va_rf l1), (2, .int l2), (3, .int l3)] []) {k36 : Int32 → zw_H → Prop} (hk36 : ∀ (l2 : Int32) (h : zw_H), k36 l2 h → zw_G Xc kc ks 4 h 36 [(2, .int l2)] [])  {l2 : Int32} {l3 : Int32} {h : zw_H} (hE : f_X4_bodiesIn_B4 (zw_Zf Xc).2.2.2 Q X k36 l0 l1 R l2 l3 h) : zw_G Xc kc ks 4 h 4 [(0, va_rf l0), (1, va_rf l1), (2, .int l2), (3, .int l3)] [] := by
  unfold f_X4_bodiesIn_B4 at hE
  refine zg_iload_n ok dX4_bodiesIn_4 rfl 3 rfl ?_
  refine zg_aload_n ok dX4_bodiesIn_5 rfl 0 rfl ?_
  refine zg_callV (vs := []) (rest := [.int l3]) (rm := rm_X4_size) ok hRm lk_X4_37 dX4_bodiesIn_6 hE (fun hE => mt_X4_size hl hE) rfl (Nat.le_of_ble_eq_true rfl) ⟨⟨Nat.le_of_ble_eq_true rfl, Nat.le_of_ble_eq_true rfl⟩, (by show kc + 0 ≤ 0; omega), (by show ks + 0 ≤ 0; omega)⟩ (zg_retI (fun v1 h1 hE => ?_)) (zg_xok ok tab fin ⟨(by show kc + 0 ≤ 0; omega), (by show ks + 0 ≤ 0; omega)⟩)
  refine zg_cost (kc2 := kc) (ks2 := ks) ⟨(by show kc + 0 = kc; omega), (by show ks + 0 = ks; omega)⟩ ?_
  refine zg_icmp_ge (tgt := 36) ok dX4_bodiesIn_9 (by decide) hE (fun hE => ?_) (fun hE => ?_)
  · refine zg_sub (L' := [(2, .int l2)]) [2] rfl ?_
    exact hk36 _ _ hE
  · refine zg_iload_n ok dX4_bodiesIn_12 rfl 2 rfl ?_
    refine zg_aload_n ok dX4_bodiesIn_13 rfl 1 rfl ?_
    refine zg_aload_n ok dX4_bodiesIn_14 rfl 0 rfl ?_
    refine zg_iload_n ok dX4_bodiesIn_15 rfl 3 rfl ?_
    refine zg_callV (vs := [zI l3]) (rest := [va_rf l1, .int l2]) (rm := rm_X4_at) ok hRm lk_X4_41 dX4_bodiesIn_16 hE (fun hE => mt_X4_at hl hE) rfl (Nat.le_of_ble_eq_true rfl) ⟨⟨Nat.le_of_ble_eq_true rfl, Nat.le_of_ble_eq_true rfl⟩, (by show kc + 0 ≤ 0; omega), (by show ks + 0 ≤ 0; omega)⟩ (zg_retA (fun v2 h2 hE => ?_)) (zg_xok ok tab fin ⟨(by show kc + 0 ≤ 0; omega), (by show ks + 0 ≤ 0; omega)⟩)
    refine zg_cost (kc2 := kc) (ks2 := ks) ⟨(by show kc + 0 = kc; omega), (by show ks + 0 = ks; omega)⟩ ?_
    refine zg_getI ok lf_X4_86 dX4_bodiesIn_19 hE (fun v3 hE => ?_)
    refine zg_callV (vs := [zI v3]) (rest := [.int l2]) (rm := rm_X5_has) ok hRm lk_X4_102 dX4_bodiesIn_22 hE (fun hE => mt_X5_has hl hE) rfl (Nat.le_of_ble_eq_true rfl) ⟨⟨Nat.le_of_ble_eq_true rfl, Nat.le_of_ble_eq_true rfl⟩, (by show kc + 0 ≤ 0; omega), (by show ks + 0 ≤ 0; omega)⟩ (zg_retI (fun v4 h3 hE => ?_)) (zg_xok ok tab fin ⟨(by show kc + 0 ≤ 0; omega), (by show ks + 0 ≤ 0; omega)⟩)
    refine zg_cost (kc2 := kc) (ks2 := ks) ⟨(by show kc + 0 = kc; omega), (by show ks + 0 = ks; omega)⟩ ?_
    refine zg_callSN (vs := [zI v4]) (rest := [.int l2]) (rm := rm_X1_flag) ok hRm lk_X4_82 dX4_bodiesIn_25 hE (fun hE => mt_X1_flag hl hE) rfl (Nat.le_of_ble_eq_true rfl) ⟨⟨Nat.le_of_ble_eq_true rfl, Nat.le_of_ble_eq_true rfl⟩, (by show kc + 0 ≤ 0; omega), (by show ks + 0 ≤ 0; omega)⟩ (zg_retI (fun v5 h4 hE => ?_)) (zg_xok ok tab fin ⟨(by show kc + 0 ≤ 0; omega), (by show ks + 0 ≤ 0; omega)⟩)
    refine zg_cost (kc2 := kc) (ks2 := ks) ⟨(by show kc + 0 = kc; omega), (by show ks + 0 = ks; omega)⟩ ?_
    refine zg_iadd ok dX4_bodiesIn_28 ?_
    refine zg_letI hE (fun v6 hE => ?_)
    refine zg_istore_nR (L' := [(2, .int v6), (0, va_rf l0), (1, va_rf l1), (3, .int l3)]) ok dX4_bodiesIn_29 rfl (by decide) 1 rfl rfl rfl ?_
    refine zg_iincL (k := 3) (L' := fun v7 => [(3, .int v7), (2, .int v6), (0, va_rf l0), (1, va_rf l1)]) ok dX4_bodiesIn_30 (by decide +kernel) hE rfl (by decide) (fun _ => rfl) (fun v7 hE => ?_)
    refine zg_goto (tgt := 4) ok dX4_bodiesIn_33 (by decide) ?_
    refine zg_sub (L' := [(0, va_rf l0), (1, va_rf l1), (2, .int v6), (3, .int v7)]) [2, 3, 1, 0] rfl ?_
    exact hR _ _ _ hE
theorem gt_f_X4_bodiesIn_L4 {Xc : zw_X} {Q : Int32 → zw_H → Prop} {X : String → Nat → zw_H → Prop} (hl : (zw_l Xc).stackTraces = false) (ok : zw_ok Xc cX4_bodiesIn "MultipoleLine$Line" yX4_bodiesIn.name 4) (tab : zw_tab Xc []) (fin : zw_fin Xc (Option.some Jvm.ClassFile.FieldType.int) (zq_I Q) X 0 0) (hRm : zw_rm Xc = rm_X4_bodiesIn) {kc ks : Nat} (hb : kc ≤ 0 ∧ ks ≤ 0) {l0 : Option Nat} {l1 : Option Nat} {k36 : Int32 → zw_H → Prop} (hk36 : ∀ (l2 : Int32) (h : zw_H), k36 l2 h → zw_G Xc kc ks 4 h 36 [(2, .int l2)] [])  : ∀ (n9 : Nat) (l2 : Int32) (l3 : Int32) (h : zw_H), zl3 (f_X4_bodiesIn_B4 (zw_Zf Xc).2.2.2 Q X k36 l0 l1) n9 l2 l3 h → zw_G Xc kc ks 4 h 4 [(0, va_rf l0), (1, va_rf l1), (2, .int l2), (3, .int l3)] [] := by
  intro n9
  induction n9 with
  | zero => intro l2 l3 h hE; exact hE.elim
  | succ n9 ih => intro l2 l3 h hE; exact gt_f_X4_bodiesIn_B4 hl ok tab fin hRm hb ih hk36 hE
set_option maxHeartbeats 8000000 in
theorem mt_X4_bodiesIn {l : Launch} (hl : l.stackTraces = false) {Z : zw_Z} {a0 : Option Nat} {a1 : Option Nat} {h : zw_H} {Q : Int32 → zw_H → Prop} {X : String → Nat → zw_H → Prop} (hE : f_X4_bodiesIn Z.2.2.2 a0 a1 h Q X) : zw_Met l Z yX4_bodiesIn (ws_ yX4_bodiesIn cX4_bodiesIn 4 (Option.some Jvm.ClassFile.FieldType.int)) rm_X4_bodiesIn [zA a0, zA a1] h (zq_I Q) X := by
  refine zg_start (own := "MultipoleLine$Line") (by decide +kernel) rfl (Nat.le_of_ble_eq_true rfl) hl (fun Xc ok tab fin hRm hXl hXZ => ?_)
  subst hXl
  subst hXZ
  unfold f_X4_bodiesIn at hE
  refine zg_iconst (v := 0) ok dX4_bodiesIn_0 (by decide) ?_
  refine zg_istore_nR (L' := [(2, .int 0), (0, va_rf a0), (1, va_rf a1)]) ok dX4_bodiesIn_1 rfl (by decide) 1 rfl rfl rfl ?_
  refine zg_iconst (v := 0) ok dX4_bodiesIn_2 (by decide) ?_
  refine zg_istore_n (L' := [(3, .int 0), (2, .int 0), (0, va_rf a0), (1, va_rf a1)]) ok dX4_bodiesIn_3 rfl (by decide) rfl ?_
  refine zg_sub (L' := [(0, va_rf a0), (1, va_rf a1), (2, .int 0), (3, .int 0)]) [2, 3, 1, 0] rfl ?_
  refine gt_f_X4_bodiesIn_L4 hl ok tab fin hRm ⟨Nat.le_of_ble_eq_true rfl, Nat.le_of_ble_eq_true rfl⟩ ?_ _ _ _ _ hE
  · intro v8 h5 hE
    refine zg_iload_n ok dX4_bodiesIn_36 rfl 0 rfl ?_
    exact zg_iret ok fin dX4_bodiesIn_37 ⟨Nat.le_of_ble_eq_true rfl, Nat.le_of_ble_eq_true rfl⟩ hE
set_option maxHeartbeats 8000000 in
theorem gt_f_X4_raised_B5 {Xc : zw_X} {Q : Int64 → zw_H → Prop} {X : String → Nat → zw_H → Prop} (hl : (zw_l Xc).stackTraces = false) (ok : zw_ok Xc cX4_raised "MultipoleLine$Line" yX4_raised.name 6) (tab : zw_tab Xc []) (fin : zw_fin Xc (Option.some Jvm.ClassFile.FieldType.long) (zq_J Q) X 0 0) (hRm : zw_rm Xc = rm_X4_raised) {kc ks : Nat} (hb : kc ≤ 0 ∧ ks ≤ 0) {R : Int64 → Int32 → zw_H → Prop} {l0 : Int64} {l2 : Int32} (hR : ∀ (l3 : Int64) (l5 : Int32) (h : zw_H), R l3 l5 h → zw_G Xc kc ks 6 h 5 [(0, .long l0), (2, .int l2), (3, .long l3), (5, .int l5)] []) {k21 : Int64 → zw_H → Prop} (hk21 : ∀ (l3 : Int64) (h : zw_H), k21 l3 h → zw_G Xc kc ks 6 h 21 [(3, .long l3)] [])  {l3 : Int64} {l5 : Int32} {h : zw_H} (hE : f_X4_raised_B5 (zw_Zf Xc).2.2.2 Q X k21 l0 l2 R l3 l5 h) : zw_G Xc kc ks 6 h 5 [(0, .long l0), (2, .int l2), (3, .long l3), (5, .int l5)] [] := by
  unfold f_X4_raised_B5 at hE
  refine zg_iload ok dX4_raised_5 3 rfl ?_
  refine zg_iload_n ok dX4_raised_7 rfl 1 rfl ?_
  refine zg_icmp_ge (tgt := 21) ok dX4_raised_8 (by decide) hE (fun hE => ?_) (fun hE => ?_)
  · refine zg_sub (L' := [(3, .long l3)]) [2] rfl ?_
    exact hk21 _ _ hE
  · refine zg_lload_n ok dX4_raised_11 rfl 2 rfl ?_
    refine zg_lload_n ok dX4_raised_12 rfl 0 rfl ?_
    refine zg_lmul ok dX4_raised_13 ?_
    refine zg_letJ hE (fun v1 hE => ?_)
    refine zg_lstore_n (L' := [(3, .long v1), (0, .long l0), (2, .int l2), (5, .int l5)]) ok dX4_raised_14 rfl (by decide) rfl ?_
    refine zg_iincL (k := 3) (L' := fun v2 => [(5, .int v2), (3, .long v1), (0, .long l0), (2, .int l2)]) ok dX4_raised_15 (by decide +kernel) hE rfl (by decide) (fun _ => rfl) (fun v2 hE => ?_)
    refine zg_goto (tgt := 5) ok dX4_raised_18 (by decide) ?_
    refine zg_sub (L' := [(0, .long l0), (2, .int l2), (3, .long v1), (5, .int v2)]) [2, 3, 1, 0] rfl ?_
    exact hR _ _ _ hE
theorem gt_f_X4_raised_L5 {Xc : zw_X} {Q : Int64 → zw_H → Prop} {X : String → Nat → zw_H → Prop} (hl : (zw_l Xc).stackTraces = false) (ok : zw_ok Xc cX4_raised "MultipoleLine$Line" yX4_raised.name 6) (tab : zw_tab Xc []) (fin : zw_fin Xc (Option.some Jvm.ClassFile.FieldType.long) (zq_J Q) X 0 0) (hRm : zw_rm Xc = rm_X4_raised) {kc ks : Nat} (hb : kc ≤ 0 ∧ ks ≤ 0) {l0 : Int64} {l2 : Int32} {k21 : Int64 → zw_H → Prop} (hk21 : ∀ (l3 : Int64) (h : zw_H), k21 l3 h → zw_G Xc kc ks 6 h 21 [(3, .long l3)] [])  : ∀ (n9 : Nat) (l3 : Int64) (l5 : Int32) (h : zw_H), zl3 (f_X4_raised_B5 (zw_Zf Xc).2.2.2 Q X k21 l0 l2) n9 l3 l5 h → zw_G Xc kc ks 6 h 5 [(0, .long l0), (2, .int l2), (3, .long l3), (5, .int l5)] [] := by
  intro n9
  induction n9 with
  | zero => intro l3 l5 h hE; exact hE.elim
  | succ n9 ih => intro l3 l5 h hE; exact gt_f_X4_raised_B5 hl ok tab fin hRm hb ih hk21 hE
set_option maxHeartbeats 8000000 in
theorem mt_X4_raised {l : Launch} (hl : l.stackTraces = false) {Z : zw_Z} {a0 : Int64} {a1 : Int32} {h : zw_H} {Q : Int64 → zw_H → Prop} {X : String → Nat → zw_H → Prop} (hE : f_X4_raised Z.2.2.2 a0 a1 h Q X) : zw_Met l Z yX4_raised (ws_ yX4_raised cX4_raised 6 (Option.some Jvm.ClassFile.FieldType.long)) rm_X4_raised [zJ a0, zI a1] h (zq_J Q) X := by
  refine zg_start (own := "MultipoleLine$Line") (by decide +kernel) rfl (Nat.le_of_ble_eq_true rfl) hl (fun Xc ok tab fin hRm hXl hXZ => ?_)
  subst hXl
  subst hXZ
  unfold f_X4_raised at hE
  refine zg_lconst (v := 1) ok dX4_raised_0 (by decide) ?_
  refine zg_lstore_n (L' := [(3, .long 1), (0, .long a0), (2, .int a1)]) ok dX4_raised_1 rfl (by decide) rfl ?_
  refine zg_iconst (v := 0) ok dX4_raised_2 (by decide) ?_
  refine zg_istore (L' := [(5, .int 0), (3, .long 1), (0, .long a0), (2, .int a1)]) ok dX4_raised_3 (by decide) rfl ?_
  refine zg_sub (L' := [(0, .long a0), (2, .int a1), (3, .long 1), (5, .int 0)]) [2, 3, 1, 0] rfl ?_
  refine gt_f_X4_raised_L5 hl ok tab fin hRm ⟨Nat.le_of_ble_eq_true rfl, Nat.le_of_ble_eq_true rfl⟩ ?_ _ _ _ _ hE
  · intro v3 h1 hE
    refine zg_lload_n ok dX4_raised_21 rfl 0 rfl ?_
    exact zg_lret ok fin dX4_raised_22 ⟨Nat.le_of_ble_eq_true rfl, Nat.le_of_ble_eq_true rfl⟩ hE
set_option maxHeartbeats 8000000 in
theorem gt_f_X4_moment_J59 {Xc : zw_X} {Q : Int64 → zw_H → Prop} {X : String → Nat → zw_H → Prop} (hl : (zw_l Xc).stackTraces = false) (ok : zw_ok Xc cX4_moment "MultipoleLine$Line" yX4_moment.name 7) (tab : zw_tab Xc []) (fin : zw_fin Xc (Option.some Jvm.ClassFile.FieldType.long) (zq_J Q) X 0 0) (hRm : zw_rm Xc = rm_X4_moment) {kc ks : Nat} (hb : kc ≤ 0 ∧ ks ≤ 0) {R : Int64 → Int32 → zw_H → Prop} {l0 : Option Nat} {l1 : Option Nat} {l2 : Int32} (hR : ∀ (l3 : Int64) (l5 : Int32) (h : zw_H), R l3 l5 h → zw_G Xc kc ks 7 h 5 [(0, va_rf l0), (1, va_rf l1), (2, .int l2), (3, .long l3), (5, .int l5)] []) {k65 : Int64 → zw_H → Prop} (hk65 : ∀ (l3 : Int64) (h : zw_H), k65 l3 h → zw_G Xc kc ks 7 h 65 [(3, .long l3)] [])  {l3 : Int64} {l5 : Int32}  {h : zw_H} (hE : f_X4_moment_J59 (zw_Zf Xc).2.2.2 Q X R k65 l0 l1 l2 l3 l5 h) : zw_G Xc kc ks 7 h 59 [(0, va_rf l0), (1, va_rf l1), (2, .int l2), (3, .long l3), (5, .int l5)] [] := by
  unfold f_X4_moment_J59 at hE
  refine zg_iincL (k := 4) (L' := fun v5 => [(5, .int v5), (0, va_rf l0), (1, va_rf l1), (2, .int l2), (3, .long l3)]) ok dX4_moment_59 (by decide +kernel) hE rfl (by decide) (fun _ => rfl) (fun v5 hE => ?_)
  refine zg_goto (tgt := 5) ok dX4_moment_62 (by decide) ?_
  refine zg_sub (L' := [(0, va_rf l0), (1, va_rf l1), (2, .int l2), (3, .long l3), (5, .int v5)]) [1, 2, 3, 4, 0] rfl ?_
  exact hR _ _ _ hE
set_option maxHeartbeats 8000000 in
theorem gt_f_X4_moment_B5 {Xc : zw_X} {Q : Int64 → zw_H → Prop} {X : String → Nat → zw_H → Prop} (hl : (zw_l Xc).stackTraces = false) (ok : zw_ok Xc cX4_moment "MultipoleLine$Line" yX4_moment.name 7) (tab : zw_tab Xc []) (fin : zw_fin Xc (Option.some Jvm.ClassFile.FieldType.long) (zq_J Q) X 0 0) (hRm : zw_rm Xc = rm_X4_moment) {kc ks : Nat} (hb : kc ≤ 0 ∧ ks ≤ 0) {R : Int64 → Int32 → zw_H → Prop} {l0 : Option Nat} {l1 : Option Nat} {l2 : Int32} (hR : ∀ (l3 : Int64) (l5 : Int32) (h : zw_H), R l3 l5 h → zw_G Xc kc ks 7 h 5 [(0, va_rf l0), (1, va_rf l1), (2, .int l2), (3, .long l3), (5, .int l5)] []) {k65 : Int64 → zw_H → Prop} (hk65 : ∀ (l3 : Int64) (h : zw_H), k65 l3 h → zw_G Xc kc ks 7 h 65 [(3, .long l3)] [])  {l3 : Int64} {l5 : Int32} {h : zw_H} (hE : f_X4_moment_B5 (zw_Zf Xc).2.2.2 Q X k65 l0 l1 l2 R l3 l5 h) : zw_G Xc kc ks 7 h 5 [(0, va_rf l0), (1, va_rf l1), (2, .int l2), (3, .long l3), (5, .int l5)] [] := by
  unfold f_X4_moment_B5 at hE
  refine zg_iload ok dX4_moment_5 4 rfl ?_
  refine zg_aload_n ok dX4_moment_7 rfl 0 rfl ?_
  refine zg_callV (vs := []) (rest := [.int l5]) (rm := rm_X4_size) ok hRm lk_X4_37 dX4_moment_8 hE (fun hE => mt_X4_size hl hE) rfl (Nat.le_of_ble_eq_true rfl) ⟨⟨Nat.le_of_ble_eq_true rfl, Nat.le_of_ble_eq_true rfl⟩, (by show kc + 0 ≤ 0; omega), (by show ks + 0 ≤ 0; omega)⟩ (zg_retI (fun v1 h1 hE => ?_)) (zg_xok ok tab fin ⟨(by show kc + 0 ≤ 0; omega), (by show ks + 0 ≤ 0; omega)⟩)
  refine zg_cost (kc2 := kc) (ks2 := ks) ⟨(by show kc + 0 = kc; omega), (by show ks + 0 = ks; omega)⟩ ?_
  refine zg_icmp_ge (tgt := 65) ok dX4_moment_11 (by decide) hE (fun hE => ?_) (fun hE => ?_)
  · refine zg_sub (L' := [(3, .long l3)]) [3] rfl ?_
    exact hk65 _ _ hE
  · refine zg_aload_n ok dX4_moment_14 rfl 0 rfl ?_
    refine zg_iload ok dX4_moment_15 4 rfl ?_
    refine zg_callV (vs := [zI l5]) (rest := []) (rm := rm_X4_at) ok hRm lk_X4_41 dX4_moment_17 hE (fun hE => mt_X4_at hl hE) rfl (Nat.le_of_ble_eq_true rfl) ⟨⟨Nat.le_of_ble_eq_true rfl, Nat.le_of_ble_eq_true rfl⟩, (by show kc + 0 ≤ 0; omega), (by show ks + 0 ≤ 0; omega)⟩ (zg_retA (fun v2 h2 hE => ?_)) (zg_xok ok tab fin ⟨(by show kc + 0 ≤ 0; omega), (by show ks + 0 ≤ 0; omega)⟩)
    refine zg_cost (kc2 := kc) (ks2 := ks) ⟨(by show kc + 0 = kc; omega), (by show ks + 0 = ks; omega)⟩ ?_
    refine zg_astore (L' := [(6, va_rf v2), (0, va_rf l0), (1, va_rf l1), (2, .int l2), (3, .long l3), (5, .int l5)]) ok dX4_moment_20 (by decide) rfl ?_
    refine zg_aload_n ok dX4_moment_22 rfl 2 rfl ?_
    refine zg_aload ok dX4_moment_23 0 rfl ?_
    refine zg_getI ok lf_X4_86 dX4_moment_25 hE (fun v3 hE => ?_)
    refine zg_callV (vs := [zI v3]) (rest := []) (rm := rm_X5_has) ok hRm lk_X4_102 dX4_moment_28 hE (fun hE => mt_X5_has hl hE) rfl (Nat.le_of_ble_eq_true rfl) ⟨⟨Nat.le_of_ble_eq_true rfl, Nat.le_of_ble_eq_true rfl⟩, (by show kc + 0 ≤ 0; omega), (by show ks + 0 ≤ 0; omega)⟩ (zg_retI (fun v4 h3 hE => ?_)) (zg_xok ok tab fin ⟨(by show kc + 0 ≤ 0; omega), (by show ks + 0 ≤ 0; omega)⟩)
    refine zg_cost (kc2 := kc) (ks2 := ks) ⟨(by show kc + 0 = kc; omega), (by show ks + 0 = ks; omega)⟩ ?_
    refine zg_if_eq (tgt := 59) ok dX4_moment_31 (by decide) hE (fun hE => ?_) (fun hE => ?_)
    · refine zg_sub (L' := [(0, va_rf l0), (1, va_rf l1), (2, .int l2), (3, .long l3), (5, .int l5)]) [1, 2, 3, 4, 5] rfl ?_
      exact gt_f_X4_moment_J59 hl ok tab fin hRm hb hR hk65 hE
    · refine zg_lload_n ok dX4_moment_34 rfl 4 rfl ?_
      refine zg_aload ok dX4_moment_35 0 rfl ?_
      refine zg_getI ok lf_X4_89 dX4_moment_37 hE (fun v6 hE => ?_)
      refine zg_i2l ok dX4_moment_40 ?_
      refine zg_aload ok dX4_moment_41 0 rfl ?_
      refine zg_getI ok lf_X4_86 dX4_moment_43 hE (fun v7 hE => ?_)
      refine zg_aload_n ok dX4_moment_46 rfl 2 rfl ?_
      refine zg_getI ok lf_X4_125 dX4_moment_47 hE (fun v8 hE => ?_)
      refine zg_isub ok dX4_moment_50 ?_
      refine zg_i2l ok dX4_moment_51 ?_
      refine zg_iload_n ok dX4_moment_52 rfl 3 rfl ?_
      refine zg_callS (vs := [zJ ((v7 - v8).toInt64), zI l2]) (rest := [.long v6.toInt64, .long l3]) (rm := rm_X4_raised) ok hRm lk_X4_128 dX4_moment_53 hE (fun hE => mt_X4_raised hl hE) rfl (Nat.le_of_ble_eq_true rfl) ⟨⟨Nat.le_of_ble_eq_true rfl, Nat.le_of_ble_eq_true rfl⟩, (by show kc + 0 ≤ 0; omega), (by show ks + 0 ≤ 0; omega)⟩ (zg_retJ (fun v9 h4 hE => ?_)) (zg_xok ok tab fin ⟨(by show kc + 0 ≤ 0; omega), (by show ks + 0 ≤ 0; omega)⟩)
      refine zg_cost (kc2 := kc) (ks2 := ks) ⟨(by show kc + 0 = kc; omega), (by show ks + 0 = ks; omega)⟩ ?_
      refine zg_lmul ok dX4_moment_56 ?_
      refine zg_ladd ok dX4_moment_57 ?_
      refine zg_letJ hE (fun v10 hE => ?_)
      refine zg_lstore_n (L' := [(3, .long v10), (6, va_rf v2), (0, va_rf l0), (1, va_rf l1), (2, .int l2), (5, .int l5)]) ok dX4_moment_58 rfl (by decide) rfl ?_
      refine zg_sub (L' := [(0, va_rf l0), (1, va_rf l1), (2, .int l2), (3, .long v10), (5, .int l5)]) [2, 3, 4, 0, 5] rfl ?_
      exact gt_f_X4_moment_J59 hl ok tab fin hRm hb hR hk65 hE
theorem gt_f_X4_moment_L5 {Xc : zw_X} {Q : Int64 → zw_H → Prop} {X : String → Nat → zw_H → Prop} (hl : (zw_l Xc).stackTraces = false) (ok : zw_ok Xc cX4_moment "MultipoleLine$Line" yX4_moment.name 7) (tab : zw_tab Xc []) (fin : zw_fin Xc (Option.some Jvm.ClassFile.FieldType.long) (zq_J Q) X 0 0) (hRm : zw_rm Xc = rm_X4_moment) {kc ks : Nat} (hb : kc ≤ 0 ∧ ks ≤ 0) {l0 : Option Nat} {l1 : Option Nat} {l2 : Int32} {k65 : Int64 → zw_H → Prop} (hk65 : ∀ (l3 : Int64) (h : zw_H), k65 l3 h → zw_G Xc kc ks 7 h 65 [(3, .long l3)] [])  : ∀ (n9 : Nat) (l3 : Int64) (l5 : Int32) (h : zw_H), zl3 (f_X4_moment_B5 (zw_Zf Xc).2.2.2 Q X k65 l0 l1 l2) n9 l3 l5 h → zw_G Xc kc ks 7 h 5 [(0, va_rf l0), (1, va_rf l1), (2, .int l2), (3, .long l3), (5, .int l5)] [] := by
  intro n9
  induction n9 with
  | zero => intro l3 l5 h hE; exact hE.elim
  | succ n9 ih => intro l3 l5 h hE; exact gt_f_X4_moment_B5 hl ok tab fin hRm hb ih hk65 hE
set_option maxHeartbeats 8000000 in
theorem mt_X4_moment {l : Launch} (hl : l.stackTraces = false) {Z : zw_Z} {a0 : Option Nat} {a1 : Option Nat} {a2 : Int32} {h : zw_H} {Q : Int64 → zw_H → Prop} {X : String → Nat → zw_H → Prop} (hE : f_X4_moment Z.2.2.2 a0 a1 a2 h Q X) : zw_Met l Z yX4_moment (ws_ yX4_moment cX4_moment 7 (Option.some Jvm.ClassFile.FieldType.long)) rm_X4_moment [zA a0, zA a1, zI a2] h (zq_J Q) X := by
  refine zg_start (own := "MultipoleLine$Line") (by decide +kernel) rfl (Nat.le_of_ble_eq_true rfl) hl (fun Xc ok tab fin hRm hXl hXZ => ?_)
  subst hXl
  subst hXZ
  unfold f_X4_moment at hE
  refine zg_lconst (v := 0) ok dX4_moment_0 (by decide) ?_
  refine zg_lstore_n (L' := [(3, .long 0), (0, va_rf a0), (1, va_rf a1), (2, .int a2)]) ok dX4_moment_1 rfl (by decide) rfl ?_
  refine zg_iconst (v := 0) ok dX4_moment_2 (by decide) ?_
  refine zg_istore (L' := [(5, .int 0), (3, .long 0), (0, va_rf a0), (1, va_rf a1), (2, .int a2)]) ok dX4_moment_3 (by decide) rfl ?_
  refine zg_sub (L' := [(0, va_rf a0), (1, va_rf a1), (2, .int a2), (3, .long 0), (5, .int 0)]) [2, 3, 4, 1, 0] rfl ?_
  refine gt_f_X4_moment_L5 hl ok tab fin hRm ⟨Nat.le_of_ble_eq_true rfl, Nat.le_of_ble_eq_true rfl⟩ ?_ _ _ _ _ hE
  · intro v11 h5 hE
    refine zg_lload_n ok dX4_moment_65 rfl 0 rfl ?_
    exact zg_lret ok fin dX4_moment_66 ⟨Nat.le_of_ble_eq_true rfl, Nat.le_of_ble_eq_true rfl⟩ hE
set_option maxHeartbeats 8000000 in
theorem mt_X4_chargesIn {l : Launch} (hl : l.stackTraces = false) {Z : zw_Z} {a0 : Option Nat} {a1 : Option Nat} {h : zw_H} {Q : Int32 → zw_H → Prop} {X : String → Nat → zw_H → Prop} (hE : f_X4_chargesIn Z.2.2.2 a0 a1 h Q X) : zw_Met l Z yX4_chargesIn (ws_ yX4_chargesIn cX4_chargesIn 2 (Option.some Jvm.ClassFile.FieldType.int)) rm_X4_chargesIn [zA a0, zA a1] h (zq_I Q) X := by
  refine zg_start (own := "MultipoleLine$Line") (by decide +kernel) rfl (Nat.le_of_ble_eq_true rfl) hl (fun Xc ok tab fin hRm hXl hXZ => ?_)
  subst hXl
  subst hXZ
  unfold f_X4_chargesIn at hE
  refine zg_aload_n ok dX4_chargesIn_0 rfl 0 rfl ?_
  refine zg_aload_n ok dX4_chargesIn_1 rfl 1 rfl ?_
  refine zg_iconst (v := 0) ok dX4_chargesIn_2 (by decide) ?_
  refine zg_callV (vs := [zA a1, zI 0]) (rest := []) (rm := rm_X4_moment) ok hRm lk_X4_106 dX4_chargesIn_3 hE (fun hE => mt_X4_moment hl hE) rfl (Nat.le_of_ble_eq_true rfl) ⟨⟨Nat.le_of_ble_eq_true rfl, Nat.le_of_ble_eq_true rfl⟩, Nat.le_of_ble_eq_true rfl, Nat.le_of_ble_eq_true rfl⟩ (zg_retJ (fun v1 h1 hE => ?_)) (zg_xok ok tab fin ⟨Nat.le_of_ble_eq_true rfl, Nat.le_of_ble_eq_true rfl⟩)
  refine zg_cost (kc2 := 0) (ks2 := 0) ⟨rfl, rfl⟩ ?_
  refine zg_l2i ok dX4_chargesIn_6 ?_
  exact zg_iret ok fin dX4_chargesIn_7 ⟨Nat.le_of_ble_eq_true rfl, Nat.le_of_ble_eq_true rfl⟩ hE
set_option maxHeartbeats 8000000 in
theorem gt_f_X4_weightsIn_J43 {Xc : zw_X} {Q : Int32 → zw_H → Prop} {X : String → Nat → zw_H → Prop} (hl : (zw_l Xc).stackTraces = false) (ok : zw_ok Xc cX4_weightsIn "MultipoleLine$Line" yX4_weightsIn.name 4) (tab : zw_tab Xc []) (fin : zw_fin Xc (Option.some Jvm.ClassFile.FieldType.int) (zq_I Q) X 0 0) (hRm : zw_rm Xc = rm_X4_weightsIn) {kc ks : Nat} (hb : kc ≤ 0 ∧ ks ≤ 0) {R : Int32 → Int32 → zw_H → Prop} {l0 : Option Nat} {l1 : Option Nat} (hR : ∀ (l2 : Int32) (l3 : Int32) (h : zw_H), R l2 l3 h → zw_G Xc kc ks 4 h 4 [(0, va_rf l0), (1, va_rf l1), (2, .int l2), (3, .int l3)] []) {k51 : Int32 → zw_H → Prop} (hk51 : ∀ (l2 : Int32) (h : zw_H), k51 l2 h → zw_G Xc kc ks 4 h 51 [(2, .int l2)] [])  {l3 : Int32} {s0 : Int32} {s1 : Int32} {h : zw_H} (hE : f_X4_weightsIn_J43 (zw_Zf Xc).2.2.2 Q X R k51 l0 l1 l3 s0 s1 h) : zw_G Xc kc ks 4 h 43 [(0, va_rf l0), (1, va_rf l1), (3, .int l3)] [.int s0, .int s1] := by
  unfold f_X4_weightsIn_J43 at hE
  refine zg_iadd ok dX4_weightsIn_43 ?_
  refine zg_letI hE (fun v5 hE => ?_)
  refine zg_istore_nR (L' := [(2, .int v5), (0, va_rf l0), (1, va_rf l1), (3, .int l3)]) ok dX4_weightsIn_44 rfl (by decide) 1 rfl rfl rfl ?_
  refine zg_iincL (k := 3) (L' := fun v6 => [(3, .int v6), (2, .int v5), (0, va_rf l0), (1, va_rf l1)]) ok dX4_weightsIn_45 (by decide +kernel) hE rfl (by decide) (fun _ => rfl) (fun v6 hE => ?_)
  refine zg_goto (tgt := 4) ok dX4_weightsIn_48 (by decide) ?_
  refine zg_sub (L' := [(0, va_rf l0), (1, va_rf l1), (2, .int v5), (3, .int v6)]) [2, 3, 1, 0] rfl ?_
  exact hR _ _ _ hE
set_option maxHeartbeats 8000000 in
theorem gt_f_X4_weightsIn_B4 {Xc : zw_X} {Q : Int32 → zw_H → Prop} {X : String → Nat → zw_H → Prop} (hl : (zw_l Xc).stackTraces = false) (ok : zw_ok Xc cX4_weightsIn "MultipoleLine$Line" yX4_weightsIn.name 4) (tab : zw_tab Xc []) (fin : zw_fin Xc (Option.some Jvm.ClassFile.FieldType.int) (zq_I Q) X 0 0) (hRm : zw_rm Xc = rm_X4_weightsIn) {kc ks : Nat} (hb : kc ≤ 0 ∧ ks ≤ 0) {R : Int32 → Int32 → zw_H → Prop} {l0 : Option Nat} {l1 : Option Nat} (hR : ∀ (l2 : Int32) (l3 : Int32) (h : zw_H), R l2 l3 h → zw_G Xc kc ks 4 h 4 [(0, va_rf l0), (1, va_rf l1), (2, .int l2), (3, .int l3)] []) {k51 : Int32 → zw_H → Prop} (hk51 : ∀ (l2 : Int32) (h : zw_H), k51 l2 h → zw_G Xc kc ks 4 h 51 [(2, .int l2)] [])  {l2 : Int32} {l3 : Int32} {h : zw_H} (hE : f_X4_weightsIn_B4 (zw_Zf Xc).2.2.2 Q X k51 l0 l1 R l2 l3 h) : zw_G Xc kc ks 4 h 4 [(0, va_rf l0), (1, va_rf l1), (2, .int l2), (3, .int l3)] [] := by
  unfold f_X4_weightsIn_B4 at hE
  refine zg_iload_n ok dX4_weightsIn_4 rfl 3 rfl ?_
  refine zg_aload_n ok dX4_weightsIn_5 rfl 0 rfl ?_
  refine zg_callV (vs := []) (rest := [.int l3]) (rm := rm_X4_size) ok hRm lk_X4_37 dX4_weightsIn_6 hE (fun hE => mt_X4_size hl hE) rfl (Nat.le_of_ble_eq_true rfl) ⟨⟨Nat.le_of_ble_eq_true rfl, Nat.le_of_ble_eq_true rfl⟩, (by show kc + 0 ≤ 0; omega), (by show ks + 0 ≤ 0; omega)⟩ (zg_retI (fun v1 h1 hE => ?_)) (zg_xok ok tab fin ⟨(by show kc + 0 ≤ 0; omega), (by show ks + 0 ≤ 0; omega)⟩)
  refine zg_cost (kc2 := kc) (ks2 := ks) ⟨(by show kc + 0 = kc; omega), (by show ks + 0 = ks; omega)⟩ ?_
  refine zg_icmp_ge (tgt := 51) ok dX4_weightsIn_9 (by decide) hE (fun hE => ?_) (fun hE => ?_)
  · refine zg_sub (L' := [(2, .int l2)]) [2] rfl ?_
    exact hk51 _ _ hE
  · refine zg_iload_n ok dX4_weightsIn_12 rfl 2 rfl ?_
    refine zg_aload_n ok dX4_weightsIn_13 rfl 1 rfl ?_
    refine zg_aload_n ok dX4_weightsIn_14 rfl 0 rfl ?_
    refine zg_iload_n ok dX4_weightsIn_15 rfl 3 rfl ?_
    refine zg_callV (vs := [zI l3]) (rest := [va_rf l1, .int l2]) (rm := rm_X4_at) ok hRm lk_X4_41 dX4_weightsIn_16 hE (fun hE => mt_X4_at hl hE) rfl (Nat.le_of_ble_eq_true rfl) ⟨⟨Nat.le_of_ble_eq_true rfl, Nat.le_of_ble_eq_true rfl⟩, (by show kc + 0 ≤ 0; omega), (by show ks + 0 ≤ 0; omega)⟩ (zg_retA (fun v2 h2 hE => ?_)) (zg_xok ok tab fin ⟨(by show kc + 0 ≤ 0; omega), (by show ks + 0 ≤ 0; omega)⟩)
    refine zg_cost (kc2 := kc) (ks2 := ks) ⟨(by show kc + 0 = kc; omega), (by show ks + 0 = ks; omega)⟩ ?_
    refine zg_getI ok lf_X4_86 dX4_weightsIn_19 hE (fun v3 hE => ?_)
    refine zg_callV (vs := [zI v3]) (rest := [.int l2]) (rm := rm_X5_has) ok hRm lk_X4_102 dX4_weightsIn_22 hE (fun hE => mt_X5_has hl hE) rfl (Nat.le_of_ble_eq_true rfl) ⟨⟨Nat.le_of_ble_eq_true rfl, Nat.le_of_ble_eq_true rfl⟩, (by show kc + 0 ≤ 0; omega), (by show ks + 0 ≤ 0; omega)⟩ (zg_retI (fun v4 h3 hE => ?_)) (zg_xok ok tab fin ⟨(by show kc + 0 ≤ 0; omega), (by show ks + 0 ≤ 0; omega)⟩)
    refine zg_cost (kc2 := kc) (ks2 := ks) ⟨(by show kc + 0 = kc; omega), (by show ks + 0 = ks; omega)⟩ ?_
    refine zg_if_eq (tgt := 42) ok dX4_weightsIn_25 (by decide) hE (fun hE => ?_) (fun hE => ?_)
    · refine zg_iconst (v := 0) ok dX4_weightsIn_42 (by decide) ?_
      refine zg_sub (L' := [(0, va_rf l0), (1, va_rf l1), (3, .int l3)]) [0, 1, 3] rfl ?_
      exact gt_f_X4_weightsIn_J43 hl ok tab fin hRm hb hR hk51 hE
    · refine zg_aload_n ok dX4_weightsIn_28 rfl 0 rfl ?_
      refine zg_iload_n ok dX4_weightsIn_29 rfl 3 rfl ?_
      refine zg_callV (vs := [zI l3]) (rest := [.int l2]) (rm := rm_X4_at) ok hRm lk_X4_41 dX4_weightsIn_30 hE (fun hE => mt_X4_at hl hE) rfl (Nat.le_of_ble_eq_true rfl) ⟨⟨Nat.le_of_ble_eq_true rfl, Nat.le_of_ble_eq_true rfl⟩, (by show kc + 0 ≤ 0; omega), (by show ks + 0 ≤ 0; omega)⟩ (zg_retA (fun v7 h4 hE => ?_)) (zg_xok ok tab fin ⟨(by show kc + 0 ≤ 0; omega), (by show ks + 0 ≤ 0; omega)⟩)
      refine zg_cost (kc2 := kc) (ks2 := ks) ⟨(by show kc + 0 = kc; omega), (by show ks + 0 = ks; omega)⟩ ?_
      refine zg_getI ok lf_X4_89 dX4_weightsIn_33 hE (fun v8 hE => ?_)
      refine zg_callS (vs := [zI v8]) (rest := [.int l2]) (rm := rm_J14_abs) ok hRm lk_X4_92 dX4_weightsIn_36 hE (fun hE => mt_J14_abs hl hE) rfl (Nat.le_of_ble_eq_true rfl) ⟨⟨Nat.le_of_ble_eq_true rfl, Nat.le_of_ble_eq_true rfl⟩, (by show kc + 0 ≤ 0; omega), (by show ks + 0 ≤ 0; omega)⟩ (zg_retI (fun v9 h5 hE => ?_)) (zg_xok ok tab fin ⟨(by show kc + 0 ≤ 0; omega), (by show ks + 0 ≤ 0; omega)⟩)
      refine zg_cost (kc2 := kc) (ks2 := ks) ⟨(by show kc + 0 = kc; omega), (by show ks + 0 = ks; omega)⟩ ?_
      refine zg_goto (tgt := 43) ok dX4_weightsIn_39 (by decide) ?_
      refine zg_sub (L' := [(0, va_rf l0), (1, va_rf l1), (3, .int l3)]) [0, 1, 3] rfl ?_
      exact gt_f_X4_weightsIn_J43 hl ok tab fin hRm hb hR hk51 hE
theorem gt_f_X4_weightsIn_L4 {Xc : zw_X} {Q : Int32 → zw_H → Prop} {X : String → Nat → zw_H → Prop} (hl : (zw_l Xc).stackTraces = false) (ok : zw_ok Xc cX4_weightsIn "MultipoleLine$Line" yX4_weightsIn.name 4) (tab : zw_tab Xc []) (fin : zw_fin Xc (Option.some Jvm.ClassFile.FieldType.int) (zq_I Q) X 0 0) (hRm : zw_rm Xc = rm_X4_weightsIn) {kc ks : Nat} (hb : kc ≤ 0 ∧ ks ≤ 0) {l0 : Option Nat} {l1 : Option Nat} {k51 : Int32 → zw_H → Prop} (hk51 : ∀ (l2 : Int32) (h : zw_H), k51 l2 h → zw_G Xc kc ks 4 h 51 [(2, .int l2)] [])  : ∀ (n9 : Nat) (l2 : Int32) (l3 : Int32) (h : zw_H), zl3 (f_X4_weightsIn_B4 (zw_Zf Xc).2.2.2 Q X k51 l0 l1) n9 l2 l3 h → zw_G Xc kc ks 4 h 4 [(0, va_rf l0), (1, va_rf l1), (2, .int l2), (3, .int l3)] [] := by
  intro n9
  induction n9 with
  | zero => intro l2 l3 h hE; exact hE.elim
  | succ n9 ih => intro l2 l3 h hE; exact gt_f_X4_weightsIn_B4 hl ok tab fin hRm hb ih hk51 hE
set_option maxHeartbeats 8000000 in
theorem mt_X4_weightsIn {l : Launch} (hl : l.stackTraces = false) {Z : zw_Z} {a0 : Option Nat} {a1 : Option Nat} {h : zw_H} {Q : Int32 → zw_H → Prop} {X : String → Nat → zw_H → Prop} (hE : f_X4_weightsIn Z.2.2.2 a0 a1 h Q X) : zw_Met l Z yX4_weightsIn (ws_ yX4_weightsIn cX4_weightsIn 4 (Option.some Jvm.ClassFile.FieldType.int)) rm_X4_weightsIn [zA a0, zA a1] h (zq_I Q) X := by
  refine zg_start (own := "MultipoleLine$Line") (by decide +kernel) rfl (Nat.le_of_ble_eq_true rfl) hl (fun Xc ok tab fin hRm hXl hXZ => ?_)
  subst hXl
  subst hXZ
  unfold f_X4_weightsIn at hE
  refine zg_iconst (v := 0) ok dX4_weightsIn_0 (by decide) ?_
  refine zg_istore_nR (L' := [(2, .int 0), (0, va_rf a0), (1, va_rf a1)]) ok dX4_weightsIn_1 rfl (by decide) 1 rfl rfl rfl ?_
  refine zg_iconst (v := 0) ok dX4_weightsIn_2 (by decide) ?_
  refine zg_istore_n (L' := [(3, .int 0), (2, .int 0), (0, va_rf a0), (1, va_rf a1)]) ok dX4_weightsIn_3 rfl (by decide) rfl ?_
  refine zg_sub (L' := [(0, va_rf a0), (1, va_rf a1), (2, .int 0), (3, .int 0)]) [2, 3, 1, 0] rfl ?_
  refine gt_f_X4_weightsIn_L4 hl ok tab fin hRm ⟨Nat.le_of_ble_eq_true rfl, Nat.le_of_ble_eq_true rfl⟩ ?_ _ _ _ _ hE
  · intro v10 h6 hE
    refine zg_iload_n ok dX4_weightsIn_51 rfl 0 rfl ?_
    exact zg_iret ok fin dX4_weightsIn_52 ⟨Nat.le_of_ble_eq_true rfl, Nat.le_of_ble_eq_true rfl⟩ hE
set_option maxHeartbeats 8000000 in
theorem mt_X1_box {l : Launch} (hl : l.stackTraces = false) {Z : zw_Z} {a0 : Option Nat} {a1 : Int32} {a2 : Int32} {a3 : Int32} {h : zw_H} {Q : Int32 → zw_H → Prop} {X : String → Nat → zw_H → Prop} (hE : f_X1_box Z.2.2.2 a0 a1 a2 a3 h Q X) : zw_Met l Z yX1_box (ws_ yX1_box cX1_box 5 (Option.some Jvm.ClassFile.FieldType.int)) rm_X1_box [zA a0, zI a1, zI a2, zI a3] h (zq_I Q) X := by
  refine zg_start (own := "MultipoleLine") (by decide +kernel) rfl (Nat.le_of_ble_eq_true rfl) hl (fun Xc ok tab fin hRm hXl hXZ => ?_)
  subst hXl
  subst hXZ
  unfold f_X1_box at hE
  refine zg_aload_n ok dX1_box_0 rfl 0 rfl ?_
  refine zg_iload_n ok dX1_box_1 rfl 1 rfl ?_
  refine zg_iload_n ok dX1_box_2 rfl 2 rfl ?_
  refine zg_callV (vs := [zI a1, zI a2]) (rest := []) (rm := rm_X1_boxOf) ok hRm lk_X1_196 dX1_box_3 hE (fun hE => mt_X1_boxOf hl hE) rfl (Nat.le_of_ble_eq_true rfl) ⟨⟨Nat.le_of_ble_eq_true rfl, Nat.le_of_ble_eq_true rfl⟩, Nat.le_of_ble_eq_true rfl, Nat.le_of_ble_eq_true rfl⟩ (zg_retA (fun v1 h1 hE => ?_)) (zg_xok ok tab fin ⟨Nat.le_of_ble_eq_true rfl, Nat.le_of_ble_eq_true rfl⟩)
  refine zg_cost (kc2 := 3) (ks2 := 18) ⟨rfl, rfl⟩ ?_
  refine zg_astore (L' := [(4, va_rf v1), (0, va_rf a0), (1, .int a1), (2, .int a2), (3, .int a3)]) ok dX1_box_6 (by decide) rfl ?_
  refine zg_iload_n ok dX1_box_8 rfl 4 rfl ?_
  by_cases c9 : a3 = 0
  · rw [if_pos c9] at hE
    refine zg_tabIn (tgt := 48) ok dX1_box_9 (by rw [c9] <;> decide) (by rw [c9] <;> decide) (by rw [c9]; rfl) (by decide) ?_
    refine zg_aload ok dX1_box_48 0 rfl ?_
    refine zg_callV (vs := []) (rest := []) (rm := rm_X5_first) ok hRm lk_X1_199 dX1_box_50 hE (fun hE => mt_X5_first hl hE) rfl (Nat.le_of_ble_eq_true rfl) ⟨⟨Nat.le_of_ble_eq_true rfl, Nat.le_of_ble_eq_true rfl⟩, Nat.le_of_ble_eq_true rfl, Nat.le_of_ble_eq_true rfl⟩ (zg_retI (fun v2 h2 hE => ?_)) (zg_xok ok tab fin ⟨Nat.le_of_ble_eq_true rfl, Nat.le_of_ble_eq_true rfl⟩)
    refine zg_cost (kc2 := 3) (ks2 := 18) ⟨rfl, rfl⟩ ?_
    refine zg_goto (tgt := 116) ok dX1_box_53 (by decide) ?_
    exact zg_iret ok fin dX1_box_116 ⟨Nat.le_of_ble_eq_true rfl, Nat.le_of_ble_eq_true rfl⟩ hE
  rw [if_neg c9] at hE
  by_cases c9 : a3 = 1
  · rw [if_pos c9] at hE
    refine zg_tabIn (tgt := 56) ok dX1_box_9 (by rw [c9] <;> decide) (by rw [c9] <;> decide) (by rw [c9]; rfl) (by decide) ?_
    refine zg_aload ok dX1_box_56 0 rfl ?_
    refine zg_getI ok lf_X1_202 dX1_box_58 hE (fun v3 hE => ?_)
    refine zg_goto (tgt := 116) ok dX1_box_61 (by decide) ?_
    exact zg_iret ok fin dX1_box_116 ⟨Nat.le_of_ble_eq_true rfl, Nat.le_of_ble_eq_true rfl⟩ hE
  rw [if_neg c9] at hE
  by_cases c9 : a3 = 2
  · rw [if_pos c9] at hE
    refine zg_tabIn (tgt := 64) ok dX1_box_9 (by rw [c9] <;> decide) (by rw [c9] <;> decide) (by rw [c9]; rfl) (by decide) ?_
    refine zg_aload ok dX1_box_64 0 rfl ?_
    refine zg_getI ok lf_X1_205 dX1_box_66 hE (fun v4 hE => ?_)
    refine zg_goto (tgt := 116) ok dX1_box_69 (by decide) ?_
    exact zg_iret ok fin dX1_box_116 ⟨Nat.le_of_ble_eq_true rfl, Nat.le_of_ble_eq_true rfl⟩ hE
  rw [if_neg c9] at hE
  by_cases c9 : a3 = 3
  · rw [if_pos c9] at hE
    refine zg_tabIn (tgt := 72) ok dX1_box_9 (by rw [c9] <;> decide) (by rw [c9] <;> decide) (by rw [c9]; rfl) (by decide) ?_
    refine zg_aload_n ok dX1_box_72 rfl 1 rfl ?_
    refine zg_getA ok lf_X1_68 dX1_box_73 hE (fun v5 hE => ?_)
    refine zg_aload ok dX1_box_76 0 rfl ?_
    refine zg_callV (vs := [zA v1]) (rest := []) (rm := rm_X4_bodiesIn) ok hRm lk_X1_208 dX1_box_78 hE (fun hE => mt_X4_bodiesIn hl hE) rfl (Nat.le_of_ble_eq_true rfl) ⟨⟨Nat.le_of_ble_eq_true rfl, Nat.le_of_ble_eq_true rfl⟩, Nat.le_of_ble_eq_true rfl, Nat.le_of_ble_eq_true rfl⟩ (zg_retI (fun v6 h3 hE => ?_)) (zg_xok ok tab fin ⟨Nat.le_of_ble_eq_true rfl, Nat.le_of_ble_eq_true rfl⟩)
    refine zg_cost (kc2 := 3) (ks2 := 18) ⟨rfl, rfl⟩ ?_
    refine zg_goto (tgt := 116) ok dX1_box_81 (by decide) ?_
    exact zg_iret ok fin dX1_box_116 ⟨Nat.le_of_ble_eq_true rfl, Nat.le_of_ble_eq_true rfl⟩ hE
  rw [if_neg c9] at hE
  by_cases c9 : a3 = 4
  · rw [if_pos c9] at hE
    refine zg_tabIn (tgt := 84) ok dX1_box_9 (by rw [c9] <;> decide) (by rw [c9] <;> decide) (by rw [c9]; rfl) (by decide) ?_
    refine zg_aload_n ok dX1_box_84 rfl 1 rfl ?_
    refine zg_getA ok lf_X1_68 dX1_box_85 hE (fun v7 hE => ?_)
    refine zg_aload ok dX1_box_88 0 rfl ?_
    refine zg_callV (vs := [zA v1]) (rest := []) (rm := rm_X4_chargesIn) ok hRm lk_X1_212 dX1_box_90 hE (fun hE => mt_X4_chargesIn hl hE) rfl (Nat.le_of_ble_eq_true rfl) ⟨⟨Nat.le_of_ble_eq_true rfl, Nat.le_of_ble_eq_true rfl⟩, Nat.le_of_ble_eq_true rfl, Nat.le_of_ble_eq_true rfl⟩ (zg_retI (fun v8 h4 hE => ?_)) (zg_xok ok tab fin ⟨Nat.le_of_ble_eq_true rfl, Nat.le_of_ble_eq_true rfl⟩)
    refine zg_cost (kc2 := 3) (ks2 := 18) ⟨rfl, rfl⟩ ?_
    refine zg_goto (tgt := 116) ok dX1_box_93 (by decide) ?_
    exact zg_iret ok fin dX1_box_116 ⟨Nat.le_of_ble_eq_true rfl, Nat.le_of_ble_eq_true rfl⟩ hE
  rw [if_neg c9] at hE
  by_cases c9 : a3 = 5
  · rw [if_pos c9] at hE
    refine zg_tabIn (tgt := 96) ok dX1_box_9 (by rw [c9] <;> decide) (by rw [c9] <;> decide) (by rw [c9]; rfl) (by decide) ?_
    refine zg_aload_n ok dX1_box_96 rfl 1 rfl ?_
    refine zg_getA ok lf_X1_68 dX1_box_97 hE (fun v9 hE => ?_)
    refine zg_aload ok dX1_box_100 0 rfl ?_
    refine zg_callV (vs := [zA v1]) (rest := []) (rm := rm_X4_weightsIn) ok hRm lk_X1_215 dX1_box_102 hE (fun hE => mt_X4_weightsIn hl hE) rfl (Nat.le_of_ble_eq_true rfl) ⟨⟨Nat.le_of_ble_eq_true rfl, Nat.le_of_ble_eq_true rfl⟩, Nat.le_of_ble_eq_true rfl, Nat.le_of_ble_eq_true rfl⟩ (zg_retI (fun v10 h5 hE => ?_)) (zg_xok ok tab fin ⟨Nat.le_of_ble_eq_true rfl, Nat.le_of_ble_eq_true rfl⟩)
    refine zg_cost (kc2 := 3) (ks2 := 18) ⟨rfl, rfl⟩ ?_
    refine zg_goto (tgt := 116) ok dX1_box_105 (by decide) ?_
    exact zg_iret ok fin dX1_box_116 ⟨Nat.le_of_ble_eq_true rfl, Nat.le_of_ble_eq_true rfl⟩ hE
  rw [if_neg c9] at hE
  obtain ⟨hd9, hE⟩ := hE
  refine zg_tabOut (tgt := 108) ok dX1_box_9 hd9 (by decide) ?_
  exact zg_throw0 ok tab fin hRm lx_X1_55_57 dX1_box_108 dX1_box_111 dX1_box_112 dX1_box_115 (fun z hz => by cases hz) ⟨Nat.le_of_ble_eq_true rfl, Nat.le_of_ble_eq_true rfl, Nat.le_of_ble_eq_true rfl, Nat.le_of_ble_eq_true rfl⟩ (Nat.le_of_ble_eq_true rfl) ⟨Nat.le_of_ble_eq_true rfl, Nat.le_of_ble_eq_true rfl⟩ hE
set_option maxHeartbeats 8000000 in
theorem mt_X1_boxAt {l : Launch} (hl : l.stackTraces = false) {Z : zw_Z} {a0 : Option Nat} {a1 : Int32} {a2 : Int32} {h : zw_H} {Q : Int32 → zw_H → Prop} {X : String → Nat → zw_H → Prop} (hE : f_X1_boxAt Z.2.2.2 a0 a1 a2 h Q X) : zw_Met l Z yX1_boxAt (ws_ yX1_boxAt cX1_boxAt 4 (Option.some Jvm.ClassFile.FieldType.int)) rm_X1_boxAt [zA a0, zI a1, zI a2] h (zq_I Q) X := by
  refine zg_start (own := "MultipoleLine") (by decide +kernel) rfl (Nat.le_of_ble_eq_true rfl) hl (fun Xc ok tab fin hRm hXl hXZ => ?_)
  subst hXl
  subst hXZ
  unfold f_X1_boxAt at hE
  refine zg_aload_n ok dX1_boxAt_0 rfl 0 rfl ?_
  refine zg_iload_n ok dX1_boxAt_1 rfl 1 rfl ?_
  refine zg_iconst (v := 0) ok dX1_boxAt_2 (by decide) ?_
  refine zg_callV (vs := [zI a1, zI 0]) (rest := []) (rm := rm_X1_boxOf) ok hRm lk_X1_196 dX1_boxAt_3 hE (fun hE => mt_X1_boxOf hl hE) rfl (Nat.le_of_ble_eq_true rfl) ⟨⟨Nat.le_of_ble_eq_true rfl, Nat.le_of_ble_eq_true rfl⟩, Nat.le_of_ble_eq_true rfl, Nat.le_of_ble_eq_true rfl⟩ (zg_retA (fun v1 h1 hE => ?_)) (zg_xok ok tab fin ⟨Nat.le_of_ble_eq_true rfl, Nat.le_of_ble_eq_true rfl⟩)
  refine zg_cost (kc2 := 3) (ks2 := 18) ⟨rfl, rfl⟩ ?_
  refine zg_astore_n (L' := [(3, va_rf v1), (0, va_rf a0), (1, .int a1), (2, .int a2)]) ok dX1_boxAt_6 rfl (by decide) rfl ?_
  refine zg_aload_n ok dX1_boxAt_7 rfl 1 rfl ?_
  refine zg_iload_n ok dX1_boxAt_8 rfl 3 rfl ?_
  refine zg_callV (vs := [zI a2]) (rest := []) (rm := rm_X1_at) ok hRm lk_X1_193 dX1_boxAt_9 hE (fun hE => mt_X1_at hl hE) rfl (Nat.le_of_ble_eq_true rfl) ⟨⟨Nat.le_of_ble_eq_true rfl, Nat.le_of_ble_eq_true rfl⟩, Nat.le_of_ble_eq_true rfl, Nat.le_of_ble_eq_true rfl⟩ (zg_retA (fun v2 h2 hE => ?_)) (zg_xok ok tab fin ⟨Nat.le_of_ble_eq_true rfl, Nat.le_of_ble_eq_true rfl⟩)
  refine zg_cost (kc2 := 5) (ks2 := 30) ⟨rfl, rfl⟩ ?_
  refine zg_iload_n ok dX1_boxAt_12 rfl 2 rfl ?_
  refine zg_iload_n ok dX1_boxAt_13 rfl 3 rfl ?_
  refine zg_callV (vs := [zI a1, zI a2]) (rest := []) (rm := rm_X4_around) ok hRm lk_X1_218 dX1_boxAt_14 hE (fun hE => mt_X4_around hl hE) rfl (Nat.le_of_ble_eq_true rfl) ⟨⟨Nat.le_of_ble_eq_true rfl, Nat.le_of_ble_eq_true rfl⟩, Nat.le_of_ble_eq_true rfl, Nat.le_of_ble_eq_true rfl⟩ (zg_retA (fun v3 h3 hE => ?_)) (zg_xok ok tab fin ⟨Nat.le_of_ble_eq_true rfl, Nat.le_of_ble_eq_true rfl⟩)
  refine zg_cost (kc2 := 5) (ks2 := 30) ⟨rfl, rfl⟩ ?_
  refine zg_getI ok lf_X1_188 dX1_boxAt_17 hE (fun v4 hE => ?_)
  exact zg_iret ok fin dX1_boxAt_20 ⟨Nat.le_of_ble_eq_true rfl, Nat.le_of_ble_eq_true rfl⟩ hE
set_option maxHeartbeats 8000000 in
theorem gt_f_J20_numberOfTrailingZeros_J74 {Xc : zw_X} {Q : Int32 → zw_H → Prop} {X : String → Nat → zw_H → Prop} (hl : (zw_l Xc).stackTraces = false) (ok : zw_ok Xc cJ20_numberOfTrailingZeros "java/lang/Integer" yJ20_numberOfTrailingZeros.name 2) (tab : zw_tab Xc []) (fin : zw_fin Xc (Option.some Jvm.ClassFile.FieldType.int) (zq_I Q) X 0 0) (hRm : zw_rm Xc = rm_J20_numberOfTrailingZeros)  {l0 : Int32} {l1 : Int32}  {h : zw_H} (hE : f_J20_numberOfTrailingZeros_J74 (zw_Zf Xc).2.2.2 Q X  l0 l1 h) : zw_G Xc 0 0 2 h 74 [(0, .int l0), (1, .int l1)] [] := by
  unfold f_J20_numberOfTrailingZeros_J74 at hE
  refine zg_iload_n ok dJ20_numberOfTrailingZeros_74 rfl 1 rfl ?_
  refine zg_iload_n ok dJ20_numberOfTrailingZeros_75 rfl 0 rfl ?_
  refine zg_iconst (v := 1) ok dJ20_numberOfTrailingZeros_76 (by decide) ?_
  refine zg_iushr ok dJ20_numberOfTrailingZeros_77 ?_
  refine zg_iadd ok dJ20_numberOfTrailingZeros_78 ?_
  exact zg_iret ok fin dJ20_numberOfTrailingZeros_79 ⟨Nat.le_of_ble_eq_true rfl, Nat.le_of_ble_eq_true rfl⟩ hE
set_option maxHeartbeats 8000000 in
theorem gt_f_J20_numberOfTrailingZeros_J62 {Xc : zw_X} {Q : Int32 → zw_H → Prop} {X : String → Nat → zw_H → Prop} (hl : (zw_l Xc).stackTraces = false) (ok : zw_ok Xc cJ20_numberOfTrailingZeros "java/lang/Integer" yJ20_numberOfTrailingZeros.name 2) (tab : zw_tab Xc []) (fin : zw_fin Xc (Option.some Jvm.ClassFile.FieldType.int) (zq_I Q) X 0 0) (hRm : zw_rm Xc = rm_J20_numberOfTrailingZeros)  {l0 : Int32} {l1 : Int32}  {h : zw_H} (hE : f_J20_numberOfTrailingZeros_J62 (zw_Zf Xc).2.2.2 Q X  l0 l1 h) : zw_G Xc 0 0 2 h 62 [(0, .int l0), (1, .int l1)] [] := by
  unfold f_J20_numberOfTrailingZeros_J62 at hE
  refine zg_iload_n ok dJ20_numberOfTrailingZeros_62 rfl 0 rfl ?_
  refine zg_iconst (v := 4) ok dJ20_numberOfTrailingZeros_63 (by decide) ?_
  refine zg_icmp_le (tgt := 74) ok dJ20_numberOfTrailingZeros_64 (by decide) hE (fun hE => ?_) (fun hE => ?_)
  · exact gt_f_J20_numberOfTrailingZeros_J74 hl ok tab fin hRm  hE
  · refine zg_iincL (k := 1) (L' := fun v2 => [(1, .int v2), (0, .int l0)]) ok dJ20_numberOfTrailingZeros_67 (by decide +kernel) hE rfl (by decide) (fun _ => rfl) (fun v2 hE => ?_)
    refine zg_iload_n ok dJ20_numberOfTrailingZeros_70 rfl 1 rfl ?_
    refine zg_iconst (v := 2) ok dJ20_numberOfTrailingZeros_71 (by decide) ?_
    refine zg_iushr ok dJ20_numberOfTrailingZeros_72 ?_
    refine zg_letI hE (fun v3 hE => ?_)
    refine zg_istore_n (L' := [(0, .int v3), (1, .int v2)]) ok dJ20_numberOfTrailingZeros_73 rfl (by decide) rfl ?_
    exact gt_f_J20_numberOfTrailingZeros_J74 hl ok tab fin hRm  hE
set_option maxHeartbeats 8000000 in
theorem gt_f_J20_numberOfTrailingZeros_J49 {Xc : zw_X} {Q : Int32 → zw_H → Prop} {X : String → Nat → zw_H → Prop} (hl : (zw_l Xc).stackTraces = false) (ok : zw_ok Xc cJ20_numberOfTrailingZeros "java/lang/Integer" yJ20_numberOfTrailingZeros.name 2) (tab : zw_tab Xc []) (fin : zw_fin Xc (Option.some Jvm.ClassFile.FieldType.int) (zq_I Q) X 0 0) (hRm : zw_rm Xc = rm_J20_numberOfTrailingZeros)  {l0 : Int32} {l1 : Int32}  {h : zw_H} (hE : f_J20_numberOfTrailingZeros_J49 (zw_Zf Xc).2.2.2 Q X  l0 l1 h) : zw_G Xc 0 0 2 h 49 [(0, .int l0), (1, .int l1)] [] := by
  unfold f_J20_numberOfTrailingZeros_J49 at hE
  refine zg_iload_n ok dJ20_numberOfTrailingZeros_49 rfl 0 rfl ?_
  refine zg_bipush (v := 16) ok dJ20_numberOfTrailingZeros_50 (by decide) ?_
  refine zg_icmp_le (tgt := 62) ok dJ20_numberOfTrailingZeros_52 (by decide) hE (fun hE => ?_) (fun hE => ?_)
  · exact gt_f_J20_numberOfTrailingZeros_J62 hl ok tab fin hRm  hE
  · refine zg_iincL (k := 1) (L' := fun v4 => [(1, .int v4), (0, .int l0)]) ok dJ20_numberOfTrailingZeros_55 (by decide +kernel) hE rfl (by decide) (fun _ => rfl) (fun v4 hE => ?_)
    refine zg_iload_n ok dJ20_numberOfTrailingZeros_58 rfl 1 rfl ?_
    refine zg_iconst (v := 4) ok dJ20_numberOfTrailingZeros_59 (by decide) ?_
    refine zg_iushr ok dJ20_numberOfTrailingZeros_60 ?_
    refine zg_letI hE (fun v5 hE => ?_)
    refine zg_istore_n (L' := [(0, .int v5), (1, .int v4)]) ok dJ20_numberOfTrailingZeros_61 rfl (by decide) rfl ?_
    exact gt_f_J20_numberOfTrailingZeros_J62 hl ok tab fin hRm  hE
set_option maxHeartbeats 8000000 in
theorem gt_f_J20_numberOfTrailingZeros_J34 {Xc : zw_X} {Q : Int32 → zw_H → Prop} {X : String → Nat → zw_H → Prop} (hl : (zw_l Xc).stackTraces = false) (ok : zw_ok Xc cJ20_numberOfTrailingZeros "java/lang/Integer" yJ20_numberOfTrailingZeros.name 2) (tab : zw_tab Xc []) (fin : zw_fin Xc (Option.some Jvm.ClassFile.FieldType.int) (zq_I Q) X 0 0) (hRm : zw_rm Xc = rm_J20_numberOfTrailingZeros)  {l0 : Int32} {l1 : Int32}  {h : zw_H} (hE : f_J20_numberOfTrailingZeros_J34 (zw_Zf Xc).2.2.2 Q X  l0 l1 h) : zw_G Xc 0 0 2 h 34 [(0, .int l0), (1, .int l1)] [] := by
  unfold f_J20_numberOfTrailingZeros_J34 at hE
  refine zg_iload_n ok dJ20_numberOfTrailingZeros_34 rfl 0 rfl ?_
  refine zg_sipush (v := 256) ok dJ20_numberOfTrailingZeros_35 (by decide) ?_
  refine zg_icmp_le (tgt := 49) ok dJ20_numberOfTrailingZeros_38 (by decide) hE (fun hE => ?_) (fun hE => ?_)
  · exact gt_f_J20_numberOfTrailingZeros_J49 hl ok tab fin hRm  hE
  · refine zg_iincL (k := 1) (L' := fun v6 => [(1, .int v6), (0, .int l0)]) ok dJ20_numberOfTrailingZeros_41 (by decide +kernel) hE rfl (by decide) (fun _ => rfl) (fun v6 hE => ?_)
    refine zg_iload_n ok dJ20_numberOfTrailingZeros_44 rfl 1 rfl ?_
    refine zg_bipush (v := 8) ok dJ20_numberOfTrailingZeros_45 (by decide) ?_
    refine zg_iushr ok dJ20_numberOfTrailingZeros_47 ?_
    refine zg_letI hE (fun v7 hE => ?_)
    refine zg_istore_n (L' := [(0, .int v7), (1, .int v6)]) ok dJ20_numberOfTrailingZeros_48 rfl (by decide) rfl ?_
    exact gt_f_J20_numberOfTrailingZeros_J49 hl ok tab fin hRm  hE
set_option maxHeartbeats 8000000 in
theorem mt_J20_numberOfTrailingZeros {l : Launch} (hl : l.stackTraces = false) {Z : zw_Z} {a0 : Int32} {h : zw_H} {Q : Int32 → zw_H → Prop} {X : String → Nat → zw_H → Prop} (hE : f_J20_numberOfTrailingZeros Z.2.2.2 a0 h Q X) : zw_Met l Z yJ20_numberOfTrailingZeros (ws_ yJ20_numberOfTrailingZeros cJ20_numberOfTrailingZeros 2 (Option.some Jvm.ClassFile.FieldType.int)) rm_J20_numberOfTrailingZeros [zI a0] h (zq_I Q) X := by
  refine zg_startF (own := "java/lang/Integer") (by decide +kernel) rfl (Nat.le_of_ble_eq_true rfl) hl (fun Xc ok tab fin hRm hXl hXZ => ?_)
  subst hXl
  subst hXZ
  unfold f_J20_numberOfTrailingZeros at hE
  refine zg_iload_n ok dJ20_numberOfTrailingZeros_0 rfl 0 rfl ?_
  refine zg_iconst (v := (-1)) ok dJ20_numberOfTrailingZeros_1 (by decide) ?_
  refine zg_ixor ok dJ20_numberOfTrailingZeros_2 ?_
  refine zg_iload_n ok dJ20_numberOfTrailingZeros_3 rfl 0 rfl ?_
  refine zg_iconst (v := 1) ok dJ20_numberOfTrailingZeros_4 (by decide) ?_
  refine zg_isub ok dJ20_numberOfTrailingZeros_5 ?_
  refine zg_iand ok dJ20_numberOfTrailingZeros_6 ?_
  refine zg_letI hE (fun v1 hE => ?_)
  refine zg_istore_n (L' := [(0, .int v1)]) ok dJ20_numberOfTrailingZeros_7 rfl (by decide) rfl ?_
  refine zg_iload_n ok dJ20_numberOfTrailingZeros_8 rfl 0 rfl ?_
  refine zg_if_gt (tgt := 17) ok dJ20_numberOfTrailingZeros_9 (by decide) hE (fun hE => ?_) (fun hE => ?_)
  · refine zg_iconst (v := 1) ok dJ20_numberOfTrailingZeros_17 (by decide) ?_
    refine zg_istore_n (L' := [(1, .int 1), (0, .int v1)]) ok dJ20_numberOfTrailingZeros_18 rfl (by decide) rfl ?_
    refine zg_iload_n ok dJ20_numberOfTrailingZeros_19 rfl 1 rfl ?_
    refine zg_ldcw (v := (65536 : Int32)) ok q1346 dJ20_numberOfTrailingZeros_20 ?_
    refine zg_icmp_le (tgt := 34) ok dJ20_numberOfTrailingZeros_23 (by decide) hE (fun hE => ?_) (fun hE => ?_)
    · refine zg_sub (L' := [(0, .int v1), (1, .int 1)]) [1, 0] rfl ?_
      exact gt_f_J20_numberOfTrailingZeros_J34 hl ok tab fin hRm  hE
    · refine zg_iincL (k := 0) (L' := fun v8 => [(1, .int v8), (0, .int v1)]) ok dJ20_numberOfTrailingZeros_26 (by decide +kernel) hE rfl (by decide) (fun _ => rfl) (fun v8 hE => ?_)
      refine zg_iload_n ok dJ20_numberOfTrailingZeros_29 rfl 1 rfl ?_
      refine zg_bipush (v := 16) ok dJ20_numberOfTrailingZeros_30 (by decide) ?_
      refine zg_iushr ok dJ20_numberOfTrailingZeros_32 ?_
      refine zg_letI hE (fun v9 hE => ?_)
      refine zg_istore_n (L' := [(0, .int v9), (1, .int v8)]) ok dJ20_numberOfTrailingZeros_33 rfl (by decide) rfl ?_
      exact gt_f_J20_numberOfTrailingZeros_J34 hl ok tab fin hRm  hE
  · refine zg_iload_n ok dJ20_numberOfTrailingZeros_12 rfl 0 rfl ?_
    refine zg_bipush (v := 32) ok dJ20_numberOfTrailingZeros_13 (by decide) ?_
    refine zg_iand ok dJ20_numberOfTrailingZeros_15 ?_
    exact zg_iret ok fin dJ20_numberOfTrailingZeros_16 ⟨Nat.le_of_ble_eq_true rfl, Nat.le_of_ble_eq_true rfl⟩ hE
set_option maxHeartbeats 8000000 in
theorem mt_J26_numberOfTrailingZeros {l : Launch} (hl : l.stackTraces = false) {Z : zw_Z} {a0 : Int64} {h : zw_H} {Q : Int32 → zw_H → Prop} {X : String → Nat → zw_H → Prop} (hE : f_J26_numberOfTrailingZeros Z.2.2.2 a0 h Q X) : zw_Met l Z yJ26_numberOfTrailingZeros (ws_ yJ26_numberOfTrailingZeros cJ26_numberOfTrailingZeros 3 (Option.some Jvm.ClassFile.FieldType.int)) rm_J26_numberOfTrailingZeros [zJ a0] h (zq_I Q) X := by
  refine zg_startF (own := "java/lang/Long") (by decide +kernel) rfl (Nat.le_of_ble_eq_true rfl) hl (fun Xc ok tab fin hRm hXl hXZ => ?_)
  subst hXl
  subst hXZ
  unfold f_J26_numberOfTrailingZeros at hE
  refine zg_lload_n ok dJ26_numberOfTrailingZeros_0 rfl 0 rfl ?_
  refine zg_l2i ok dJ26_numberOfTrailingZeros_1 ?_
  refine zg_istore_n (L' := [(2, .int a0.toInt32), (0, .long a0)]) ok dJ26_numberOfTrailingZeros_2 rfl (by decide) rfl ?_
  refine zg_iload_n ok dJ26_numberOfTrailingZeros_3 rfl 0 rfl ?_
  refine zg_if_ne (tgt := 21) ok dJ26_numberOfTrailingZeros_4 (by decide) hE (fun hE => ?_) (fun hE => ?_)
  · refine zg_iload_n ok dJ26_numberOfTrailingZeros_21 rfl 0 rfl ?_
    refine zg_callS (vs := [zI a0.toInt32]) (rest := []) (rm := rm_J20_numberOfTrailingZeros) ok hRm lk_J26_311 dJ26_numberOfTrailingZeros_22 hE (fun hE => mt_J20_numberOfTrailingZeros hl hE) rfl (Nat.le_of_ble_eq_true rfl) ⟨⟨Nat.le_of_ble_eq_true rfl, Nat.le_of_ble_eq_true rfl⟩, Nat.le_of_ble_eq_true rfl, Nat.le_of_ble_eq_true rfl⟩ (zg_retI (fun v1 h1 hE => ?_)) (zg_xok ok tab fin ⟨Nat.le_of_ble_eq_true rfl, Nat.le_of_ble_eq_true rfl⟩)
    refine zg_cost (kc2 := 0) (ks2 := 0) ⟨rfl, rfl⟩ ?_
    exact zg_iret ok fin dJ26_numberOfTrailingZeros_25 ⟨Nat.le_of_ble_eq_true rfl, Nat.le_of_ble_eq_true rfl⟩ hE
  · refine zg_bipush (v := 32) ok dJ26_numberOfTrailingZeros_7 (by decide) ?_
    refine zg_lload_n ok dJ26_numberOfTrailingZeros_9 rfl 1 rfl ?_
    refine zg_bipush (v := 32) ok dJ26_numberOfTrailingZeros_10 (by decide) ?_
    refine zg_lushr ok dJ26_numberOfTrailingZeros_12 ?_
    refine zg_l2i ok dJ26_numberOfTrailingZeros_13 ?_
    refine zg_callS (vs := [zI (((a0.toUInt64 >>> ((32 : Int32).toInt64.toUInt64 &&& Int64.toUInt64 63)).toInt64).toInt32)]) (rest := [.int 32]) (rm := rm_J20_numberOfTrailingZeros) ok hRm lk_J26_311 dJ26_numberOfTrailingZeros_14 hE (fun hE => mt_J20_numberOfTrailingZeros hl hE) rfl (Nat.le_of_ble_eq_true rfl) ⟨⟨Nat.le_of_ble_eq_true rfl, Nat.le_of_ble_eq_true rfl⟩, Nat.le_of_ble_eq_true rfl, Nat.le_of_ble_eq_true rfl⟩ (zg_retI (fun v2 h2 hE => ?_)) (zg_xok ok tab fin ⟨Nat.le_of_ble_eq_true rfl, Nat.le_of_ble_eq_true rfl⟩)
    refine zg_cost (kc2 := 0) (ks2 := 0) ⟨rfl, rfl⟩ ?_
    refine zg_iadd ok dJ26_numberOfTrailingZeros_17 ?_
    refine zg_goto (tgt := 25) ok dJ26_numberOfTrailingZeros_18 (by decide) ?_
    exact zg_iret ok fin dJ26_numberOfTrailingZeros_25 ⟨Nat.le_of_ble_eq_true rfl, Nat.le_of_ble_eq_true rfl⟩ hE
set_option maxHeartbeats 8000000 in
theorem gt_f_J25_nextClearBit_B67 {Xc : zw_X} {Q : Int32 → zw_H → Prop} {X : String → Nat → zw_H → Prop} (hl : (zw_l Xc).stackTraces = false) (ok : zw_ok Xc cJ25_nextClearBit "java/util/BitSet" yJ25_nextClearBit.name 5) (tab : zw_tab Xc []) (fin : zw_fin Xc (Option.some Jvm.ClassFile.FieldType.int) (zq_I Q) X 0 0) (hRm : zw_rm Xc = rm_J25_nextClearBit) {kc ks : Nat} (hb : kc ≤ 0 ∧ ks ≤ 0) {R : Int32 → Int64 → zw_H → Prop} {l0 : Option Nat} (hR : ∀ (l2 : Int32) (l3 : Int64) (h : zw_H), R l2 l3 h → zw_G Xc kc ks 5 h 67 [(0, va_rf l0), (2, .int l2), (3, .long l3)] []) {k73 : Int32 → Int64 → zw_H → Prop} (hk73 : ∀ (l2 : Int32) (l3 : Int64) (h : zw_H), k73 l2 l3 h → zw_G Xc kc ks 5 h 73 [(2, .int l2), (3, .long l3)] []) {k94 : zw_H → Prop} (hk94 : ∀  (h : zw_H), k94  h → zw_G Xc kc ks 5 h 94 [(0, va_rf l0)] [])  {l2 : Int32} {l3 : Int64} {h : zw_H} (hE : f_J25_nextClearBit_B67 (zw_Zf Xc).2.2.2 Q X k73 k94 l0 R l2 l3 h) : zw_G Xc kc ks 5 h 67 [(0, va_rf l0), (2, .int l2), (3, .long l3)] [] := by
  unfold f_J25_nextClearBit_B67 at hE
  refine zg_lload_n ok dJ25_nextClearBit_67 rfl 2 rfl ?_
  refine zg_lconst (v := 0) ok dJ25_nextClearBit_68 (by decide) ?_
  refine zg_lcmp ok dJ25_nextClearBit_69 ?_
  refine zg_if_eq (tgt := 83) ok dJ25_nextClearBit_70 (by decide) hE (fun hE => ?_) (fun hE => ?_)
  · refine zg_iincL (k := 1) (L' := fun v6 => [(2, .int v6), (0, va_rf l0), (3, .long l3)]) ok dJ25_nextClearBit_83 (by decide +kernel) hE rfl (by decide) (fun _ => rfl) (fun v6 hE => ?_)
    refine zg_iload_n ok dJ25_nextClearBit_86 rfl 0 rfl ?_
    refine zg_aload_n ok dJ25_nextClearBit_87 rfl 1 rfl ?_
    refine zg_getI ok lf_J25_7 dJ25_nextClearBit_88 hE (fun v7 hE => ?_)
    refine zg_icmp_ne (tgt := 102) ok dJ25_nextClearBit_91 (by decide) hE (fun hE => ?_) (fun hE => ?_)
    · refine zg_aload_n ok dJ25_nextClearBit_102 rfl 1 rfl ?_
      refine zg_getA ok lf_J25_11 dJ25_nextClearBit_103 hE (fun v8 hE => ?_)
      refine zg_iload_n ok dJ25_nextClearBit_106 rfl 0 rfl ?_
      refine zg_lald ok dJ25_nextClearBit_107 hE (fun v9 hE => ?_)
      refine zg_ldc2 (v := (-1 : Int64)) ok q1339 dJ25_nextClearBit_108 ?_
      refine zg_lxor ok dJ25_nextClearBit_111 ?_
      refine zg_letJ hE (fun v10 hE => ?_)
      refine zg_lstore_n (L' := [(3, .long v10), (2, .int v6), (0, va_rf l0)]) ok dJ25_nextClearBit_112 rfl (by decide) rfl ?_
      refine zg_goto (tgt := 67) ok dJ25_nextClearBit_113 (by decide) ?_
      refine zg_sub (L' := [(0, va_rf l0), (2, .int v6), (3, .long v10)]) [2, 1, 0] rfl ?_
      exact hR _ _ _ hE
    · refine zg_sub (L' := [(0, va_rf l0)]) [1] rfl ?_
      exact hk94 _ hE
  · refine zg_sub (L' := [(2, .int l2), (3, .long l3)]) [1, 2] rfl ?_
    exact hk73 _ _ _ hE
theorem gt_f_J25_nextClearBit_L67 {Xc : zw_X} {Q : Int32 → zw_H → Prop} {X : String → Nat → zw_H → Prop} (hl : (zw_l Xc).stackTraces = false) (ok : zw_ok Xc cJ25_nextClearBit "java/util/BitSet" yJ25_nextClearBit.name 5) (tab : zw_tab Xc []) (fin : zw_fin Xc (Option.some Jvm.ClassFile.FieldType.int) (zq_I Q) X 0 0) (hRm : zw_rm Xc = rm_J25_nextClearBit) {kc ks : Nat} (hb : kc ≤ 0 ∧ ks ≤ 0) {l0 : Option Nat} {k73 : Int32 → Int64 → zw_H → Prop} (hk73 : ∀ (l2 : Int32) (l3 : Int64) (h : zw_H), k73 l2 l3 h → zw_G Xc kc ks 5 h 73 [(2, .int l2), (3, .long l3)] []) {k94 : zw_H → Prop} (hk94 : ∀  (h : zw_H), k94  h → zw_G Xc kc ks 5 h 94 [(0, va_rf l0)] [])  : ∀ (n9 : Nat) (l2 : Int32) (l3 : Int64) (h : zw_H), zl3 (f_J25_nextClearBit_B67 (zw_Zf Xc).2.2.2 Q X k73 k94 l0) n9 l2 l3 h → zw_G Xc kc ks 5 h 67 [(0, va_rf l0), (2, .int l2), (3, .long l3)] [] := by
  intro n9
  induction n9 with
  | zero => intro l2 l3 h hE; exact hE.elim
  | succ n9 ih => intro l2 l3 h hE; exact gt_f_J25_nextClearBit_B67 hl ok tab fin hRm hb ih hk73 hk94 hE
set_option maxHeartbeats 8000000 in
theorem mt_J25_nextClearBit {l : Launch} (hl : l.stackTraces = false) {Z : zw_Z} {a0 : Option Nat} {a1 : Int32} {h : zw_H} {Q : Int32 → zw_H → Prop} {X : String → Nat → zw_H → Prop} (hE : f_J25_nextClearBit Z.2.2.2 a0 a1 h Q X) : zw_Met l Z yJ25_nextClearBit (ws_ yJ25_nextClearBit cJ25_nextClearBit 5 (Option.some Jvm.ClassFile.FieldType.int)) rm_J25_nextClearBit [zA a0, zI a1] h (zq_I Q) X := by
  refine zg_start (own := "java/util/BitSet") (by decide +kernel) rfl (Nat.le_of_ble_eq_true rfl) hl (fun Xc ok tab fin hRm hXl hXZ => ?_)
  subst hXl
  subst hXZ
  unfold f_J25_nextClearBit at hE
  refine zg_iload_n ok dJ25_nextClearBit_0 rfl 1 rfl ?_
  refine zg_if_ge (tgt := 31) ok dJ25_nextClearBit_1 (by decide) hE (fun hE => ?_) (fun hE => ?_)
  · refine zg_aload_n ok dJ25_nextClearBit_31 rfl 0 rfl ?_
    refine zg_callV (vs := []) (rest := []) (rm := rm_J25_checkInvariants) ok hRm lk_J25_56 dJ25_nextClearBit_32 hE (fun hE => mt_J25_checkInvariants hl hE) rfl (Nat.le_of_ble_eq_true rfl) ⟨⟨Nat.le_of_ble_eq_true rfl, Nat.le_of_ble_eq_true rfl⟩, Nat.le_of_ble_eq_true rfl, Nat.le_of_ble_eq_true rfl⟩ (zg_retV (fun h1 hE => ?_)) (zg_xok ok tab fin ⟨Nat.le_of_ble_eq_true rfl, Nat.le_of_ble_eq_true rfl⟩)
    refine zg_cost (kc2 := 0) (ks2 := 0) ⟨rfl, rfl⟩ ?_
    refine zg_iload_n ok dJ25_nextClearBit_35 rfl 1 rfl ?_
    refine zg_callS (vs := [zI a1]) (rest := []) (rm := rm_J25_wordIndex) ok hRm lk_J25_52 dJ25_nextClearBit_36 hE (fun hE => mt_J25_wordIndex hl hE) rfl (Nat.le_of_ble_eq_true rfl) ⟨⟨Nat.le_of_ble_eq_true rfl, Nat.le_of_ble_eq_true rfl⟩, Nat.le_of_ble_eq_true rfl, Nat.le_of_ble_eq_true rfl⟩ (zg_retI (fun v1 h2 hE => ?_)) (zg_xok ok tab fin ⟨Nat.le_of_ble_eq_true rfl, Nat.le_of_ble_eq_true rfl⟩)
    refine zg_cost (kc2 := 0) (ks2 := 0) ⟨rfl, rfl⟩ ?_
    refine zg_istore_n (L' := [(2, .int v1), (0, va_rf a0), (1, .int a1)]) ok dJ25_nextClearBit_39 rfl (by decide) rfl ?_
    refine zg_iload_n ok dJ25_nextClearBit_40 rfl 0 rfl ?_
    refine zg_aload_n ok dJ25_nextClearBit_41 rfl 1 rfl ?_
    refine zg_getI ok lf_J25_7 dJ25_nextClearBit_42 hE (fun v2 hE => ?_)
    refine zg_icmp_lt (tgt := 50) ok dJ25_nextClearBit_45 (by decide) hE (fun hE => ?_) (fun hE => ?_)
    · refine zg_aload_n ok dJ25_nextClearBit_50 rfl 1 rfl ?_
      refine zg_getA ok lf_J25_11 dJ25_nextClearBit_51 hE (fun v3 hE => ?_)
      refine zg_iload_n ok dJ25_nextClearBit_54 rfl 0 rfl ?_
      refine zg_lald ok dJ25_nextClearBit_55 hE (fun v4 hE => ?_)
      refine zg_ldc2 (v := (-1 : Int64)) ok q1339 dJ25_nextClearBit_56 ?_
      refine zg_lxor ok dJ25_nextClearBit_59 ?_
      refine zg_ldc2 (v := (-1 : Int64)) ok q1339 dJ25_nextClearBit_60 ?_
      refine zg_iload_n ok dJ25_nextClearBit_63 rfl 2 rfl ?_
      refine zg_lshl ok dJ25_nextClearBit_64 ?_
      refine zg_land ok dJ25_nextClearBit_65 ?_
      refine zg_letJ hE (fun v5 hE => ?_)
      refine zg_lstore_n (L' := [(3, .long v5), (2, .int v1), (0, va_rf a0), (1, .int a1)]) ok dJ25_nextClearBit_66 rfl (by decide) rfl ?_
      refine zg_sub (L' := [(0, va_rf a0), (2, .int v1), (3, .long v5)]) [2, 1, 0] rfl ?_
      refine gt_f_J25_nextClearBit_L67 hl ok tab fin hRm ⟨Nat.le_of_ble_eq_true rfl, Nat.le_of_ble_eq_true rfl⟩ ?_ ?_ _ _ _ _ hE
      · intro v11 v12 h3 hE
        refine zg_iload_n ok dJ25_nextClearBit_73 rfl 0 rfl ?_
        refine zg_bipush (v := 64) ok dJ25_nextClearBit_74 (by decide) ?_
        refine zg_imul ok dJ25_nextClearBit_76 ?_
        refine zg_lload_n ok dJ25_nextClearBit_77 rfl 1 rfl ?_
        refine zg_callS (vs := [zJ v12]) (rest := [.int (v11 * 64)]) (rm := rm_J26_numberOfTrailingZeros) ok hRm lk_J25_182 dJ25_nextClearBit_78 hE (fun hE => mt_J26_numberOfTrailingZeros hl hE) rfl (Nat.le_of_ble_eq_true rfl) ⟨⟨Nat.le_of_ble_eq_true rfl, Nat.le_of_ble_eq_true rfl⟩, Nat.le_of_ble_eq_true rfl, Nat.le_of_ble_eq_true rfl⟩ (zg_retI (fun v13 h4 hE => ?_)) (zg_xok ok tab fin ⟨Nat.le_of_ble_eq_true rfl, Nat.le_of_ble_eq_true rfl⟩)
        refine zg_cost (kc2 := 0) (ks2 := 0) ⟨rfl, rfl⟩ ?_
        refine zg_iadd ok dJ25_nextClearBit_81 ?_
        exact zg_iret ok fin dJ25_nextClearBit_82 ⟨Nat.le_of_ble_eq_true rfl, Nat.le_of_ble_eq_true rfl⟩ hE
      · intro h5 hE
        refine zg_aload_n ok dJ25_nextClearBit_94 rfl 0 rfl ?_
        refine zg_getI ok lf_J25_7 dJ25_nextClearBit_95 hE (fun v14 hE => ?_)
        refine zg_bipush (v := 64) ok dJ25_nextClearBit_98 (by decide) ?_
        refine zg_imul ok dJ25_nextClearBit_100 ?_
        exact zg_iret ok fin dJ25_nextClearBit_101 ⟨Nat.le_of_ble_eq_true rfl, Nat.le_of_ble_eq_true rfl⟩ hE
    · refine zg_iload_n ok dJ25_nextClearBit_48 rfl 2 rfl ?_
      exact zg_iret ok fin dJ25_nextClearBit_49 ⟨Nat.le_of_ble_eq_true rfl, Nat.le_of_ble_eq_true rfl⟩ hE
  · exact hE.elim
set_option maxHeartbeats 8000000 in
theorem mt_X1_firstEmpty {l : Launch} (hl : l.stackTraces = false) {Z : zw_Z} {a0 : Option Nat} {h : zw_H} {Q : Int32 → zw_H → Prop} {X : String → Nat → zw_H → Prop} (hE : f_X1_firstEmpty Z.2.2.2 a0 h Q X) : zw_Met l Z yX1_firstEmpty (ws_ yX1_firstEmpty cX1_firstEmpty 2 (Option.some Jvm.ClassFile.FieldType.int)) rm_X1_firstEmpty [zA a0] h (zq_I Q) X := by
  refine zg_start (own := "MultipoleLine") (by decide +kernel) rfl (Nat.le_of_ble_eq_true rfl) hl (fun Xc ok tab fin hRm hXl hXZ => ?_)
  subst hXl
  subst hXZ
  unfold f_X1_firstEmpty at hE
  refine zg_aload_n ok dX1_firstEmpty_0 rfl 0 rfl ?_
  refine zg_callV (vs := []) (rest := []) (rm := rm_X1_loaded) ok hRm lk_X1_76 dX1_firstEmpty_1 hE (fun hE => mt_X1_loaded hl hE) rfl (Nat.le_of_ble_eq_true rfl) ⟨⟨Nat.le_of_ble_eq_true rfl, Nat.le_of_ble_eq_true rfl⟩, Nat.le_of_ble_eq_true rfl, Nat.le_of_ble_eq_true rfl⟩ (zg_retA (fun v1 h1 hE => ?_)) (zg_xok ok tab fin ⟨Nat.le_of_ble_eq_true rfl, Nat.le_of_ble_eq_true rfl⟩)
  refine zg_cost (kc2 := 1) (ks2 := 6) ⟨rfl, rfl⟩ ?_
  refine zg_callV (vs := []) (rest := []) (rm := rm_X4_leaves) ok hRm lk_X1_158 dX1_firstEmpty_4 hE (fun hE => mt_X4_leaves hl hE) rfl (Nat.le_of_ble_eq_true rfl) ⟨⟨Nat.le_of_ble_eq_true rfl, Nat.le_of_ble_eq_true rfl⟩, Nat.le_of_ble_eq_true rfl, Nat.le_of_ble_eq_true rfl⟩ (zg_retA (fun v2 h2 hE => ?_)) (zg_xok ok tab fin ⟨Nat.le_of_ble_eq_true rfl, Nat.le_of_ble_eq_true rfl⟩)
  refine zg_cost (kc2 := 3) (ks2 := 13) ⟨rfl, rfl⟩ ?_
  refine zg_iconst (v := 0) ok dX1_firstEmpty_7 (by decide) ?_
  refine zg_callV (vs := [zI 0]) (rest := []) (rm := rm_J25_nextClearBit) ok hRm lk_X1_221 dX1_firstEmpty_8 hE (fun hE => mt_J25_nextClearBit hl hE) rfl (Nat.le_of_ble_eq_true rfl) ⟨⟨Nat.le_of_ble_eq_true rfl, Nat.le_of_ble_eq_true rfl⟩, Nat.le_of_ble_eq_true rfl, Nat.le_of_ble_eq_true rfl⟩ (zg_retI (fun v3 h3 hE => ?_)) (zg_xok ok tab fin ⟨Nat.le_of_ble_eq_true rfl, Nat.le_of_ble_eq_true rfl⟩)
  refine zg_cost (kc2 := 3) (ks2 := 13) ⟨rfl, rfl⟩ ?_
  refine zg_istore_nR (L' := [(1, .int v3), (0, va_rf a0)]) ok dX1_firstEmpty_11 rfl (by decide) 0 rfl rfl rfl ?_
  refine zg_iload_n ok dX1_firstEmpty_12 rfl 0 rfl ?_
  refine zg_iconst (v := 1) ok dX1_firstEmpty_13 (by decide) ?_
  refine zg_aload_n ok dX1_firstEmpty_14 rfl 1 rfl ?_
  refine zg_getA ok lf_X1_68 dX1_firstEmpty_15 hE (fun v4 hE => ?_)
  refine zg_getI ok lf_X1_101 dX1_firstEmpty_18 hE (fun v5 hE => ?_)
  refine zg_ishl ok dX1_firstEmpty_21 ?_
  refine zg_icmp_ge (tgt := 29) ok dX1_firstEmpty_22 (by decide) hE (fun hE => ?_) (fun hE => ?_)
  · refine zg_iconst (v := (-1)) ok dX1_firstEmpty_29 (by decide) ?_
    exact zg_iret ok fin dX1_firstEmpty_30 ⟨Nat.le_of_ble_eq_true rfl, Nat.le_of_ble_eq_true rfl⟩ hE
  · refine zg_iload_n ok dX1_firstEmpty_25 rfl 0 rfl ?_
    refine zg_goto (tgt := 30) ok dX1_firstEmpty_26 (by decide) ?_
    exact zg_iret ok fin dX1_firstEmpty_30 ⟨Nat.le_of_ble_eq_true rfl, Nat.le_of_ble_eq_true rfl⟩ hE
set_option maxHeartbeats 8000000 in
theorem gt_f_J25_nextSetBit_B63 {Xc : zw_X} {Q : Int32 → zw_H → Prop} {X : String → Nat → zw_H → Prop} (hl : (zw_l Xc).stackTraces = false) (ok : zw_ok Xc cJ25_nextSetBit "java/util/BitSet" yJ25_nextSetBit.name 5) (tab : zw_tab Xc []) (fin : zw_fin Xc (Option.some Jvm.ClassFile.FieldType.int) (zq_I Q) X 0 0) (hRm : zw_rm Xc = rm_J25_nextSetBit) {kc ks : Nat} (hb : kc ≤ 0 ∧ ks ≤ 0) {R : Int32 → Int64 → zw_H → Prop} {l0 : Option Nat} (hR : ∀ (l2 : Int32) (l3 : Int64) (h : zw_H), R l2 l3 h → zw_G Xc kc ks 5 h 63 [(0, va_rf l0), (2, .int l2), (3, .long l3)] []) {k69 : Int32 → Int64 → zw_H → Prop} (hk69 : ∀ (l2 : Int32) (l3 : Int64) (h : zw_H), k69 l2 l3 h → zw_G Xc kc ks 5 h 69 [(2, .int l2), (3, .long l3)] []) {k90 : zw_H → Prop} (hk90 : ∀  (h : zw_H), k90  h → zw_G Xc kc ks 5 h 90 [] [])  {l2 : Int32} {l3 : Int64} {h : zw_H} (hE : f_J25_nextSetBit_B63 (zw_Zf Xc).2.2.2 Q X k69 k90 l0 R l2 l3 h) : zw_G Xc kc ks 5 h 63 [(0, va_rf l0), (2, .int l2), (3, .long l3)] [] := by
  unfold f_J25_nextSetBit_B63 at hE
  refine zg_lload_n ok dJ25_nextSetBit_63 rfl 2 rfl ?_
  refine zg_lconst (v := 0) ok dJ25_nextSetBit_64 (by decide) ?_
  refine zg_lcmp ok dJ25_nextSetBit_65 ?_
  refine zg_if_eq (tgt := 79) ok dJ25_nextSetBit_66 (by decide) hE (fun hE => ?_) (fun hE => ?_)
  · refine zg_iincL (k := 1) (L' := fun v6 => [(2, .int v6), (0, va_rf l0), (3, .long l3)]) ok dJ25_nextSetBit_79 (by decide +kernel) hE rfl (by decide) (fun _ => rfl) (fun v6 hE => ?_)
    refine zg_iload_n ok dJ25_nextSetBit_82 rfl 0 rfl ?_
    refine zg_aload_n ok dJ25_nextSetBit_83 rfl 1 rfl ?_
    refine zg_getI ok lf_J25_7 dJ25_nextSetBit_84 hE (fun v7 hE => ?_)
    refine zg_icmp_ne (tgt := 92) ok dJ25_nextSetBit_87 (by decide) hE (fun hE => ?_) (fun hE => ?_)
    · refine zg_aload_n ok dJ25_nextSetBit_92 rfl 1 rfl ?_
      refine zg_getA ok lf_J25_11 dJ25_nextSetBit_93 hE (fun v8 hE => ?_)
      refine zg_iload_n ok dJ25_nextSetBit_96 rfl 0 rfl ?_
      refine zg_lald ok dJ25_nextSetBit_97 hE (fun v9 hE => ?_)
      refine zg_lstore_n (L' := [(3, .long v9), (2, .int v6), (0, va_rf l0)]) ok dJ25_nextSetBit_98 rfl (by decide) rfl ?_
      refine zg_goto (tgt := 63) ok dJ25_nextSetBit_99 (by decide) ?_
      refine zg_sub (L' := [(0, va_rf l0), (2, .int v6), (3, .long v9)]) [2, 1, 0] rfl ?_
      exact hR _ _ _ hE
    · refine zg_sub (L' := []) [] rfl ?_
      exact hk90 _ hE
  · refine zg_sub (L' := [(2, .int l2), (3, .long l3)]) [1, 2] rfl ?_
    exact hk69 _ _ _ hE
theorem gt_f_J25_nextSetBit_L63 {Xc : zw_X} {Q : Int32 → zw_H → Prop} {X : String → Nat → zw_H → Prop} (hl : (zw_l Xc).stackTraces = false) (ok : zw_ok Xc cJ25_nextSetBit "java/util/BitSet" yJ25_nextSetBit.name 5) (tab : zw_tab Xc []) (fin : zw_fin Xc (Option.some Jvm.ClassFile.FieldType.int) (zq_I Q) X 0 0) (hRm : zw_rm Xc = rm_J25_nextSetBit) {kc ks : Nat} (hb : kc ≤ 0 ∧ ks ≤ 0) {l0 : Option Nat} {k69 : Int32 → Int64 → zw_H → Prop} (hk69 : ∀ (l2 : Int32) (l3 : Int64) (h : zw_H), k69 l2 l3 h → zw_G Xc kc ks 5 h 69 [(2, .int l2), (3, .long l3)] []) {k90 : zw_H → Prop} (hk90 : ∀  (h : zw_H), k90  h → zw_G Xc kc ks 5 h 90 [] [])  : ∀ (n9 : Nat) (l2 : Int32) (l3 : Int64) (h : zw_H), zl3 (f_J25_nextSetBit_B63 (zw_Zf Xc).2.2.2 Q X k69 k90 l0) n9 l2 l3 h → zw_G Xc kc ks 5 h 63 [(0, va_rf l0), (2, .int l2), (3, .long l3)] [] := by
  intro n9
  induction n9 with
  | zero => intro l2 l3 h hE; exact hE.elim
  | succ n9 ih => intro l2 l3 h hE; exact gt_f_J25_nextSetBit_B63 hl ok tab fin hRm hb ih hk69 hk90 hE
set_option maxHeartbeats 8000000 in
theorem mt_J25_nextSetBit {l : Launch} (hl : l.stackTraces = false) {Z : zw_Z} {a0 : Option Nat} {a1 : Int32} {h : zw_H} {Q : Int32 → zw_H → Prop} {X : String → Nat → zw_H → Prop} (hE : f_J25_nextSetBit Z.2.2.2 a0 a1 h Q X) : zw_Met l Z yJ25_nextSetBit (ws_ yJ25_nextSetBit cJ25_nextSetBit 5 (Option.some Jvm.ClassFile.FieldType.int)) rm_J25_nextSetBit [zA a0, zI a1] h (zq_I Q) X := by
  refine zg_start (own := "java/util/BitSet") (by decide +kernel) rfl (Nat.le_of_ble_eq_true rfl) hl (fun Xc ok tab fin hRm hXl hXZ => ?_)
  subst hXl
  subst hXZ
  unfold f_J25_nextSetBit at hE
  refine zg_iload_n ok dJ25_nextSetBit_0 rfl 1 rfl ?_
  refine zg_if_ge (tgt := 31) ok dJ25_nextSetBit_1 (by decide) hE (fun hE => ?_) (fun hE => ?_)
  · refine zg_aload_n ok dJ25_nextSetBit_31 rfl 0 rfl ?_
    refine zg_callV (vs := []) (rest := []) (rm := rm_J25_checkInvariants) ok hRm lk_J25_56 dJ25_nextSetBit_32 hE (fun hE => mt_J25_checkInvariants hl hE) rfl (Nat.le_of_ble_eq_true rfl) ⟨⟨Nat.le_of_ble_eq_true rfl, Nat.le_of_ble_eq_true rfl⟩, Nat.le_of_ble_eq_true rfl, Nat.le_of_ble_eq_true rfl⟩ (zg_retV (fun h1 hE => ?_)) (zg_xok ok tab fin ⟨Nat.le_of_ble_eq_true rfl, Nat.le_of_ble_eq_true rfl⟩)
    refine zg_cost (kc2 := 0) (ks2 := 0) ⟨rfl, rfl⟩ ?_
    refine zg_iload_n ok dJ25_nextSetBit_35 rfl 1 rfl ?_
    refine zg_callS (vs := [zI a1]) (rest := []) (rm := rm_J25_wordIndex) ok hRm lk_J25_52 dJ25_nextSetBit_36 hE (fun hE => mt_J25_wordIndex hl hE) rfl (Nat.le_of_ble_eq_true rfl) ⟨⟨Nat.le_of_ble_eq_true rfl, Nat.le_of_ble_eq_true rfl⟩, Nat.le_of_ble_eq_true rfl, Nat.le_of_ble_eq_true rfl⟩ (zg_retI (fun v1 h2 hE => ?_)) (zg_xok ok tab fin ⟨Nat.le_of_ble_eq_true rfl, Nat.le_of_ble_eq_true rfl⟩)
    refine zg_cost (kc2 := 0) (ks2 := 0) ⟨rfl, rfl⟩ ?_
    refine zg_istore_n (L' := [(2, .int v1), (0, va_rf a0), (1, .int a1)]) ok dJ25_nextSetBit_39 rfl (by decide) rfl ?_
    refine zg_iload_n ok dJ25_nextSetBit_40 rfl 0 rfl ?_
    refine zg_aload_n ok dJ25_nextSetBit_41 rfl 1 rfl ?_
    refine zg_getI ok lf_J25_7 dJ25_nextSetBit_42 hE (fun v2 hE => ?_)
    refine zg_icmp_lt (tgt := 50) ok dJ25_nextSetBit_45 (by decide) hE (fun hE => ?_) (fun hE => ?_)
    · refine zg_aload_n ok dJ25_nextSetBit_50 rfl 1 rfl ?_
      refine zg_getA ok lf_J25_11 dJ25_nextSetBit_51 hE (fun v3 hE => ?_)
      refine zg_iload_n ok dJ25_nextSetBit_54 rfl 0 rfl ?_
      refine zg_lald ok dJ25_nextSetBit_55 hE (fun v4 hE => ?_)
      refine zg_ldc2 (v := (-1 : Int64)) ok q1339 dJ25_nextSetBit_56 ?_
      refine zg_iload_n ok dJ25_nextSetBit_59 rfl 2 rfl ?_
      refine zg_lshl ok dJ25_nextSetBit_60 ?_
      refine zg_land ok dJ25_nextSetBit_61 ?_
      refine zg_letJ hE (fun v5 hE => ?_)
      refine zg_lstore_n (L' := [(3, .long v5), (2, .int v1), (0, va_rf a0), (1, .int a1)]) ok dJ25_nextSetBit_62 rfl (by decide) rfl ?_
      refine zg_sub (L' := [(0, va_rf a0), (2, .int v1), (3, .long v5)]) [2, 1, 0] rfl ?_
      refine gt_f_J25_nextSetBit_L63 hl ok tab fin hRm ⟨Nat.le_of_ble_eq_true rfl, Nat.le_of_ble_eq_true rfl⟩ ?_ ?_ _ _ _ _ hE
      · intro v10 v11 h3 hE
        refine zg_iload_n ok dJ25_nextSetBit_69 rfl 0 rfl ?_
        refine zg_bipush (v := 64) ok dJ25_nextSetBit_70 (by decide) ?_
        refine zg_imul ok dJ25_nextSetBit_72 ?_
        refine zg_lload_n ok dJ25_nextSetBit_73 rfl 1 rfl ?_
        refine zg_callS (vs := [zJ v11]) (rest := [.int (v10 * 64)]) (rm := rm_J26_numberOfTrailingZeros) ok hRm lk_J25_182 dJ25_nextSetBit_74 hE (fun hE => mt_J26_numberOfTrailingZeros hl hE) rfl (Nat.le_of_ble_eq_true rfl) ⟨⟨Nat.le_of_ble_eq_true rfl, Nat.le_of_ble_eq_true rfl⟩, Nat.le_of_ble_eq_true rfl, Nat.le_of_ble_eq_true rfl⟩ (zg_retI (fun v12 h4 hE => ?_)) (zg_xok ok tab fin ⟨Nat.le_of_ble_eq_true rfl, Nat.le_of_ble_eq_true rfl⟩)
        refine zg_cost (kc2 := 0) (ks2 := 0) ⟨rfl, rfl⟩ ?_
        refine zg_iadd ok dJ25_nextSetBit_77 ?_
        exact zg_iret ok fin dJ25_nextSetBit_78 ⟨Nat.le_of_ble_eq_true rfl, Nat.le_of_ble_eq_true rfl⟩ hE
      · intro h5 hE
        refine zg_iconst (v := (-1)) ok dJ25_nextSetBit_90 (by decide) ?_
        exact zg_iret ok fin dJ25_nextSetBit_91 ⟨Nat.le_of_ble_eq_true rfl, Nat.le_of_ble_eq_true rfl⟩ hE
    · refine zg_iconst (v := (-1)) ok dJ25_nextSetBit_48 (by decide) ?_
      exact zg_iret ok fin dJ25_nextSetBit_49 ⟨Nat.le_of_ble_eq_true rfl, Nat.le_of_ble_eq_true rfl⟩ hE
  · exact hE.elim
set_option maxHeartbeats 8000000 in
theorem gt_f_X1_densest_J64 {Xc : zw_X} {Q : Int32 → zw_H → Prop} {X : String → Nat → zw_H → Prop} (hl : (zw_l Xc).stackTraces = false) (ok : zw_ok Xc cX1_densest "MultipoleLine" yX1_densest.name 6) (tab : zw_tab Xc []) (fin : zw_fin Xc (Option.some Jvm.ClassFile.FieldType.int) (zq_I Q) X 3 13) (hRm : zw_rm Xc = rm_X1_densest) {kc ks : Nat} (hb : kc ≤ 3 ∧ ks ≤ 13) {R : Int32 → Int32 → Int32 → zw_H → Prop} {l0 : Option Nat} {l1 : Option Nat} (hR : ∀ (l2 : Int32) (l3 : Int32) (l4 : Int32) (h : zw_H), R l2 l3 l4 h → zw_G Xc kc ks 6 h 19 [(0, va_rf l0), (1, va_rf l1), (2, .int l2), (3, .int l3), (4, .int l4)] []) {k77 : Int32 → zw_H → Prop} (hk77 : ∀ (l2 : Int32) (h : zw_H), k77 l2 h → zw_G Xc kc ks 6 h 77 [(2, .int l2)] [])  {l2 : Int32} {l3 : Int32} {l4 : Int32}  {h : zw_H} (hE : f_X1_densest_J64 (zw_Zf Xc).2.2.2 Q X R k77 l0 l1 l2 l3 l4 h) : zw_G Xc kc ks 6 h 64 [(0, va_rf l0), (1, va_rf l1), (2, .int l2), (3, .int l3), (4, .int l4)] [] := by
  unfold f_X1_densest_J64 at hE
  refine zg_aload_n ok dX1_densest_64 rfl 1 rfl ?_
  refine zg_iload ok dX1_densest_65 4 rfl ?_
  refine zg_iconst (v := 1) ok dX1_densest_67 (by decide) ?_
  refine zg_iadd ok dX1_densest_68 ?_
  refine zg_callV (vs := [zI (l4 + 1)]) (rest := []) (rm := rm_J25_nextSetBit) ok hRm lk_X1_224 dX1_densest_69 hE (fun hE => mt_J25_nextSetBit hl hE) rfl (Nat.le_of_ble_eq_true rfl) ⟨⟨Nat.le_of_ble_eq_true rfl, Nat.le_of_ble_eq_true rfl⟩, (by show kc + 0 ≤ 3; omega), (by show ks + 0 ≤ 13; omega)⟩ (zg_retI (fun v10 h6 hE => ?_)) (zg_xok ok tab fin ⟨(by show kc + 0 ≤ 3; omega), (by show ks + 0 ≤ 13; omega)⟩)
  refine zg_cost (kc2 := kc) (ks2 := ks) ⟨(by show kc + 0 = kc; omega), (by show ks + 0 = ks; omega)⟩ ?_
  refine zg_istore (L' := [(4, .int v10), (0, va_rf l0), (1, va_rf l1), (2, .int l2), (3, .int l3)]) ok dX1_densest_72 (by decide) rfl ?_
  refine zg_goto (tgt := 19) ok dX1_densest_74 (by decide) ?_
  refine zg_sub (L' := [(0, va_rf l0), (1, va_rf l1), (2, .int l2), (3, .int l3), (4, .int v10)]) [1, 2, 3, 4, 0] rfl ?_
  exact hR _ _ _ _ hE
set_option maxHeartbeats 8000000 in
theorem gt_f_X1_densest_B19 {Xc : zw_X} {Q : Int32 → zw_H → Prop} {X : String → Nat → zw_H → Prop} (hl : (zw_l Xc).stackTraces = false) (ok : zw_ok Xc cX1_densest "MultipoleLine" yX1_densest.name 6) (tab : zw_tab Xc []) (fin : zw_fin Xc (Option.some Jvm.ClassFile.FieldType.int) (zq_I Q) X 3 13) (hRm : zw_rm Xc = rm_X1_densest) {kc ks : Nat} (hb : kc ≤ 3 ∧ ks ≤ 13) {R : Int32 → Int32 → Int32 → zw_H → Prop} {l0 : Option Nat} {l1 : Option Nat} (hR : ∀ (l2 : Int32) (l3 : Int32) (l4 : Int32) (h : zw_H), R l2 l3 l4 h → zw_G Xc kc ks 6 h 19 [(0, va_rf l0), (1, va_rf l1), (2, .int l2), (3, .int l3), (4, .int l4)] []) {k77 : Int32 → zw_H → Prop} (hk77 : ∀ (l2 : Int32) (h : zw_H), k77 l2 h → zw_G Xc kc ks 6 h 77 [(2, .int l2)] [])  {l2 : Int32} {l3 : Int32} {l4 : Int32} {h : zw_H} (hE : f_X1_densest_B19 (zw_Zf Xc).2.2.2 Q X k77 l0 l1 R l2 l3 l4 h) : zw_G Xc kc ks 6 h 19 [(0, va_rf l0), (1, va_rf l1), (2, .int l2), (3, .int l3), (4, .int l4)] [] := by
  unfold f_X1_densest_B19 at hE
  refine zg_iload ok dX1_densest_19 4 rfl ?_
  refine zg_if_lt (tgt := 77) ok dX1_densest_21 (by decide) hE (fun hE => ?_) (fun hE => ?_)
  · refine zg_sub (L' := [(2, .int l2)]) [2] rfl ?_
    exact hk77 _ _ hE
  · refine zg_aload_n ok dX1_densest_24 rfl 0 rfl ?_
    refine zg_getA ok lf_X1_68 dX1_densest_25 hE (fun v4 hE => ?_)
    refine zg_aload_n ok dX1_densest_28 rfl 0 rfl ?_
    refine zg_getA ok lf_X1_68 dX1_densest_29 hE (fun v5 hE => ?_)
    refine zg_aload_n ok dX1_densest_32 rfl 0 rfl ?_
    refine zg_getA ok lf_X1_68 dX1_densest_33 hE (fun v6 hE => ?_)
    refine zg_getI ok lf_X1_101 dX1_densest_36 hE (fun v7 hE => ?_)
    refine zg_iload ok dX1_densest_39 4 rfl ?_
    refine zg_callV (vs := [zI v7, zI l4]) (rest := [va_rf v4]) (rm := rm_X4_box) ok hRm lk_X1_104 dX1_densest_41 hE (fun hE => mt_X4_box hl hE) rfl (Nat.le_of_ble_eq_true rfl) ⟨⟨Nat.le_of_ble_eq_true rfl, Nat.le_of_ble_eq_true rfl⟩, (by show kc + 0 ≤ 3; omega), (by show ks + 0 ≤ 13; omega)⟩ (zg_retA (fun v8 h4 hE => ?_)) (zg_xok ok tab fin ⟨(by show kc + 0 ≤ 3; omega), (by show ks + 0 ≤ 13; omega)⟩)
    refine zg_cost (kc2 := kc) (ks2 := ks) ⟨(by show kc + 0 = kc; omega), (by show ks + 0 = ks; omega)⟩ ?_
    refine zg_callV (vs := [zA v8]) (rest := []) (rm := rm_X4_bodiesIn) ok hRm lk_X1_208 dX1_densest_44 hE (fun hE => mt_X4_bodiesIn hl hE) rfl (Nat.le_of_ble_eq_true rfl) ⟨⟨Nat.le_of_ble_eq_true rfl, Nat.le_of_ble_eq_true rfl⟩, (by show kc + 0 ≤ 3; omega), (by show ks + 0 ≤ 13; omega)⟩ (zg_retI (fun v9 h5 hE => ?_)) (zg_xok ok tab fin ⟨(by show kc + 0 ≤ 3; omega), (by show ks + 0 ≤ 13; omega)⟩)
    refine zg_cost (kc2 := kc) (ks2 := ks) ⟨(by show kc + 0 = kc; omega), (by show ks + 0 = ks; omega)⟩ ?_
    refine zg_istore (L' := [(5, .int v9), (0, va_rf l0), (1, va_rf l1), (2, .int l2), (3, .int l3), (4, .int l4)]) ok dX1_densest_47 (by decide) rfl ?_
    refine zg_iload ok dX1_densest_49 0 rfl ?_
    refine zg_iload_n ok dX1_densest_51 rfl 4 rfl ?_
    refine zg_icmp_gt (tgt := 58) ok dX1_densest_52 (by decide) hE (fun hE => ?_) (fun hE => ?_)
    · refine zg_iload ok dX1_densest_58 5 rfl ?_
      refine zg_istore_nR (L' := [(2, .int l4), (5, .int v9), (0, va_rf l0), (1, va_rf l1), (3, .int l3), (4, .int l4)]) ok dX1_densest_60 rfl (by decide) 2 rfl rfl rfl ?_
      refine zg_iload ok dX1_densest_61 1 rfl ?_
      refine zg_istore_n (L' := [(3, .int v9), (2, .int l4), (5, .int v9), (0, va_rf l0), (1, va_rf l1), (4, .int l4)]) ok dX1_densest_63 rfl (by decide) rfl ?_
      refine zg_sub (L' := [(0, va_rf l0), (1, va_rf l1), (2, .int l4), (3, .int v9), (4, .int l4)]) [3, 4, 1, 0, 5] rfl ?_
      exact gt_f_X1_densest_J64 hl ok tab fin hRm hb hR hk77 hE
    · refine zg_goto (tgt := 64) ok dX1_densest_55 (by decide) ?_
      refine zg_sub (L' := [(0, va_rf l0), (1, va_rf l1), (2, .int l2), (3, .int l3), (4, .int l4)]) [1, 2, 3, 4, 5] rfl ?_
      exact gt_f_X1_densest_J64 hl ok tab fin hRm hb hR hk77 hE
theorem gt_f_X1_densest_L19 {Xc : zw_X} {Q : Int32 → zw_H → Prop} {X : String → Nat → zw_H → Prop} (hl : (zw_l Xc).stackTraces = false) (ok : zw_ok Xc cX1_densest "MultipoleLine" yX1_densest.name 6) (tab : zw_tab Xc []) (fin : zw_fin Xc (Option.some Jvm.ClassFile.FieldType.int) (zq_I Q) X 3 13) (hRm : zw_rm Xc = rm_X1_densest) {kc ks : Nat} (hb : kc ≤ 3 ∧ ks ≤ 13) {l0 : Option Nat} {l1 : Option Nat} {k77 : Int32 → zw_H → Prop} (hk77 : ∀ (l2 : Int32) (h : zw_H), k77 l2 h → zw_G Xc kc ks 6 h 77 [(2, .int l2)] [])  : ∀ (n9 : Nat) (l2 : Int32) (l3 : Int32) (l4 : Int32) (h : zw_H), zl4 (f_X1_densest_B19 (zw_Zf Xc).2.2.2 Q X k77 l0 l1) n9 l2 l3 l4 h → zw_G Xc kc ks 6 h 19 [(0, va_rf l0), (1, va_rf l1), (2, .int l2), (3, .int l3), (4, .int l4)] [] := by
  intro n9
  induction n9 with
  | zero => intro l2 l3 l4 h hE; exact hE.elim
  | succ n9 ih => intro l2 l3 l4 h hE; exact gt_f_X1_densest_B19 hl ok tab fin hRm hb ih hk77 hE
set_option maxHeartbeats 8000000 in
theorem mt_X1_densest {l : Launch} (hl : l.stackTraces = false) {Z : zw_Z} {a0 : Option Nat} {h : zw_H} {Q : Int32 → zw_H → Prop} {X : String → Nat → zw_H → Prop} (hE : f_X1_densest Z.2.2.2 a0 h Q X) : zw_Met l Z yX1_densest (ws_ yX1_densest cX1_densest 6 (Option.some Jvm.ClassFile.FieldType.int)) rm_X1_densest [zA a0] h (zq_I Q) X := by
  refine zg_start (own := "MultipoleLine") (by decide +kernel) rfl (Nat.le_of_ble_eq_true rfl) hl (fun Xc ok tab fin hRm hXl hXZ => ?_)
  subst hXl
  subst hXZ
  unfold f_X1_densest at hE
  refine zg_aload_n ok dX1_densest_0 rfl 0 rfl ?_
  refine zg_callV (vs := []) (rest := []) (rm := rm_X1_loaded) ok hRm lk_X1_76 dX1_densest_1 hE (fun hE => mt_X1_loaded hl hE) rfl (Nat.le_of_ble_eq_true rfl) ⟨⟨Nat.le_of_ble_eq_true rfl, Nat.le_of_ble_eq_true rfl⟩, Nat.le_of_ble_eq_true rfl, Nat.le_of_ble_eq_true rfl⟩ (zg_retA (fun v1 h1 hE => ?_)) (zg_xok ok tab fin ⟨Nat.le_of_ble_eq_true rfl, Nat.le_of_ble_eq_true rfl⟩)
  refine zg_cost (kc2 := 1) (ks2 := 6) ⟨rfl, rfl⟩ ?_
  refine zg_callV (vs := []) (rest := []) (rm := rm_X4_leaves) ok hRm lk_X1_158 dX1_densest_4 hE (fun hE => mt_X4_leaves hl hE) rfl (Nat.le_of_ble_eq_true rfl) ⟨⟨Nat.le_of_ble_eq_true rfl, Nat.le_of_ble_eq_true rfl⟩, Nat.le_of_ble_eq_true rfl, Nat.le_of_ble_eq_true rfl⟩ (zg_retA (fun v2 h2 hE => ?_)) (zg_xok ok tab fin ⟨Nat.le_of_ble_eq_true rfl, Nat.le_of_ble_eq_true rfl⟩)
  refine zg_cost (kc2 := 3) (ks2 := 13) ⟨rfl, rfl⟩ ?_
  refine zg_astore_nR (L' := [(1, va_rf v2), (0, va_rf a0)]) ok dX1_densest_7 rfl (by decide) 0 rfl rfl rfl ?_
  refine zg_iconst (v := (-1)) ok dX1_densest_8 (by decide) ?_
  refine zg_istore_nR (L' := [(2, .int (-1)), (1, va_rf v2), (0, va_rf a0)]) ok dX1_densest_9 rfl (by decide) 0 rfl rfl rfl ?_
  refine zg_iconst (v := 0) ok dX1_densest_10 (by decide) ?_
  refine zg_istore_n (L' := [(3, .int 0), (2, .int (-1)), (1, va_rf v2), (0, va_rf a0)]) ok dX1_densest_11 rfl (by decide) rfl ?_
  refine zg_aload_n ok dX1_densest_12 rfl 2 rfl ?_
  refine zg_iconst (v := 0) ok dX1_densest_13 (by decide) ?_
  refine zg_callV (vs := [zI 0]) (rest := []) (rm := rm_J25_nextSetBit) ok hRm lk_X1_224 dX1_densest_14 hE (fun hE => mt_J25_nextSetBit hl hE) rfl (Nat.le_of_ble_eq_true rfl) ⟨⟨Nat.le_of_ble_eq_true rfl, Nat.le_of_ble_eq_true rfl⟩, Nat.le_of_ble_eq_true rfl, Nat.le_of_ble_eq_true rfl⟩ (zg_retI (fun v3 h3 hE => ?_)) (zg_xok ok tab fin ⟨Nat.le_of_ble_eq_true rfl, Nat.le_of_ble_eq_true rfl⟩)
  refine zg_cost (kc2 := 3) (ks2 := 13) ⟨rfl, rfl⟩ ?_
  refine zg_istore (L' := [(4, .int v3), (3, .int 0), (2, .int (-1)), (1, va_rf v2), (0, va_rf a0)]) ok dX1_densest_17 (by decide) rfl ?_
  refine zg_sub (L' := [(0, va_rf a0), (1, va_rf v2), (2, .int (-1)), (3, .int 0), (4, .int v3)]) [4, 3, 2, 1, 0] rfl ?_
  refine gt_f_X1_densest_L19 hl ok tab fin hRm ⟨Nat.le_of_ble_eq_true rfl, Nat.le_of_ble_eq_true rfl⟩ ?_ _ _ _ _ _ hE
  · intro v11 h7 hE
    refine zg_iload_n ok dX1_densest_77 rfl 0 rfl ?_
    exact zg_iret ok fin dX1_densest_78 ⟨Nat.le_of_ble_eq_true rfl, Nat.le_of_ble_eq_true rfl⟩ hE
set_option maxHeartbeats 8000000 in
theorem mt_X1_checkOrder {l : Launch} (hl : l.stackTraces = false) {Z : zw_Z} {a0 : Int32} {h : zw_H} {Q : zw_H → Prop} {X : String → Nat → zw_H → Prop} (hE : f_X1_checkOrder Z.2.2.2 a0 h Q X) : zw_Met l Z yX1_checkOrder (ws_ yX1_checkOrder cX1_checkOrder 1 (Option.none : Option Jvm.ClassFile.FieldType)) rm_X1_checkOrder [zI a0] h (zq_V Q) X := by
  refine zg_start (own := "MultipoleLine") (by decide +kernel) rfl (Nat.le_of_ble_eq_true rfl) hl (fun Xc ok tab fin hRm hXl hXZ => ?_)
  subst hXl
  subst hXZ
  unfold f_X1_checkOrder at hE
  refine zg_iload_n ok dX1_checkOrder_0 rfl 0 rfl ?_
  refine zg_i2l ok dX1_checkOrder_1 ?_
  refine zg_lconst (v := 0) ok dX1_checkOrder_2 (by decide) ?_
  refine zg_ldc2 (v := (4 : Int64)) ok q1368 dX1_checkOrder_3 ?_
  refine zg_callS (vs := [zJ a0.toInt64, zJ 0, zJ (4 : Int64)]) (rest := []) (rm := rm_X1_in) ok hRm lk_X1_58 dX1_checkOrder_6 hE (fun hE => mt_X1_in hl hE) rfl (Nat.le_of_ble_eq_true rfl) ⟨⟨Nat.le_of_ble_eq_true rfl, Nat.le_of_ble_eq_true rfl⟩, Nat.le_of_ble_eq_true rfl, Nat.le_of_ble_eq_true rfl⟩ (zg_retI (fun v1 h1 hE => ?_)) (zg_xok ok tab fin ⟨Nat.le_of_ble_eq_true rfl, Nat.le_of_ble_eq_true rfl⟩)
  refine zg_cost (kc2 := 0) (ks2 := 0) ⟨rfl, rfl⟩ ?_
  refine zg_callS (vs := [zI v1]) (rest := []) (rm := rm_X1_checkArgument) ok hRm lk_X1_98 dX1_checkOrder_9 hE (fun hE => mt_X1_checkArgument hl hE) rfl (Nat.le_of_ble_eq_true rfl) ⟨⟨Nat.le_of_ble_eq_true rfl, Nat.le_of_ble_eq_true rfl⟩, Nat.le_of_ble_eq_true rfl, Nat.le_of_ble_eq_true rfl⟩ (zg_retV (fun h2 hE => ?_)) (zg_xok ok tab fin ⟨Nat.le_of_ble_eq_true rfl, Nat.le_of_ble_eq_true rfl⟩)
  refine zg_cost (kc2 := 1) (ks2 := 6) ⟨rfl, rfl⟩ ?_
  exact zg_vret ok fin dX1_checkOrder_12 ⟨Nat.le_of_ble_eq_true rfl, Nat.le_of_ble_eq_true rfl⟩ hE
set_option maxHeartbeats 8000000 in
theorem mt_X1_moment {l : Launch} (hl : l.stackTraces = false) {Z : zw_Z} {a0 : Option Nat} {a1 : Int32} {a2 : Int32} {a3 : Int32} {h : zw_H} {Q : Int64 → zw_H → Prop} {X : String → Nat → zw_H → Prop} (hE : f_X1_moment Z.2.2.2 a0 a1 a2 a3 h Q X) : zw_Met l Z yX1_moment (ws_ yX1_moment cX1_moment 5 (Option.some Jvm.ClassFile.FieldType.long)) rm_X1_moment [zA a0, zI a1, zI a2, zI a3] h (zq_J Q) X := by
  refine zg_start (own := "MultipoleLine") (by decide +kernel) rfl (Nat.le_of_ble_eq_true rfl) hl (fun Xc ok tab fin hRm hXl hXZ => ?_)
  subst hXl
  subst hXZ
  unfold f_X1_moment at hE
  refine zg_aload_n ok dX1_moment_0 rfl 0 rfl ?_
  refine zg_iload_n ok dX1_moment_1 rfl 1 rfl ?_
  refine zg_iload_n ok dX1_moment_2 rfl 2 rfl ?_
  refine zg_callV (vs := [zI a1, zI a2]) (rest := []) (rm := rm_X1_boxOf) ok hRm lk_X1_196 dX1_moment_3 hE (fun hE => mt_X1_boxOf hl hE) rfl (Nat.le_of_ble_eq_true rfl) ⟨⟨Nat.le_of_ble_eq_true rfl, Nat.le_of_ble_eq_true rfl⟩, Nat.le_of_ble_eq_true rfl, Nat.le_of_ble_eq_true rfl⟩ (zg_retA (fun v1 h1 hE => ?_)) (zg_xok ok tab fin ⟨Nat.le_of_ble_eq_true rfl, Nat.le_of_ble_eq_true rfl⟩)
  refine zg_cost (kc2 := 3) (ks2 := 18) ⟨rfl, rfl⟩ ?_
  refine zg_astore (L' := [(4, va_rf v1), (0, va_rf a0), (1, .int a1), (2, .int a2), (3, .int a3)]) ok dX1_moment_6 (by decide) rfl ?_
  refine zg_iload_n ok dX1_moment_8 rfl 4 rfl ?_
  refine zg_callS (vs := [zI a3]) (rest := []) (rm := rm_X1_checkOrder) ok hRm lk_X1_229 dX1_moment_9 hE (fun hE => mt_X1_checkOrder hl hE) rfl (Nat.le_of_ble_eq_true rfl) ⟨⟨Nat.le_of_ble_eq_true rfl, Nat.le_of_ble_eq_true rfl⟩, Nat.le_of_ble_eq_true rfl, Nat.le_of_ble_eq_true rfl⟩ (zg_retV (fun h2 hE => ?_)) (zg_xok ok tab fin ⟨Nat.le_of_ble_eq_true rfl, Nat.le_of_ble_eq_true rfl⟩)
  refine zg_cost (kc2 := 4) (ks2 := 24) ⟨rfl, rfl⟩ ?_
  refine zg_aload_n ok dX1_moment_12 rfl 1 rfl ?_
  refine zg_getA ok lf_X1_68 dX1_moment_13 hE (fun v2 hE => ?_)
  refine zg_aload ok dX1_moment_16 0 rfl ?_
  refine zg_iload_n ok dX1_moment_18 rfl 4 rfl ?_
  refine zg_callV (vs := [zA v1, zI a3]) (rest := []) (rm := rm_X4_moment) ok hRm lk_X1_233 dX1_moment_19 hE (fun hE => mt_X4_moment hl hE) rfl (Nat.le_of_ble_eq_true rfl) ⟨⟨Nat.le_of_ble_eq_true rfl, Nat.le_of_ble_eq_true rfl⟩, Nat.le_of_ble_eq_true rfl, Nat.le_of_ble_eq_true rfl⟩ (zg_retJ (fun v3 h3 hE => ?_)) (zg_xok ok tab fin ⟨Nat.le_of_ble_eq_true rfl, Nat.le_of_ble_eq_true rfl⟩)
  refine zg_cost (kc2 := 4) (ks2 := 24) ⟨rfl, rfl⟩ ?_
  exact zg_lret ok fin dX1_moment_22 ⟨Nat.le_of_ble_eq_true rfl, Nat.le_of_ble_eq_true rfl⟩ hE
set_option maxHeartbeats 8000000 in
theorem gt_f_X1_choose_B5 {Xc : zw_X} {Q : Int64 → zw_H → Prop} {X : String → Nat → zw_H → Prop} (hl : (zw_l Xc).stackTraces = false) (ok : zw_ok Xc cX1_choose "MultipoleLine" yX1_choose.name 5) (tab : zw_tab Xc []) (fin : zw_fin Xc (Option.some Jvm.ClassFile.FieldType.long) (zq_J Q) X 0 0) (hRm : zw_rm Xc = rm_X1_choose) {kc ks : Nat} (hb : kc ≤ 0 ∧ ks ≤ 0) {R : Int64 → Int32 → zw_H → Prop} {l0 : Int32} {l1 : Int32} (hR : ∀ (l2 : Int64) (l4 : Int32) (h : zw_H), R l2 l4 h → zw_G Xc kc ks 5 h 5 [(0, .int l0), (1, .int l1), (2, .long l2), (4, .int l4)] []) {k31 : Int64 → zw_H → Prop} (hk31 : ∀ (l2 : Int64) (h : zw_H), k31 l2 h → zw_G Xc kc ks 5 h 31 [(2, .long l2)] [])  {l2 : Int64} {l4 : Int32} {h : zw_H} (hE : f_X1_choose_B5 (zw_Zf Xc).2.2.2 Q X k31 l0 l1 R l2 l4 h) : zw_G Xc kc ks 5 h 5 [(0, .int l0), (1, .int l1), (2, .long l2), (4, .int l4)] [] := by
  unfold f_X1_choose_B5 at hE
  refine zg_iload ok dX1_choose_5 3 rfl ?_
  refine zg_iload_n ok dX1_choose_7 rfl 1 rfl ?_
  refine zg_icmp_gt (tgt := 31) ok dX1_choose_8 (by decide) hE (fun hE => ?_) (fun hE => ?_)
  · refine zg_sub (L' := [(2, .long l2)]) [2] rfl ?_
    exact hk31 _ _ hE
  · refine zg_lload_n ok dX1_choose_11 rfl 2 rfl ?_
    refine zg_iload_n ok dX1_choose_12 rfl 0 rfl ?_
    refine zg_iload_n ok dX1_choose_13 rfl 1 rfl ?_
    refine zg_isub ok dX1_choose_14 ?_
    refine zg_iload ok dX1_choose_15 3 rfl ?_
    refine zg_iadd ok dX1_choose_17 ?_
    refine zg_i2l ok dX1_choose_18 ?_
    refine zg_lmul ok dX1_choose_19 ?_
    refine zg_iload ok dX1_choose_20 3 rfl ?_
    refine zg_i2l ok dX1_choose_22 ?_
    refine zg_ldivE ok dX1_choose_23 hE (fun hE => ?_)
    refine zg_letJ hE (fun v1 hE => ?_)
    refine zg_lstore_n (L' := [(2, .long v1), (0, .int l0), (1, .int l1), (4, .int l4)]) ok dX1_choose_24 rfl (by decide) rfl ?_
    refine zg_iincL (k := 3) (L' := fun v2 => [(4, .int v2), (2, .long v1), (0, .int l0), (1, .int l1)]) ok dX1_choose_25 (by decide +kernel) hE rfl (by decide) (fun _ => rfl) (fun v2 hE => ?_)
    refine zg_goto (tgt := 5) ok dX1_choose_28 (by decide) ?_
    refine zg_sub (L' := [(0, .int l0), (1, .int l1), (2, .long v1), (4, .int v2)]) [2, 3, 1, 0] rfl ?_
    exact hR _ _ _ hE
theorem gt_f_X1_choose_L5 {Xc : zw_X} {Q : Int64 → zw_H → Prop} {X : String → Nat → zw_H → Prop} (hl : (zw_l Xc).stackTraces = false) (ok : zw_ok Xc cX1_choose "MultipoleLine" yX1_choose.name 5) (tab : zw_tab Xc []) (fin : zw_fin Xc (Option.some Jvm.ClassFile.FieldType.long) (zq_J Q) X 0 0) (hRm : zw_rm Xc = rm_X1_choose) {kc ks : Nat} (hb : kc ≤ 0 ∧ ks ≤ 0) {l0 : Int32} {l1 : Int32} {k31 : Int64 → zw_H → Prop} (hk31 : ∀ (l2 : Int64) (h : zw_H), k31 l2 h → zw_G Xc kc ks 5 h 31 [(2, .long l2)] [])  : ∀ (n9 : Nat) (l2 : Int64) (l4 : Int32) (h : zw_H), zl3 (f_X1_choose_B5 (zw_Zf Xc).2.2.2 Q X k31 l0 l1) n9 l2 l4 h → zw_G Xc kc ks 5 h 5 [(0, .int l0), (1, .int l1), (2, .long l2), (4, .int l4)] [] := by
  intro n9
  induction n9 with
  | zero => intro l2 l4 h hE; exact hE.elim
  | succ n9 ih => intro l2 l4 h hE; exact gt_f_X1_choose_B5 hl ok tab fin hRm hb ih hk31 hE
set_option maxHeartbeats 8000000 in
theorem mt_X1_choose {l : Launch} (hl : l.stackTraces = false) {Z : zw_Z} {a0 : Int32} {a1 : Int32} {h : zw_H} {Q : Int64 → zw_H → Prop} {X : String → Nat → zw_H → Prop} (hE : f_X1_choose Z.2.2.2 a0 a1 h Q X) : zw_Met l Z yX1_choose (ws_ yX1_choose cX1_choose 5 (Option.some Jvm.ClassFile.FieldType.long)) rm_X1_choose [zI a0, zI a1] h (zq_J Q) X := by
  refine zg_start (own := "MultipoleLine") (by decide +kernel) rfl (Nat.le_of_ble_eq_true rfl) hl (fun Xc ok tab fin hRm hXl hXZ => ?_)
  subst hXl
  subst hXZ
  unfold f_X1_choose at hE
  refine zg_lconst (v := 1) ok dX1_choose_0 (by decide) ?_
  refine zg_lstore_n (L' := [(2, .long 1), (0, .int a0), (1, .int a1)]) ok dX1_choose_1 rfl (by decide) rfl ?_
  refine zg_iconst (v := 1) ok dX1_choose_2 (by decide) ?_
  refine zg_istore (L' := [(4, .int 1), (2, .long 1), (0, .int a0), (1, .int a1)]) ok dX1_choose_3 (by decide) rfl ?_
  refine zg_sub (L' := [(0, .int a0), (1, .int a1), (2, .long 1), (4, .int 1)]) [2, 3, 1, 0] rfl ?_
  refine gt_f_X1_choose_L5 hl ok tab fin hRm ⟨Nat.le_of_ble_eq_true rfl, Nat.le_of_ble_eq_true rfl⟩ ?_ _ _ _ _ hE
  · intro v3 h1 hE
    refine zg_lload_n ok dX1_choose_31 rfl 0 rfl ?_
    exact zg_lret ok fin dX1_choose_32 ⟨Nat.le_of_ble_eq_true rfl, Nat.le_of_ble_eq_true rfl⟩ hE
set_option maxHeartbeats 8000000 in
theorem gt_f_X4_shifts5_B6 {Xc : zw_X} {Q : Int64 → zw_H → Prop} {X : String → Nat → zw_H → Prop} (hl : (zw_l Xc).stackTraces = false) (ok : zw_ok Xc cX4_shift "MultipoleLine$Line" yX4_shift.name 7) (tab : zw_tab Xc []) (fin : zw_fin Xc (Option.some Jvm.ClassFile.FieldType.long) (zq_J Q) X 0 0) (hRm : zw_rm Xc = rm_X4_shifts5) {kc ks : Nat} (hb : kc ≤ 0 ∧ ks ≤ 0) {R : Int64 → Int32 → zw_H → Prop} {l0 : Option Nat} {l1 : Option Nat} {l2 : Option Nat} {l3 : Int32} (hR : ∀ (l4 : Int64) (l6 : Int32) (h : zw_H), R l4 l6 h → zw_G Xc kc ks 7 h 6 [(0, va_rf l0), (1, va_rf l1), (2, va_rf l2), (3, .int l3), (4, .long l4), (6, .int l6)] []) {k55 : Int64 → zw_H → Prop} (hk55 : ∀ (l4 : Int64) (h : zw_H), k55 l4 h → zw_G Xc kc ks 7 h 55 [(4, .long l4)] [])  {l4 : Int64} {l6 : Int32} {h : zw_H} (hE : f_X4_shifts5_B6 (zw_Zf Xc).2.2.2 Q X k55 l0 l1 l2 l3 R l4 l6 h) : zw_G Xc kc ks 7 h 6 [(0, va_rf l0), (1, va_rf l1), (2, va_rf l2), (3, .int l3), (4, .long l4), (6, .int l6)] [] := by
  unfold f_X4_shifts5_B6 at hE
  refine zg_iload ok dX4_shift_6 5 rfl ?_
  refine zg_iload_n ok dX4_shift_8 rfl 3 rfl ?_
  refine zg_icmp_gt (tgt := 55) ok dX4_shift_9 (by decide) hE (fun hE => ?_) (fun hE => ?_)
  · refine zg_sub (L' := [(4, .long l4)]) [4] rfl ?_
    exact hk55 _ _ hE
  · exact hE.elim
theorem gt_f_X4_shifts5_L6 {Xc : zw_X} {Q : Int64 → zw_H → Prop} {X : String → Nat → zw_H → Prop} (hl : (zw_l Xc).stackTraces = false) (ok : zw_ok Xc cX4_shift "MultipoleLine$Line" yX4_shift.name 7) (tab : zw_tab Xc []) (fin : zw_fin Xc (Option.some Jvm.ClassFile.FieldType.long) (zq_J Q) X 0 0) (hRm : zw_rm Xc = rm_X4_shifts5) {kc ks : Nat} (hb : kc ≤ 0 ∧ ks ≤ 0) {l0 : Option Nat} {l1 : Option Nat} {l2 : Option Nat} {l3 : Int32} {k55 : Int64 → zw_H → Prop} (hk55 : ∀ (l4 : Int64) (h : zw_H), k55 l4 h → zw_G Xc kc ks 7 h 55 [(4, .long l4)] [])  : ∀ (n9 : Nat) (l4 : Int64) (l6 : Int32) (h : zw_H), zl3 (f_X4_shifts5_B6 (zw_Zf Xc).2.2.2 Q X k55 l0 l1 l2 l3) n9 l4 l6 h → zw_G Xc kc ks 7 h 6 [(0, va_rf l0), (1, va_rf l1), (2, va_rf l2), (3, .int l3), (4, .long l4), (6, .int l6)] [] := by
  intro n9
  induction n9 with
  | zero => intro l4 l6 h hE; exact hE.elim
  | succ n9 ih => intro l4 l6 h hE; exact gt_f_X4_shifts5_B6 hl ok tab fin hRm hb ih hk55 hE
set_option maxHeartbeats 8000000 in
theorem mt_X4_shifts5 {l : Launch} (hl : l.stackTraces = false) {Z : zw_Z} {a0 : Option Nat} {a1 : Option Nat} {a2 : Option Nat} {a3 : Int32} {h : zw_H} {Q : Int64 → zw_H → Prop} {X : String → Nat → zw_H → Prop} (hE : f_X4_shifts5 Z.2.2.2 a0 a1 a2 a3 h Q X) : zw_Met l Z yX4_shift (ws_ yX4_shift cX4_shift 7 (Option.some Jvm.ClassFile.FieldType.long)) rm_X4_shifts5 [zA a0, zA a1, zA a2, zI a3] h (zq_J Q) X := by
  refine zg_start (own := "MultipoleLine$Line") (by decide +kernel) rfl (Nat.le_of_ble_eq_true rfl) hl (fun Xc ok tab fin hRm hXl hXZ => ?_)
  subst hXl
  subst hXZ
  unfold f_X4_shifts5 at hE
  refine zg_lconst (v := 0) ok dX4_shift_0 (by decide) ?_
  refine zg_lstore (L' := [(4, .long 0), (0, va_rf a0), (1, va_rf a1), (2, va_rf a2), (3, .int a3)]) ok dX4_shift_1 (by decide) rfl ?_
  refine zg_iconst (v := 0) ok dX4_shift_3 (by decide) ?_
  refine zg_istore (L' := [(6, .int 0), (4, .long 0), (0, va_rf a0), (1, va_rf a1), (2, va_rf a2), (3, .int a3)]) ok dX4_shift_4 (by decide) rfl ?_
  refine zg_sub (L' := [(0, va_rf a0), (1, va_rf a1), (2, va_rf a2), (3, .int a3), (4, .long 0), (6, .int 0)]) [2, 3, 4, 5, 1, 0] rfl ?_
  refine gt_f_X4_shifts5_L6 hl ok tab fin hRm ⟨Nat.le_of_ble_eq_true rfl, Nat.le_of_ble_eq_true rfl⟩ ?_ _ _ _ _ hE
  · intro v1 h1 hE
    refine zg_lload ok dX4_shift_55 0 rfl ?_
    exact zg_lret ok fin dX4_shift_57 ⟨Nat.le_of_ble_eq_true rfl, Nat.le_of_ble_eq_true rfl⟩ hE
set_option maxHeartbeats 8000000 in
theorem mt_X4_shifteds5 {l : Launch} (hl : l.stackTraces = false) {Z : zw_Z} {a0 : Option Nat} {a1 : Option Nat} {a2 : Int32} {h : zw_H} {Q : Int64 → zw_H → Prop} {X : String → Nat → zw_H → Prop} (hE : f_X4_shifteds5 Z.2.2.2 a0 a1 a2 h Q X) : zw_Met l Z yX4_shifted (ws_ yX4_shifted cX4_shifted 3 (Option.some Jvm.ClassFile.FieldType.long)) rm_X4_shifteds5 [zA a0, zA a1, zI a2] h (zq_J Q) X := by
  refine zg_start (own := "MultipoleLine$Line") (by decide +kernel) rfl (Nat.le_of_ble_eq_true rfl) hl (fun Xc ok tab fin hRm hXl hXZ => ?_)
  subst hXl
  subst hXZ
  unfold f_X4_shifteds5 at hE
  refine zg_aload_n ok dX4_shifted_0 rfl 1 rfl ?_
  refine zg_getI ok lf_X4_139 dX4_shifted_1 hE (fun v1 hE => ?_)
  refine zg_aload_n ok dX4_shifted_4 rfl 0 rfl ?_
  refine zg_getI ok lf_X4_57 dX4_shifted_5 hE (fun v2 hE => ?_)
  refine zg_icmp_ne (tgt := 18) ok dX4_shifted_8 (by decide) hE (fun hE => ?_) (fun hE => ?_)
  · refine zg_aload_n ok dX4_shifted_18 rfl 0 rfl ?_
    refine zg_aload_n ok dX4_shifted_19 rfl 0 rfl ?_
    refine zg_aload_n ok dX4_shifted_20 rfl 1 rfl ?_
    refine zg_getI ok lf_X4_139 dX4_shifted_21 hE (fun v3 hE => ?_)
    refine zg_iconst (v := 1) ok dX4_shifted_24 (by decide) ?_
    refine zg_iadd ok dX4_shifted_25 ?_
    refine zg_iconst (v := 2) ok dX4_shifted_26 (by decide) ?_
    refine zg_aload_n ok dX4_shifted_27 rfl 1 rfl ?_
    refine zg_getI ok lf_X4_119 dX4_shifted_28 hE (fun v4 hE => ?_)
    refine zg_imul ok dX4_shifted_31 ?_
    refine zg_callV (vs := [zI (v3 + 1), zI ((2 : Int32) * v4)]) (rest := [va_rf a0]) (rm := rm_X4_box) ok hRm lk_X4_142 dX4_shifted_32 hE (fun hE => mt_X4_box hl hE) rfl (Nat.le_of_ble_eq_true rfl) ⟨⟨Nat.le_of_ble_eq_true rfl, Nat.le_of_ble_eq_true rfl⟩, Nat.le_of_ble_eq_true rfl, Nat.le_of_ble_eq_true rfl⟩ (zg_retA (fun v5 h1 hE => ?_)) (zg_xok ok tab fin ⟨Nat.le_of_ble_eq_true rfl, Nat.le_of_ble_eq_true rfl⟩)
    refine zg_cost (kc2 := 0) (ks2 := 0) ⟨rfl, rfl⟩ ?_
    refine zg_aload_n ok dX4_shifted_35 rfl 1 rfl ?_
    refine zg_iload_n ok dX4_shifted_36 rfl 2 rfl ?_
    refine zg_callV (vs := [zA v5, zA a1, zI a2]) (rest := []) (rm := rm_X4_shifts5) ok hRm lk_X4_145 dX4_shifted_37 hE (fun hE => mt_X4_shifts5 hl hE) rfl (Nat.le_of_ble_eq_true rfl) ⟨⟨Nat.le_of_ble_eq_true rfl, Nat.le_of_ble_eq_true rfl⟩, Nat.le_of_ble_eq_true rfl, Nat.le_of_ble_eq_true rfl⟩ (zg_retJ (fun v6 h2 hE => ?_)) (zg_xok ok tab fin ⟨Nat.le_of_ble_eq_true rfl, Nat.le_of_ble_eq_true rfl⟩)
    refine zg_cost (kc2 := 0) (ks2 := 0) ⟨rfl, rfl⟩ ?_
    refine zg_aload_n ok dX4_shifted_40 rfl 0 rfl ?_
    refine zg_aload_n ok dX4_shifted_41 rfl 0 rfl ?_
    refine zg_aload_n ok dX4_shifted_42 rfl 1 rfl ?_
    refine zg_getI ok lf_X4_139 dX4_shifted_43 hE (fun v7 hE => ?_)
    refine zg_iconst (v := 1) ok dX4_shifted_46 (by decide) ?_
    refine zg_iadd ok dX4_shifted_47 ?_
    refine zg_iconst (v := 2) ok dX4_shifted_48 (by decide) ?_
    refine zg_aload_n ok dX4_shifted_49 rfl 1 rfl ?_
    refine zg_getI ok lf_X4_119 dX4_shifted_50 hE (fun v8 hE => ?_)
    refine zg_imul ok dX4_shifted_53 ?_
    refine zg_iconst (v := 1) ok dX4_shifted_54 (by decide) ?_
    refine zg_iadd ok dX4_shifted_55 ?_
    refine zg_callV (vs := [zI (v7 + 1), zI (((2 : Int32) * v8) + 1)]) (rest := [va_rf a0, .long v6]) (rm := rm_X4_box) ok hRm lk_X4_142 dX4_shifted_56 hE (fun hE => mt_X4_box hl hE) rfl (Nat.le_of_ble_eq_true rfl) ⟨⟨Nat.le_of_ble_eq_true rfl, Nat.le_of_ble_eq_true rfl⟩, Nat.le_of_ble_eq_true rfl, Nat.le_of_ble_eq_true rfl⟩ (zg_retA (fun v9 h3 hE => ?_)) (zg_xok ok tab fin ⟨Nat.le_of_ble_eq_true rfl, Nat.le_of_ble_eq_true rfl⟩)
    refine zg_cost (kc2 := 0) (ks2 := 0) ⟨rfl, rfl⟩ ?_
    refine zg_aload_n ok dX4_shifted_59 rfl 1 rfl ?_
    refine zg_iload_n ok dX4_shifted_60 rfl 2 rfl ?_
    refine zg_callV (vs := [zA v9, zA a1, zI a2]) (rest := [.long v6]) (rm := rm_X4_shifts5) ok hRm lk_X4_145 dX4_shifted_61 hE (fun hE => mt_X4_shifts5 hl hE) rfl (Nat.le_of_ble_eq_true rfl) ⟨⟨Nat.le_of_ble_eq_true rfl, Nat.le_of_ble_eq_true rfl⟩, Nat.le_of_ble_eq_true rfl, Nat.le_of_ble_eq_true rfl⟩ (zg_retJ (fun v10 h4 hE => ?_)) (zg_xok ok tab fin ⟨Nat.le_of_ble_eq_true rfl, Nat.le_of_ble_eq_true rfl⟩)
    refine zg_cost (kc2 := 0) (ks2 := 0) ⟨rfl, rfl⟩ ?_
    refine zg_ladd ok dX4_shifted_64 ?_
    exact zg_lret ok fin dX4_shifted_65 ⟨Nat.le_of_ble_eq_true rfl, Nat.le_of_ble_eq_true rfl⟩ hE
  · refine zg_aload_n ok dX4_shifted_11 rfl 0 rfl ?_
    refine zg_aload_n ok dX4_shifted_12 rfl 1 rfl ?_
    refine zg_iload_n ok dX4_shifted_13 rfl 2 rfl ?_
    refine zg_callV (vs := [zA a1, zI a2]) (rest := []) (rm := rm_X4_moment) ok hRm lk_X4_106 dX4_shifted_14 hE (fun hE => mt_X4_moment hl hE) rfl (Nat.le_of_ble_eq_true rfl) ⟨⟨Nat.le_of_ble_eq_true rfl, Nat.le_of_ble_eq_true rfl⟩, Nat.le_of_ble_eq_true rfl, Nat.le_of_ble_eq_true rfl⟩ (zg_retJ (fun v11 h5 hE => ?_)) (zg_xok ok tab fin ⟨Nat.le_of_ble_eq_true rfl, Nat.le_of_ble_eq_true rfl⟩)
    refine zg_cost (kc2 := 0) (ks2 := 0) ⟨rfl, rfl⟩ ?_
    exact zg_lret ok fin dX4_shifted_17 ⟨Nat.le_of_ble_eq_true rfl, Nat.le_of_ble_eq_true rfl⟩ hE
set_option maxHeartbeats 8000000 in
theorem gt_f_X4_shifts4_B6 {Xc : zw_X} {Q : Int64 → zw_H → Prop} {X : String → Nat → zw_H → Prop} (hl : (zw_l Xc).stackTraces = false) (ok : zw_ok Xc cX4_shift "MultipoleLine$Line" yX4_shift.name 7) (tab : zw_tab Xc []) (fin : zw_fin Xc (Option.some Jvm.ClassFile.FieldType.long) (zq_J Q) X 0 0) (hRm : zw_rm Xc = rm_X4_shifts4) {kc ks : Nat} (hb : kc ≤ 0 ∧ ks ≤ 0) {R : Int64 → Int32 → zw_H → Prop} {l0 : Option Nat} {l1 : Option Nat} {l2 : Option Nat} {l3 : Int32} (hR : ∀ (l4 : Int64) (l6 : Int32) (h : zw_H), R l4 l6 h → zw_G Xc kc ks 7 h 6 [(0, va_rf l0), (1, va_rf l1), (2, va_rf l2), (3, .int l3), (4, .long l4), (6, .int l6)] []) {k55 : Int64 → zw_H → Prop} (hk55 : ∀ (l4 : Int64) (h : zw_H), k55 l4 h → zw_G Xc kc ks 7 h 55 [(4, .long l4)] [])  {l4 : Int64} {l6 : Int32} {h : zw_H} (hE : f_X4_shifts4_B6 (zw_Zf Xc).2.2.2 Q X k55 l0 l1 l2 l3 R l4 l6 h) : zw_G Xc kc ks 7 h 6 [(0, va_rf l0), (1, va_rf l1), (2, va_rf l2), (3, .int l3), (4, .long l4), (6, .int l6)] [] := by
  unfold f_X4_shifts4_B6 at hE
  refine zg_iload ok dX4_shift_6 5 rfl ?_
  refine zg_iload_n ok dX4_shift_8 rfl 3 rfl ?_
  refine zg_icmp_gt (tgt := 55) ok dX4_shift_9 (by decide) hE (fun hE => ?_) (fun hE => ?_)
  · refine zg_sub (L' := [(4, .long l4)]) [4] rfl ?_
    exact hk55 _ _ hE
  · refine zg_lload ok dX4_shift_12 4 rfl ?_
    refine zg_iload_n ok dX4_shift_14 rfl 3 rfl ?_
    refine zg_iload ok dX4_shift_15 5 rfl ?_
    refine zg_callSN (vs := [zI l3, zI l6]) (rest := [.long l4]) (rm := rm_X1_choose) ok hRm lk_X4_132 dX4_shift_17 hE (fun hE => mt_X1_choose hl hE) rfl (Nat.le_of_ble_eq_true rfl) ⟨⟨Nat.le_of_ble_eq_true rfl, Nat.le_of_ble_eq_true rfl⟩, (by show kc + 0 ≤ 0; omega), (by show ks + 0 ≤ 0; omega)⟩ (zg_retJ (fun v1 h1 hE => ?_)) (zg_xok ok tab fin ⟨(by show kc + 0 ≤ 0; omega), (by show ks + 0 ≤ 0; omega)⟩)
    refine zg_cost (kc2 := kc) (ks2 := ks) ⟨(by show kc + 0 = kc; omega), (by show ks + 0 = ks; omega)⟩ ?_
    refine zg_aload_n ok dX4_shift_20 rfl 0 rfl ?_
    refine zg_aload_n ok dX4_shift_21 rfl 1 rfl ?_
    refine zg_iload ok dX4_shift_22 5 rfl ?_
    refine zg_callV (vs := [zA l1, zI l6]) (rest := [.long v1, .long l4]) (rm := rm_X4_shifteds5) ok hRm lk_X4_136 dX4_shift_24 hE (fun hE => mt_X4_shifteds5 hl hE) rfl (Nat.le_of_ble_eq_true rfl) ⟨⟨Nat.le_of_ble_eq_true rfl, Nat.le_of_ble_eq_true rfl⟩, (by show kc + 0 ≤ 0; omega), (by show ks + 0 ≤ 0; omega)⟩ (zg_retJ (fun v2 h2 hE => ?_)) (zg_xok ok tab fin ⟨(by show kc + 0 ≤ 0; omega), (by show ks + 0 ≤ 0; omega)⟩)
    refine zg_cost (kc2 := kc) (ks2 := ks) ⟨(by show kc + 0 = kc; omega), (by show ks + 0 = ks; omega)⟩ ?_
    refine zg_lmul ok dX4_shift_27 ?_
    refine zg_aload_n ok dX4_shift_28 rfl 1 rfl ?_
    refine zg_getI ok lf_X4_125 dX4_shift_29 hE (fun v3 hE => ?_)
    refine zg_aload_n ok dX4_shift_32 rfl 2 rfl ?_
    refine zg_getI ok lf_X4_125 dX4_shift_33 hE (fun v4 hE => ?_)
    refine zg_isub ok dX4_shift_36 ?_
    refine zg_i2l ok dX4_shift_37 ?_
    refine zg_iload_n ok dX4_shift_38 rfl 3 rfl ?_
    refine zg_iload ok dX4_shift_39 5 rfl ?_
    refine zg_isub ok dX4_shift_41 ?_
    refine zg_callS (vs := [zJ ((v3 - v4).toInt64), zI (l3 - l6)]) (rest := [.long (v1 * v2), .long l4]) (rm := rm_X4_raised) ok hRm lk_X4_128 dX4_shift_42 hE (fun hE => mt_X4_raised hl hE) rfl (Nat.le_of_ble_eq_true rfl) ⟨⟨Nat.le_of_ble_eq_true rfl, Nat.le_of_ble_eq_true rfl⟩, (by show kc + 0 ≤ 0; omega), (by show ks + 0 ≤ 0; omega)⟩ (zg_retJ (fun v5 h3 hE => ?_)) (zg_xok ok tab fin ⟨(by show kc + 0 ≤ 0; omega), (by show ks + 0 ≤ 0; omega)⟩)
    refine zg_cost (kc2 := kc) (ks2 := ks) ⟨(by show kc + 0 = kc; omega), (by show ks + 0 = ks; omega)⟩ ?_
    refine zg_lmul ok dX4_shift_45 ?_
    refine zg_ladd ok dX4_shift_46 ?_
    refine zg_letJ hE (fun v6 hE => ?_)
    refine zg_lstore (L' := [(4, .long v6), (0, va_rf l0), (1, va_rf l1), (2, va_rf l2), (3, .int l3), (6, .int l6)]) ok dX4_shift_47 (by decide) rfl ?_
    refine zg_iincL (k := 5) (L' := fun v7 => [(6, .int v7), (4, .long v6), (0, va_rf l0), (1, va_rf l1), (2, va_rf l2), (3, .int l3)]) ok dX4_shift_49 (by decide +kernel) hE rfl (by decide) (fun _ => rfl) (fun v7 hE => ?_)
    refine zg_goto (tgt := 6) ok dX4_shift_52 (by decide) ?_
    refine zg_sub (L' := [(0, va_rf l0), (1, va_rf l1), (2, va_rf l2), (3, .int l3), (4, .long v6), (6, .int v7)]) [2, 3, 4, 5, 1, 0] rfl ?_
    exact hR _ _ _ hE
theorem gt_f_X4_shifts4_L6 {Xc : zw_X} {Q : Int64 → zw_H → Prop} {X : String → Nat → zw_H → Prop} (hl : (zw_l Xc).stackTraces = false) (ok : zw_ok Xc cX4_shift "MultipoleLine$Line" yX4_shift.name 7) (tab : zw_tab Xc []) (fin : zw_fin Xc (Option.some Jvm.ClassFile.FieldType.long) (zq_J Q) X 0 0) (hRm : zw_rm Xc = rm_X4_shifts4) {kc ks : Nat} (hb : kc ≤ 0 ∧ ks ≤ 0) {l0 : Option Nat} {l1 : Option Nat} {l2 : Option Nat} {l3 : Int32} {k55 : Int64 → zw_H → Prop} (hk55 : ∀ (l4 : Int64) (h : zw_H), k55 l4 h → zw_G Xc kc ks 7 h 55 [(4, .long l4)] [])  : ∀ (n9 : Nat) (l4 : Int64) (l6 : Int32) (h : zw_H), zl3 (f_X4_shifts4_B6 (zw_Zf Xc).2.2.2 Q X k55 l0 l1 l2 l3) n9 l4 l6 h → zw_G Xc kc ks 7 h 6 [(0, va_rf l0), (1, va_rf l1), (2, va_rf l2), (3, .int l3), (4, .long l4), (6, .int l6)] [] := by
  intro n9
  induction n9 with
  | zero => intro l4 l6 h hE; exact hE.elim
  | succ n9 ih => intro l4 l6 h hE; exact gt_f_X4_shifts4_B6 hl ok tab fin hRm hb ih hk55 hE
set_option maxHeartbeats 8000000 in
theorem mt_X4_shifts4 {l : Launch} (hl : l.stackTraces = false) {Z : zw_Z} {a0 : Option Nat} {a1 : Option Nat} {a2 : Option Nat} {a3 : Int32} {h : zw_H} {Q : Int64 → zw_H → Prop} {X : String → Nat → zw_H → Prop} (hE : f_X4_shifts4 Z.2.2.2 a0 a1 a2 a3 h Q X) : zw_Met l Z yX4_shift (ws_ yX4_shift cX4_shift 7 (Option.some Jvm.ClassFile.FieldType.long)) rm_X4_shifts4 [zA a0, zA a1, zA a2, zI a3] h (zq_J Q) X := by
  refine zg_start (own := "MultipoleLine$Line") (by decide +kernel) rfl (Nat.le_of_ble_eq_true rfl) hl (fun Xc ok tab fin hRm hXl hXZ => ?_)
  subst hXl
  subst hXZ
  unfold f_X4_shifts4 at hE
  refine zg_lconst (v := 0) ok dX4_shift_0 (by decide) ?_
  refine zg_lstore (L' := [(4, .long 0), (0, va_rf a0), (1, va_rf a1), (2, va_rf a2), (3, .int a3)]) ok dX4_shift_1 (by decide) rfl ?_
  refine zg_iconst (v := 0) ok dX4_shift_3 (by decide) ?_
  refine zg_istore (L' := [(6, .int 0), (4, .long 0), (0, va_rf a0), (1, va_rf a1), (2, va_rf a2), (3, .int a3)]) ok dX4_shift_4 (by decide) rfl ?_
  refine zg_sub (L' := [(0, va_rf a0), (1, va_rf a1), (2, va_rf a2), (3, .int a3), (4, .long 0), (6, .int 0)]) [2, 3, 4, 5, 1, 0] rfl ?_
  refine gt_f_X4_shifts4_L6 hl ok tab fin hRm ⟨Nat.le_of_ble_eq_true rfl, Nat.le_of_ble_eq_true rfl⟩ ?_ _ _ _ _ hE
  · intro v8 h4 hE
    refine zg_lload ok dX4_shift_55 0 rfl ?_
    exact zg_lret ok fin dX4_shift_57 ⟨Nat.le_of_ble_eq_true rfl, Nat.le_of_ble_eq_true rfl⟩ hE
set_option maxHeartbeats 8000000 in
theorem mt_X4_shifteds4 {l : Launch} (hl : l.stackTraces = false) {Z : zw_Z} {a0 : Option Nat} {a1 : Option Nat} {a2 : Int32} {h : zw_H} {Q : Int64 → zw_H → Prop} {X : String → Nat → zw_H → Prop} (hE : f_X4_shifteds4 Z.2.2.2 a0 a1 a2 h Q X) : zw_Met l Z yX4_shifted (ws_ yX4_shifted cX4_shifted 3 (Option.some Jvm.ClassFile.FieldType.long)) rm_X4_shifteds4 [zA a0, zA a1, zI a2] h (zq_J Q) X := by
  refine zg_start (own := "MultipoleLine$Line") (by decide +kernel) rfl (Nat.le_of_ble_eq_true rfl) hl (fun Xc ok tab fin hRm hXl hXZ => ?_)
  subst hXl
  subst hXZ
  unfold f_X4_shifteds4 at hE
  refine zg_aload_n ok dX4_shifted_0 rfl 1 rfl ?_
  refine zg_getI ok lf_X4_139 dX4_shifted_1 hE (fun v1 hE => ?_)
  refine zg_aload_n ok dX4_shifted_4 rfl 0 rfl ?_
  refine zg_getI ok lf_X4_57 dX4_shifted_5 hE (fun v2 hE => ?_)
  refine zg_icmp_ne (tgt := 18) ok dX4_shifted_8 (by decide) hE (fun hE => ?_) (fun hE => ?_)
  · refine zg_aload_n ok dX4_shifted_18 rfl 0 rfl ?_
    refine zg_aload_n ok dX4_shifted_19 rfl 0 rfl ?_
    refine zg_aload_n ok dX4_shifted_20 rfl 1 rfl ?_
    refine zg_getI ok lf_X4_139 dX4_shifted_21 hE (fun v3 hE => ?_)
    refine zg_iconst (v := 1) ok dX4_shifted_24 (by decide) ?_
    refine zg_iadd ok dX4_shifted_25 ?_
    refine zg_iconst (v := 2) ok dX4_shifted_26 (by decide) ?_
    refine zg_aload_n ok dX4_shifted_27 rfl 1 rfl ?_
    refine zg_getI ok lf_X4_119 dX4_shifted_28 hE (fun v4 hE => ?_)
    refine zg_imul ok dX4_shifted_31 ?_
    refine zg_callV (vs := [zI (v3 + 1), zI ((2 : Int32) * v4)]) (rest := [va_rf a0]) (rm := rm_X4_box) ok hRm lk_X4_142 dX4_shifted_32 hE (fun hE => mt_X4_box hl hE) rfl (Nat.le_of_ble_eq_true rfl) ⟨⟨Nat.le_of_ble_eq_true rfl, Nat.le_of_ble_eq_true rfl⟩, Nat.le_of_ble_eq_true rfl, Nat.le_of_ble_eq_true rfl⟩ (zg_retA (fun v5 h1 hE => ?_)) (zg_xok ok tab fin ⟨Nat.le_of_ble_eq_true rfl, Nat.le_of_ble_eq_true rfl⟩)
    refine zg_cost (kc2 := 0) (ks2 := 0) ⟨rfl, rfl⟩ ?_
    refine zg_aload_n ok dX4_shifted_35 rfl 1 rfl ?_
    refine zg_iload_n ok dX4_shifted_36 rfl 2 rfl ?_
    refine zg_callV (vs := [zA v5, zA a1, zI a2]) (rest := []) (rm := rm_X4_shifts4) ok hRm lk_X4_145 dX4_shifted_37 hE (fun hE => mt_X4_shifts4 hl hE) rfl (Nat.le_of_ble_eq_true rfl) ⟨⟨Nat.le_of_ble_eq_true rfl, Nat.le_of_ble_eq_true rfl⟩, Nat.le_of_ble_eq_true rfl, Nat.le_of_ble_eq_true rfl⟩ (zg_retJ (fun v6 h2 hE => ?_)) (zg_xok ok tab fin ⟨Nat.le_of_ble_eq_true rfl, Nat.le_of_ble_eq_true rfl⟩)
    refine zg_cost (kc2 := 0) (ks2 := 0) ⟨rfl, rfl⟩ ?_
    refine zg_aload_n ok dX4_shifted_40 rfl 0 rfl ?_
    refine zg_aload_n ok dX4_shifted_41 rfl 0 rfl ?_
    refine zg_aload_n ok dX4_shifted_42 rfl 1 rfl ?_
    refine zg_getI ok lf_X4_139 dX4_shifted_43 hE (fun v7 hE => ?_)
    refine zg_iconst (v := 1) ok dX4_shifted_46 (by decide) ?_
    refine zg_iadd ok dX4_shifted_47 ?_
    refine zg_iconst (v := 2) ok dX4_shifted_48 (by decide) ?_
    refine zg_aload_n ok dX4_shifted_49 rfl 1 rfl ?_
    refine zg_getI ok lf_X4_119 dX4_shifted_50 hE (fun v8 hE => ?_)
    refine zg_imul ok dX4_shifted_53 ?_
    refine zg_iconst (v := 1) ok dX4_shifted_54 (by decide) ?_
    refine zg_iadd ok dX4_shifted_55 ?_
    refine zg_callV (vs := [zI (v7 + 1), zI (((2 : Int32) * v8) + 1)]) (rest := [va_rf a0, .long v6]) (rm := rm_X4_box) ok hRm lk_X4_142 dX4_shifted_56 hE (fun hE => mt_X4_box hl hE) rfl (Nat.le_of_ble_eq_true rfl) ⟨⟨Nat.le_of_ble_eq_true rfl, Nat.le_of_ble_eq_true rfl⟩, Nat.le_of_ble_eq_true rfl, Nat.le_of_ble_eq_true rfl⟩ (zg_retA (fun v9 h3 hE => ?_)) (zg_xok ok tab fin ⟨Nat.le_of_ble_eq_true rfl, Nat.le_of_ble_eq_true rfl⟩)
    refine zg_cost (kc2 := 0) (ks2 := 0) ⟨rfl, rfl⟩ ?_
    refine zg_aload_n ok dX4_shifted_59 rfl 1 rfl ?_
    refine zg_iload_n ok dX4_shifted_60 rfl 2 rfl ?_
    refine zg_callV (vs := [zA v9, zA a1, zI a2]) (rest := [.long v6]) (rm := rm_X4_shifts4) ok hRm lk_X4_145 dX4_shifted_61 hE (fun hE => mt_X4_shifts4 hl hE) rfl (Nat.le_of_ble_eq_true rfl) ⟨⟨Nat.le_of_ble_eq_true rfl, Nat.le_of_ble_eq_true rfl⟩, Nat.le_of_ble_eq_true rfl, Nat.le_of_ble_eq_true rfl⟩ (zg_retJ (fun v10 h4 hE => ?_)) (zg_xok ok tab fin ⟨Nat.le_of_ble_eq_true rfl, Nat.le_of_ble_eq_true rfl⟩)
    refine zg_cost (kc2 := 0) (ks2 := 0) ⟨rfl, rfl⟩ ?_
    refine zg_ladd ok dX4_shifted_64 ?_
    exact zg_lret ok fin dX4_shifted_65 ⟨Nat.le_of_ble_eq_true rfl, Nat.le_of_ble_eq_true rfl⟩ hE
  · refine zg_aload_n ok dX4_shifted_11 rfl 0 rfl ?_
    refine zg_aload_n ok dX4_shifted_12 rfl 1 rfl ?_
    refine zg_iload_n ok dX4_shifted_13 rfl 2 rfl ?_
    refine zg_callV (vs := [zA a1, zI a2]) (rest := []) (rm := rm_X4_moment) ok hRm lk_X4_106 dX4_shifted_14 hE (fun hE => mt_X4_moment hl hE) rfl (Nat.le_of_ble_eq_true rfl) ⟨⟨Nat.le_of_ble_eq_true rfl, Nat.le_of_ble_eq_true rfl⟩, Nat.le_of_ble_eq_true rfl, Nat.le_of_ble_eq_true rfl⟩ (zg_retJ (fun v11 h5 hE => ?_)) (zg_xok ok tab fin ⟨Nat.le_of_ble_eq_true rfl, Nat.le_of_ble_eq_true rfl⟩)
    refine zg_cost (kc2 := 0) (ks2 := 0) ⟨rfl, rfl⟩ ?_
    exact zg_lret ok fin dX4_shifted_17 ⟨Nat.le_of_ble_eq_true rfl, Nat.le_of_ble_eq_true rfl⟩ hE
set_option maxHeartbeats 8000000 in
theorem gt_f_X4_shifts3_B6 {Xc : zw_X} {Q : Int64 → zw_H → Prop} {X : String → Nat → zw_H → Prop} (hl : (zw_l Xc).stackTraces = false) (ok : zw_ok Xc cX4_shift "MultipoleLine$Line" yX4_shift.name 7) (tab : zw_tab Xc []) (fin : zw_fin Xc (Option.some Jvm.ClassFile.FieldType.long) (zq_J Q) X 0 0) (hRm : zw_rm Xc = rm_X4_shifts3) {kc ks : Nat} (hb : kc ≤ 0 ∧ ks ≤ 0) {R : Int64 → Int32 → zw_H → Prop} {l0 : Option Nat} {l1 : Option Nat} {l2 : Option Nat} {l3 : Int32} (hR : ∀ (l4 : Int64) (l6 : Int32) (h : zw_H), R l4 l6 h → zw_G Xc kc ks 7 h 6 [(0, va_rf l0), (1, va_rf l1), (2, va_rf l2), (3, .int l3), (4, .long l4), (6, .int l6)] []) {k55 : Int64 → zw_H → Prop} (hk55 : ∀ (l4 : Int64) (h : zw_H), k55 l4 h → zw_G Xc kc ks 7 h 55 [(4, .long l4)] [])  {l4 : Int64} {l6 : Int32} {h : zw_H} (hE : f_X4_shifts3_B6 (zw_Zf Xc).2.2.2 Q X k55 l0 l1 l2 l3 R l4 l6 h) : zw_G Xc kc ks 7 h 6 [(0, va_rf l0), (1, va_rf l1), (2, va_rf l2), (3, .int l3), (4, .long l4), (6, .int l6)] [] := by
  unfold f_X4_shifts3_B6 at hE
  refine zg_iload ok dX4_shift_6 5 rfl ?_
  refine zg_iload_n ok dX4_shift_8 rfl 3 rfl ?_
  refine zg_icmp_gt (tgt := 55) ok dX4_shift_9 (by decide) hE (fun hE => ?_) (fun hE => ?_)
  · refine zg_sub (L' := [(4, .long l4)]) [4] rfl ?_
    exact hk55 _ _ hE
  · refine zg_lload ok dX4_shift_12 4 rfl ?_
    refine zg_iload_n ok dX4_shift_14 rfl 3 rfl ?_
    refine zg_iload ok dX4_shift_15 5 rfl ?_
    refine zg_callSN (vs := [zI l3, zI l6]) (rest := [.long l4]) (rm := rm_X1_choose) ok hRm lk_X4_132 dX4_shift_17 hE (fun hE => mt_X1_choose hl hE) rfl (Nat.le_of_ble_eq_true rfl) ⟨⟨Nat.le_of_ble_eq_true rfl, Nat.le_of_ble_eq_true rfl⟩, (by show kc + 0 ≤ 0; omega), (by show ks + 0 ≤ 0; omega)⟩ (zg_retJ (fun v1 h1 hE => ?_)) (zg_xok ok tab fin ⟨(by show kc + 0 ≤ 0; omega), (by show ks + 0 ≤ 0; omega)⟩)
    refine zg_cost (kc2 := kc) (ks2 := ks) ⟨(by show kc + 0 = kc; omega), (by show ks + 0 = ks; omega)⟩ ?_
    refine zg_aload_n ok dX4_shift_20 rfl 0 rfl ?_
    refine zg_aload_n ok dX4_shift_21 rfl 1 rfl ?_
    refine zg_iload ok dX4_shift_22 5 rfl ?_
    refine zg_callV (vs := [zA l1, zI l6]) (rest := [.long v1, .long l4]) (rm := rm_X4_shifteds4) ok hRm lk_X4_136 dX4_shift_24 hE (fun hE => mt_X4_shifteds4 hl hE) rfl (Nat.le_of_ble_eq_true rfl) ⟨⟨Nat.le_of_ble_eq_true rfl, Nat.le_of_ble_eq_true rfl⟩, (by show kc + 0 ≤ 0; omega), (by show ks + 0 ≤ 0; omega)⟩ (zg_retJ (fun v2 h2 hE => ?_)) (zg_xok ok tab fin ⟨(by show kc + 0 ≤ 0; omega), (by show ks + 0 ≤ 0; omega)⟩)
    refine zg_cost (kc2 := kc) (ks2 := ks) ⟨(by show kc + 0 = kc; omega), (by show ks + 0 = ks; omega)⟩ ?_
    refine zg_lmul ok dX4_shift_27 ?_
    refine zg_aload_n ok dX4_shift_28 rfl 1 rfl ?_
    refine zg_getI ok lf_X4_125 dX4_shift_29 hE (fun v3 hE => ?_)
    refine zg_aload_n ok dX4_shift_32 rfl 2 rfl ?_
    refine zg_getI ok lf_X4_125 dX4_shift_33 hE (fun v4 hE => ?_)
    refine zg_isub ok dX4_shift_36 ?_
    refine zg_i2l ok dX4_shift_37 ?_
    refine zg_iload_n ok dX4_shift_38 rfl 3 rfl ?_
    refine zg_iload ok dX4_shift_39 5 rfl ?_
    refine zg_isub ok dX4_shift_41 ?_
    refine zg_callS (vs := [zJ ((v3 - v4).toInt64), zI (l3 - l6)]) (rest := [.long (v1 * v2), .long l4]) (rm := rm_X4_raised) ok hRm lk_X4_128 dX4_shift_42 hE (fun hE => mt_X4_raised hl hE) rfl (Nat.le_of_ble_eq_true rfl) ⟨⟨Nat.le_of_ble_eq_true rfl, Nat.le_of_ble_eq_true rfl⟩, (by show kc + 0 ≤ 0; omega), (by show ks + 0 ≤ 0; omega)⟩ (zg_retJ (fun v5 h3 hE => ?_)) (zg_xok ok tab fin ⟨(by show kc + 0 ≤ 0; omega), (by show ks + 0 ≤ 0; omega)⟩)
    refine zg_cost (kc2 := kc) (ks2 := ks) ⟨(by show kc + 0 = kc; omega), (by show ks + 0 = ks; omega)⟩ ?_
    refine zg_lmul ok dX4_shift_45 ?_
    refine zg_ladd ok dX4_shift_46 ?_
    refine zg_letJ hE (fun v6 hE => ?_)
    refine zg_lstore (L' := [(4, .long v6), (0, va_rf l0), (1, va_rf l1), (2, va_rf l2), (3, .int l3), (6, .int l6)]) ok dX4_shift_47 (by decide) rfl ?_
    refine zg_iincL (k := 5) (L' := fun v7 => [(6, .int v7), (4, .long v6), (0, va_rf l0), (1, va_rf l1), (2, va_rf l2), (3, .int l3)]) ok dX4_shift_49 (by decide +kernel) hE rfl (by decide) (fun _ => rfl) (fun v7 hE => ?_)
    refine zg_goto (tgt := 6) ok dX4_shift_52 (by decide) ?_
    refine zg_sub (L' := [(0, va_rf l0), (1, va_rf l1), (2, va_rf l2), (3, .int l3), (4, .long v6), (6, .int v7)]) [2, 3, 4, 5, 1, 0] rfl ?_
    exact hR _ _ _ hE
theorem gt_f_X4_shifts3_L6 {Xc : zw_X} {Q : Int64 → zw_H → Prop} {X : String → Nat → zw_H → Prop} (hl : (zw_l Xc).stackTraces = false) (ok : zw_ok Xc cX4_shift "MultipoleLine$Line" yX4_shift.name 7) (tab : zw_tab Xc []) (fin : zw_fin Xc (Option.some Jvm.ClassFile.FieldType.long) (zq_J Q) X 0 0) (hRm : zw_rm Xc = rm_X4_shifts3) {kc ks : Nat} (hb : kc ≤ 0 ∧ ks ≤ 0) {l0 : Option Nat} {l1 : Option Nat} {l2 : Option Nat} {l3 : Int32} {k55 : Int64 → zw_H → Prop} (hk55 : ∀ (l4 : Int64) (h : zw_H), k55 l4 h → zw_G Xc kc ks 7 h 55 [(4, .long l4)] [])  : ∀ (n9 : Nat) (l4 : Int64) (l6 : Int32) (h : zw_H), zl3 (f_X4_shifts3_B6 (zw_Zf Xc).2.2.2 Q X k55 l0 l1 l2 l3) n9 l4 l6 h → zw_G Xc kc ks 7 h 6 [(0, va_rf l0), (1, va_rf l1), (2, va_rf l2), (3, .int l3), (4, .long l4), (6, .int l6)] [] := by
  intro n9
  induction n9 with
  | zero => intro l4 l6 h hE; exact hE.elim
  | succ n9 ih => intro l4 l6 h hE; exact gt_f_X4_shifts3_B6 hl ok tab fin hRm hb ih hk55 hE
set_option maxHeartbeats 8000000 in
theorem mt_X4_shifts3 {l : Launch} (hl : l.stackTraces = false) {Z : zw_Z} {a0 : Option Nat} {a1 : Option Nat} {a2 : Option Nat} {a3 : Int32} {h : zw_H} {Q : Int64 → zw_H → Prop} {X : String → Nat → zw_H → Prop} (hE : f_X4_shifts3 Z.2.2.2 a0 a1 a2 a3 h Q X) : zw_Met l Z yX4_shift (ws_ yX4_shift cX4_shift 7 (Option.some Jvm.ClassFile.FieldType.long)) rm_X4_shifts3 [zA a0, zA a1, zA a2, zI a3] h (zq_J Q) X := by
  refine zg_start (own := "MultipoleLine$Line") (by decide +kernel) rfl (Nat.le_of_ble_eq_true rfl) hl (fun Xc ok tab fin hRm hXl hXZ => ?_)
  subst hXl
  subst hXZ
  unfold f_X4_shifts3 at hE
  refine zg_lconst (v := 0) ok dX4_shift_0 (by decide) ?_
  refine zg_lstore (L' := [(4, .long 0), (0, va_rf a0), (1, va_rf a1), (2, va_rf a2), (3, .int a3)]) ok dX4_shift_1 (by decide) rfl ?_
  refine zg_iconst (v := 0) ok dX4_shift_3 (by decide) ?_
  refine zg_istore (L' := [(6, .int 0), (4, .long 0), (0, va_rf a0), (1, va_rf a1), (2, va_rf a2), (3, .int a3)]) ok dX4_shift_4 (by decide) rfl ?_
  refine zg_sub (L' := [(0, va_rf a0), (1, va_rf a1), (2, va_rf a2), (3, .int a3), (4, .long 0), (6, .int 0)]) [2, 3, 4, 5, 1, 0] rfl ?_
  refine gt_f_X4_shifts3_L6 hl ok tab fin hRm ⟨Nat.le_of_ble_eq_true rfl, Nat.le_of_ble_eq_true rfl⟩ ?_ _ _ _ _ hE
  · intro v8 h4 hE
    refine zg_lload ok dX4_shift_55 0 rfl ?_
    exact zg_lret ok fin dX4_shift_57 ⟨Nat.le_of_ble_eq_true rfl, Nat.le_of_ble_eq_true rfl⟩ hE
set_option maxHeartbeats 8000000 in
theorem mt_X4_shifteds3 {l : Launch} (hl : l.stackTraces = false) {Z : zw_Z} {a0 : Option Nat} {a1 : Option Nat} {a2 : Int32} {h : zw_H} {Q : Int64 → zw_H → Prop} {X : String → Nat → zw_H → Prop} (hE : f_X4_shifteds3 Z.2.2.2 a0 a1 a2 h Q X) : zw_Met l Z yX4_shifted (ws_ yX4_shifted cX4_shifted 3 (Option.some Jvm.ClassFile.FieldType.long)) rm_X4_shifteds3 [zA a0, zA a1, zI a2] h (zq_J Q) X := by
  refine zg_start (own := "MultipoleLine$Line") (by decide +kernel) rfl (Nat.le_of_ble_eq_true rfl) hl (fun Xc ok tab fin hRm hXl hXZ => ?_)
  subst hXl
  subst hXZ
  unfold f_X4_shifteds3 at hE
  refine zg_aload_n ok dX4_shifted_0 rfl 1 rfl ?_
  refine zg_getI ok lf_X4_139 dX4_shifted_1 hE (fun v1 hE => ?_)
  refine zg_aload_n ok dX4_shifted_4 rfl 0 rfl ?_
  refine zg_getI ok lf_X4_57 dX4_shifted_5 hE (fun v2 hE => ?_)
  refine zg_icmp_ne (tgt := 18) ok dX4_shifted_8 (by decide) hE (fun hE => ?_) (fun hE => ?_)
  · refine zg_aload_n ok dX4_shifted_18 rfl 0 rfl ?_
    refine zg_aload_n ok dX4_shifted_19 rfl 0 rfl ?_
    refine zg_aload_n ok dX4_shifted_20 rfl 1 rfl ?_
    refine zg_getI ok lf_X4_139 dX4_shifted_21 hE (fun v3 hE => ?_)
    refine zg_iconst (v := 1) ok dX4_shifted_24 (by decide) ?_
    refine zg_iadd ok dX4_shifted_25 ?_
    refine zg_iconst (v := 2) ok dX4_shifted_26 (by decide) ?_
    refine zg_aload_n ok dX4_shifted_27 rfl 1 rfl ?_
    refine zg_getI ok lf_X4_119 dX4_shifted_28 hE (fun v4 hE => ?_)
    refine zg_imul ok dX4_shifted_31 ?_
    refine zg_callV (vs := [zI (v3 + 1), zI ((2 : Int32) * v4)]) (rest := [va_rf a0]) (rm := rm_X4_box) ok hRm lk_X4_142 dX4_shifted_32 hE (fun hE => mt_X4_box hl hE) rfl (Nat.le_of_ble_eq_true rfl) ⟨⟨Nat.le_of_ble_eq_true rfl, Nat.le_of_ble_eq_true rfl⟩, Nat.le_of_ble_eq_true rfl, Nat.le_of_ble_eq_true rfl⟩ (zg_retA (fun v5 h1 hE => ?_)) (zg_xok ok tab fin ⟨Nat.le_of_ble_eq_true rfl, Nat.le_of_ble_eq_true rfl⟩)
    refine zg_cost (kc2 := 0) (ks2 := 0) ⟨rfl, rfl⟩ ?_
    refine zg_aload_n ok dX4_shifted_35 rfl 1 rfl ?_
    refine zg_iload_n ok dX4_shifted_36 rfl 2 rfl ?_
    refine zg_callV (vs := [zA v5, zA a1, zI a2]) (rest := []) (rm := rm_X4_shifts3) ok hRm lk_X4_145 dX4_shifted_37 hE (fun hE => mt_X4_shifts3 hl hE) rfl (Nat.le_of_ble_eq_true rfl) ⟨⟨Nat.le_of_ble_eq_true rfl, Nat.le_of_ble_eq_true rfl⟩, Nat.le_of_ble_eq_true rfl, Nat.le_of_ble_eq_true rfl⟩ (zg_retJ (fun v6 h2 hE => ?_)) (zg_xok ok tab fin ⟨Nat.le_of_ble_eq_true rfl, Nat.le_of_ble_eq_true rfl⟩)
    refine zg_cost (kc2 := 0) (ks2 := 0) ⟨rfl, rfl⟩ ?_
    refine zg_aload_n ok dX4_shifted_40 rfl 0 rfl ?_
    refine zg_aload_n ok dX4_shifted_41 rfl 0 rfl ?_
    refine zg_aload_n ok dX4_shifted_42 rfl 1 rfl ?_
    refine zg_getI ok lf_X4_139 dX4_shifted_43 hE (fun v7 hE => ?_)
    refine zg_iconst (v := 1) ok dX4_shifted_46 (by decide) ?_
    refine zg_iadd ok dX4_shifted_47 ?_
    refine zg_iconst (v := 2) ok dX4_shifted_48 (by decide) ?_
    refine zg_aload_n ok dX4_shifted_49 rfl 1 rfl ?_
    refine zg_getI ok lf_X4_119 dX4_shifted_50 hE (fun v8 hE => ?_)
    refine zg_imul ok dX4_shifted_53 ?_
    refine zg_iconst (v := 1) ok dX4_shifted_54 (by decide) ?_
    refine zg_iadd ok dX4_shifted_55 ?_
    refine zg_callV (vs := [zI (v7 + 1), zI (((2 : Int32) * v8) + 1)]) (rest := [va_rf a0, .long v6]) (rm := rm_X4_box) ok hRm lk_X4_142 dX4_shifted_56 hE (fun hE => mt_X4_box hl hE) rfl (Nat.le_of_ble_eq_true rfl) ⟨⟨Nat.le_of_ble_eq_true rfl, Nat.le_of_ble_eq_true rfl⟩, Nat.le_of_ble_eq_true rfl, Nat.le_of_ble_eq_true rfl⟩ (zg_retA (fun v9 h3 hE => ?_)) (zg_xok ok tab fin ⟨Nat.le_of_ble_eq_true rfl, Nat.le_of_ble_eq_true rfl⟩)
    refine zg_cost (kc2 := 0) (ks2 := 0) ⟨rfl, rfl⟩ ?_
    refine zg_aload_n ok dX4_shifted_59 rfl 1 rfl ?_
    refine zg_iload_n ok dX4_shifted_60 rfl 2 rfl ?_
    refine zg_callV (vs := [zA v9, zA a1, zI a2]) (rest := [.long v6]) (rm := rm_X4_shifts3) ok hRm lk_X4_145 dX4_shifted_61 hE (fun hE => mt_X4_shifts3 hl hE) rfl (Nat.le_of_ble_eq_true rfl) ⟨⟨Nat.le_of_ble_eq_true rfl, Nat.le_of_ble_eq_true rfl⟩, Nat.le_of_ble_eq_true rfl, Nat.le_of_ble_eq_true rfl⟩ (zg_retJ (fun v10 h4 hE => ?_)) (zg_xok ok tab fin ⟨Nat.le_of_ble_eq_true rfl, Nat.le_of_ble_eq_true rfl⟩)
    refine zg_cost (kc2 := 0) (ks2 := 0) ⟨rfl, rfl⟩ ?_
    refine zg_ladd ok dX4_shifted_64 ?_
    exact zg_lret ok fin dX4_shifted_65 ⟨Nat.le_of_ble_eq_true rfl, Nat.le_of_ble_eq_true rfl⟩ hE
  · refine zg_aload_n ok dX4_shifted_11 rfl 0 rfl ?_
    refine zg_aload_n ok dX4_shifted_12 rfl 1 rfl ?_
    refine zg_iload_n ok dX4_shifted_13 rfl 2 rfl ?_
    refine zg_callV (vs := [zA a1, zI a2]) (rest := []) (rm := rm_X4_moment) ok hRm lk_X4_106 dX4_shifted_14 hE (fun hE => mt_X4_moment hl hE) rfl (Nat.le_of_ble_eq_true rfl) ⟨⟨Nat.le_of_ble_eq_true rfl, Nat.le_of_ble_eq_true rfl⟩, Nat.le_of_ble_eq_true rfl, Nat.le_of_ble_eq_true rfl⟩ (zg_retJ (fun v11 h5 hE => ?_)) (zg_xok ok tab fin ⟨Nat.le_of_ble_eq_true rfl, Nat.le_of_ble_eq_true rfl⟩)
    refine zg_cost (kc2 := 0) (ks2 := 0) ⟨rfl, rfl⟩ ?_
    exact zg_lret ok fin dX4_shifted_17 ⟨Nat.le_of_ble_eq_true rfl, Nat.le_of_ble_eq_true rfl⟩ hE
set_option maxHeartbeats 8000000 in
theorem gt_f_X4_shifts2_B6 {Xc : zw_X} {Q : Int64 → zw_H → Prop} {X : String → Nat → zw_H → Prop} (hl : (zw_l Xc).stackTraces = false) (ok : zw_ok Xc cX4_shift "MultipoleLine$Line" yX4_shift.name 7) (tab : zw_tab Xc []) (fin : zw_fin Xc (Option.some Jvm.ClassFile.FieldType.long) (zq_J Q) X 0 0) (hRm : zw_rm Xc = rm_X4_shifts2) {kc ks : Nat} (hb : kc ≤ 0 ∧ ks ≤ 0) {R : Int64 → Int32 → zw_H → Prop} {l0 : Option Nat} {l1 : Option Nat} {l2 : Option Nat} {l3 : Int32} (hR : ∀ (l4 : Int64) (l6 : Int32) (h : zw_H), R l4 l6 h → zw_G Xc kc ks 7 h 6 [(0, va_rf l0), (1, va_rf l1), (2, va_rf l2), (3, .int l3), (4, .long l4), (6, .int l6)] []) {k55 : Int64 → zw_H → Prop} (hk55 : ∀ (l4 : Int64) (h : zw_H), k55 l4 h → zw_G Xc kc ks 7 h 55 [(4, .long l4)] [])  {l4 : Int64} {l6 : Int32} {h : zw_H} (hE : f_X4_shifts2_B6 (zw_Zf Xc).2.2.2 Q X k55 l0 l1 l2 l3 R l4 l6 h) : zw_G Xc kc ks 7 h 6 [(0, va_rf l0), (1, va_rf l1), (2, va_rf l2), (3, .int l3), (4, .long l4), (6, .int l6)] [] := by
  unfold f_X4_shifts2_B6 at hE
  refine zg_iload ok dX4_shift_6 5 rfl ?_
  refine zg_iload_n ok dX4_shift_8 rfl 3 rfl ?_
  refine zg_icmp_gt (tgt := 55) ok dX4_shift_9 (by decide) hE (fun hE => ?_) (fun hE => ?_)
  · refine zg_sub (L' := [(4, .long l4)]) [4] rfl ?_
    exact hk55 _ _ hE
  · refine zg_lload ok dX4_shift_12 4 rfl ?_
    refine zg_iload_n ok dX4_shift_14 rfl 3 rfl ?_
    refine zg_iload ok dX4_shift_15 5 rfl ?_
    refine zg_callSN (vs := [zI l3, zI l6]) (rest := [.long l4]) (rm := rm_X1_choose) ok hRm lk_X4_132 dX4_shift_17 hE (fun hE => mt_X1_choose hl hE) rfl (Nat.le_of_ble_eq_true rfl) ⟨⟨Nat.le_of_ble_eq_true rfl, Nat.le_of_ble_eq_true rfl⟩, (by show kc + 0 ≤ 0; omega), (by show ks + 0 ≤ 0; omega)⟩ (zg_retJ (fun v1 h1 hE => ?_)) (zg_xok ok tab fin ⟨(by show kc + 0 ≤ 0; omega), (by show ks + 0 ≤ 0; omega)⟩)
    refine zg_cost (kc2 := kc) (ks2 := ks) ⟨(by show kc + 0 = kc; omega), (by show ks + 0 = ks; omega)⟩ ?_
    refine zg_aload_n ok dX4_shift_20 rfl 0 rfl ?_
    refine zg_aload_n ok dX4_shift_21 rfl 1 rfl ?_
    refine zg_iload ok dX4_shift_22 5 rfl ?_
    refine zg_callV (vs := [zA l1, zI l6]) (rest := [.long v1, .long l4]) (rm := rm_X4_shifteds3) ok hRm lk_X4_136 dX4_shift_24 hE (fun hE => mt_X4_shifteds3 hl hE) rfl (Nat.le_of_ble_eq_true rfl) ⟨⟨Nat.le_of_ble_eq_true rfl, Nat.le_of_ble_eq_true rfl⟩, (by show kc + 0 ≤ 0; omega), (by show ks + 0 ≤ 0; omega)⟩ (zg_retJ (fun v2 h2 hE => ?_)) (zg_xok ok tab fin ⟨(by show kc + 0 ≤ 0; omega), (by show ks + 0 ≤ 0; omega)⟩)
    refine zg_cost (kc2 := kc) (ks2 := ks) ⟨(by show kc + 0 = kc; omega), (by show ks + 0 = ks; omega)⟩ ?_
    refine zg_lmul ok dX4_shift_27 ?_
    refine zg_aload_n ok dX4_shift_28 rfl 1 rfl ?_
    refine zg_getI ok lf_X4_125 dX4_shift_29 hE (fun v3 hE => ?_)
    refine zg_aload_n ok dX4_shift_32 rfl 2 rfl ?_
    refine zg_getI ok lf_X4_125 dX4_shift_33 hE (fun v4 hE => ?_)
    refine zg_isub ok dX4_shift_36 ?_
    refine zg_i2l ok dX4_shift_37 ?_
    refine zg_iload_n ok dX4_shift_38 rfl 3 rfl ?_
    refine zg_iload ok dX4_shift_39 5 rfl ?_
    refine zg_isub ok dX4_shift_41 ?_
    refine zg_callS (vs := [zJ ((v3 - v4).toInt64), zI (l3 - l6)]) (rest := [.long (v1 * v2), .long l4]) (rm := rm_X4_raised) ok hRm lk_X4_128 dX4_shift_42 hE (fun hE => mt_X4_raised hl hE) rfl (Nat.le_of_ble_eq_true rfl) ⟨⟨Nat.le_of_ble_eq_true rfl, Nat.le_of_ble_eq_true rfl⟩, (by show kc + 0 ≤ 0; omega), (by show ks + 0 ≤ 0; omega)⟩ (zg_retJ (fun v5 h3 hE => ?_)) (zg_xok ok tab fin ⟨(by show kc + 0 ≤ 0; omega), (by show ks + 0 ≤ 0; omega)⟩)
    refine zg_cost (kc2 := kc) (ks2 := ks) ⟨(by show kc + 0 = kc; omega), (by show ks + 0 = ks; omega)⟩ ?_
    refine zg_lmul ok dX4_shift_45 ?_
    refine zg_ladd ok dX4_shift_46 ?_
    refine zg_letJ hE (fun v6 hE => ?_)
    refine zg_lstore (L' := [(4, .long v6), (0, va_rf l0), (1, va_rf l1), (2, va_rf l2), (3, .int l3), (6, .int l6)]) ok dX4_shift_47 (by decide) rfl ?_
    refine zg_iincL (k := 5) (L' := fun v7 => [(6, .int v7), (4, .long v6), (0, va_rf l0), (1, va_rf l1), (2, va_rf l2), (3, .int l3)]) ok dX4_shift_49 (by decide +kernel) hE rfl (by decide) (fun _ => rfl) (fun v7 hE => ?_)
    refine zg_goto (tgt := 6) ok dX4_shift_52 (by decide) ?_
    refine zg_sub (L' := [(0, va_rf l0), (1, va_rf l1), (2, va_rf l2), (3, .int l3), (4, .long v6), (6, .int v7)]) [2, 3, 4, 5, 1, 0] rfl ?_
    exact hR _ _ _ hE
theorem gt_f_X4_shifts2_L6 {Xc : zw_X} {Q : Int64 → zw_H → Prop} {X : String → Nat → zw_H → Prop} (hl : (zw_l Xc).stackTraces = false) (ok : zw_ok Xc cX4_shift "MultipoleLine$Line" yX4_shift.name 7) (tab : zw_tab Xc []) (fin : zw_fin Xc (Option.some Jvm.ClassFile.FieldType.long) (zq_J Q) X 0 0) (hRm : zw_rm Xc = rm_X4_shifts2) {kc ks : Nat} (hb : kc ≤ 0 ∧ ks ≤ 0) {l0 : Option Nat} {l1 : Option Nat} {l2 : Option Nat} {l3 : Int32} {k55 : Int64 → zw_H → Prop} (hk55 : ∀ (l4 : Int64) (h : zw_H), k55 l4 h → zw_G Xc kc ks 7 h 55 [(4, .long l4)] [])  : ∀ (n9 : Nat) (l4 : Int64) (l6 : Int32) (h : zw_H), zl3 (f_X4_shifts2_B6 (zw_Zf Xc).2.2.2 Q X k55 l0 l1 l2 l3) n9 l4 l6 h → zw_G Xc kc ks 7 h 6 [(0, va_rf l0), (1, va_rf l1), (2, va_rf l2), (3, .int l3), (4, .long l4), (6, .int l6)] [] := by
  intro n9
  induction n9 with
  | zero => intro l4 l6 h hE; exact hE.elim
  | succ n9 ih => intro l4 l6 h hE; exact gt_f_X4_shifts2_B6 hl ok tab fin hRm hb ih hk55 hE
set_option maxHeartbeats 8000000 in
theorem mt_X4_shifts2 {l : Launch} (hl : l.stackTraces = false) {Z : zw_Z} {a0 : Option Nat} {a1 : Option Nat} {a2 : Option Nat} {a3 : Int32} {h : zw_H} {Q : Int64 → zw_H → Prop} {X : String → Nat → zw_H → Prop} (hE : f_X4_shifts2 Z.2.2.2 a0 a1 a2 a3 h Q X) : zw_Met l Z yX4_shift (ws_ yX4_shift cX4_shift 7 (Option.some Jvm.ClassFile.FieldType.long)) rm_X4_shifts2 [zA a0, zA a1, zA a2, zI a3] h (zq_J Q) X := by
  refine zg_start (own := "MultipoleLine$Line") (by decide +kernel) rfl (Nat.le_of_ble_eq_true rfl) hl (fun Xc ok tab fin hRm hXl hXZ => ?_)
  subst hXl
  subst hXZ
  unfold f_X4_shifts2 at hE
  refine zg_lconst (v := 0) ok dX4_shift_0 (by decide) ?_
  refine zg_lstore (L' := [(4, .long 0), (0, va_rf a0), (1, va_rf a1), (2, va_rf a2), (3, .int a3)]) ok dX4_shift_1 (by decide) rfl ?_
  refine zg_iconst (v := 0) ok dX4_shift_3 (by decide) ?_
  refine zg_istore (L' := [(6, .int 0), (4, .long 0), (0, va_rf a0), (1, va_rf a1), (2, va_rf a2), (3, .int a3)]) ok dX4_shift_4 (by decide) rfl ?_
  refine zg_sub (L' := [(0, va_rf a0), (1, va_rf a1), (2, va_rf a2), (3, .int a3), (4, .long 0), (6, .int 0)]) [2, 3, 4, 5, 1, 0] rfl ?_
  refine gt_f_X4_shifts2_L6 hl ok tab fin hRm ⟨Nat.le_of_ble_eq_true rfl, Nat.le_of_ble_eq_true rfl⟩ ?_ _ _ _ _ hE
  · intro v8 h4 hE
    refine zg_lload ok dX4_shift_55 0 rfl ?_
    exact zg_lret ok fin dX4_shift_57 ⟨Nat.le_of_ble_eq_true rfl, Nat.le_of_ble_eq_true rfl⟩ hE
set_option maxHeartbeats 8000000 in
theorem mt_X4_shifteds2 {l : Launch} (hl : l.stackTraces = false) {Z : zw_Z} {a0 : Option Nat} {a1 : Option Nat} {a2 : Int32} {h : zw_H} {Q : Int64 → zw_H → Prop} {X : String → Nat → zw_H → Prop} (hE : f_X4_shifteds2 Z.2.2.2 a0 a1 a2 h Q X) : zw_Met l Z yX4_shifted (ws_ yX4_shifted cX4_shifted 3 (Option.some Jvm.ClassFile.FieldType.long)) rm_X4_shifteds2 [zA a0, zA a1, zI a2] h (zq_J Q) X := by
  refine zg_start (own := "MultipoleLine$Line") (by decide +kernel) rfl (Nat.le_of_ble_eq_true rfl) hl (fun Xc ok tab fin hRm hXl hXZ => ?_)
  subst hXl
  subst hXZ
  unfold f_X4_shifteds2 at hE
  refine zg_aload_n ok dX4_shifted_0 rfl 1 rfl ?_
  refine zg_getI ok lf_X4_139 dX4_shifted_1 hE (fun v1 hE => ?_)
  refine zg_aload_n ok dX4_shifted_4 rfl 0 rfl ?_
  refine zg_getI ok lf_X4_57 dX4_shifted_5 hE (fun v2 hE => ?_)
  refine zg_icmp_ne (tgt := 18) ok dX4_shifted_8 (by decide) hE (fun hE => ?_) (fun hE => ?_)
  · refine zg_aload_n ok dX4_shifted_18 rfl 0 rfl ?_
    refine zg_aload_n ok dX4_shifted_19 rfl 0 rfl ?_
    refine zg_aload_n ok dX4_shifted_20 rfl 1 rfl ?_
    refine zg_getI ok lf_X4_139 dX4_shifted_21 hE (fun v3 hE => ?_)
    refine zg_iconst (v := 1) ok dX4_shifted_24 (by decide) ?_
    refine zg_iadd ok dX4_shifted_25 ?_
    refine zg_iconst (v := 2) ok dX4_shifted_26 (by decide) ?_
    refine zg_aload_n ok dX4_shifted_27 rfl 1 rfl ?_
    refine zg_getI ok lf_X4_119 dX4_shifted_28 hE (fun v4 hE => ?_)
    refine zg_imul ok dX4_shifted_31 ?_
    refine zg_callV (vs := [zI (v3 + 1), zI ((2 : Int32) * v4)]) (rest := [va_rf a0]) (rm := rm_X4_box) ok hRm lk_X4_142 dX4_shifted_32 hE (fun hE => mt_X4_box hl hE) rfl (Nat.le_of_ble_eq_true rfl) ⟨⟨Nat.le_of_ble_eq_true rfl, Nat.le_of_ble_eq_true rfl⟩, Nat.le_of_ble_eq_true rfl, Nat.le_of_ble_eq_true rfl⟩ (zg_retA (fun v5 h1 hE => ?_)) (zg_xok ok tab fin ⟨Nat.le_of_ble_eq_true rfl, Nat.le_of_ble_eq_true rfl⟩)
    refine zg_cost (kc2 := 0) (ks2 := 0) ⟨rfl, rfl⟩ ?_
    refine zg_aload_n ok dX4_shifted_35 rfl 1 rfl ?_
    refine zg_iload_n ok dX4_shifted_36 rfl 2 rfl ?_
    refine zg_callV (vs := [zA v5, zA a1, zI a2]) (rest := []) (rm := rm_X4_shifts2) ok hRm lk_X4_145 dX4_shifted_37 hE (fun hE => mt_X4_shifts2 hl hE) rfl (Nat.le_of_ble_eq_true rfl) ⟨⟨Nat.le_of_ble_eq_true rfl, Nat.le_of_ble_eq_true rfl⟩, Nat.le_of_ble_eq_true rfl, Nat.le_of_ble_eq_true rfl⟩ (zg_retJ (fun v6 h2 hE => ?_)) (zg_xok ok tab fin ⟨Nat.le_of_ble_eq_true rfl, Nat.le_of_ble_eq_true rfl⟩)
    refine zg_cost (kc2 := 0) (ks2 := 0) ⟨rfl, rfl⟩ ?_
    refine zg_aload_n ok dX4_shifted_40 rfl 0 rfl ?_
    refine zg_aload_n ok dX4_shifted_41 rfl 0 rfl ?_
    refine zg_aload_n ok dX4_shifted_42 rfl 1 rfl ?_
    refine zg_getI ok lf_X4_139 dX4_shifted_43 hE (fun v7 hE => ?_)
    refine zg_iconst (v := 1) ok dX4_shifted_46 (by decide) ?_
    refine zg_iadd ok dX4_shifted_47 ?_
    refine zg_iconst (v := 2) ok dX4_shifted_48 (by decide) ?_
    refine zg_aload_n ok dX4_shifted_49 rfl 1 rfl ?_
    refine zg_getI ok lf_X4_119 dX4_shifted_50 hE (fun v8 hE => ?_)
    refine zg_imul ok dX4_shifted_53 ?_
    refine zg_iconst (v := 1) ok dX4_shifted_54 (by decide) ?_
    refine zg_iadd ok dX4_shifted_55 ?_
    refine zg_callV (vs := [zI (v7 + 1), zI (((2 : Int32) * v8) + 1)]) (rest := [va_rf a0, .long v6]) (rm := rm_X4_box) ok hRm lk_X4_142 dX4_shifted_56 hE (fun hE => mt_X4_box hl hE) rfl (Nat.le_of_ble_eq_true rfl) ⟨⟨Nat.le_of_ble_eq_true rfl, Nat.le_of_ble_eq_true rfl⟩, Nat.le_of_ble_eq_true rfl, Nat.le_of_ble_eq_true rfl⟩ (zg_retA (fun v9 h3 hE => ?_)) (zg_xok ok tab fin ⟨Nat.le_of_ble_eq_true rfl, Nat.le_of_ble_eq_true rfl⟩)
    refine zg_cost (kc2 := 0) (ks2 := 0) ⟨rfl, rfl⟩ ?_
    refine zg_aload_n ok dX4_shifted_59 rfl 1 rfl ?_
    refine zg_iload_n ok dX4_shifted_60 rfl 2 rfl ?_
    refine zg_callV (vs := [zA v9, zA a1, zI a2]) (rest := [.long v6]) (rm := rm_X4_shifts2) ok hRm lk_X4_145 dX4_shifted_61 hE (fun hE => mt_X4_shifts2 hl hE) rfl (Nat.le_of_ble_eq_true rfl) ⟨⟨Nat.le_of_ble_eq_true rfl, Nat.le_of_ble_eq_true rfl⟩, Nat.le_of_ble_eq_true rfl, Nat.le_of_ble_eq_true rfl⟩ (zg_retJ (fun v10 h4 hE => ?_)) (zg_xok ok tab fin ⟨Nat.le_of_ble_eq_true rfl, Nat.le_of_ble_eq_true rfl⟩)
    refine zg_cost (kc2 := 0) (ks2 := 0) ⟨rfl, rfl⟩ ?_
    refine zg_ladd ok dX4_shifted_64 ?_
    exact zg_lret ok fin dX4_shifted_65 ⟨Nat.le_of_ble_eq_true rfl, Nat.le_of_ble_eq_true rfl⟩ hE
  · refine zg_aload_n ok dX4_shifted_11 rfl 0 rfl ?_
    refine zg_aload_n ok dX4_shifted_12 rfl 1 rfl ?_
    refine zg_iload_n ok dX4_shifted_13 rfl 2 rfl ?_
    refine zg_callV (vs := [zA a1, zI a2]) (rest := []) (rm := rm_X4_moment) ok hRm lk_X4_106 dX4_shifted_14 hE (fun hE => mt_X4_moment hl hE) rfl (Nat.le_of_ble_eq_true rfl) ⟨⟨Nat.le_of_ble_eq_true rfl, Nat.le_of_ble_eq_true rfl⟩, Nat.le_of_ble_eq_true rfl, Nat.le_of_ble_eq_true rfl⟩ (zg_retJ (fun v11 h5 hE => ?_)) (zg_xok ok tab fin ⟨Nat.le_of_ble_eq_true rfl, Nat.le_of_ble_eq_true rfl⟩)
    refine zg_cost (kc2 := 0) (ks2 := 0) ⟨rfl, rfl⟩ ?_
    exact zg_lret ok fin dX4_shifted_17 ⟨Nat.le_of_ble_eq_true rfl, Nat.le_of_ble_eq_true rfl⟩ hE
set_option maxHeartbeats 8000000 in
theorem gt_f_X4_shifts1_B6 {Xc : zw_X} {Q : Int64 → zw_H → Prop} {X : String → Nat → zw_H → Prop} (hl : (zw_l Xc).stackTraces = false) (ok : zw_ok Xc cX4_shift "MultipoleLine$Line" yX4_shift.name 7) (tab : zw_tab Xc []) (fin : zw_fin Xc (Option.some Jvm.ClassFile.FieldType.long) (zq_J Q) X 0 0) (hRm : zw_rm Xc = rm_X4_shifts1) {kc ks : Nat} (hb : kc ≤ 0 ∧ ks ≤ 0) {R : Int64 → Int32 → zw_H → Prop} {l0 : Option Nat} {l1 : Option Nat} {l2 : Option Nat} {l3 : Int32} (hR : ∀ (l4 : Int64) (l6 : Int32) (h : zw_H), R l4 l6 h → zw_G Xc kc ks 7 h 6 [(0, va_rf l0), (1, va_rf l1), (2, va_rf l2), (3, .int l3), (4, .long l4), (6, .int l6)] []) {k55 : Int64 → zw_H → Prop} (hk55 : ∀ (l4 : Int64) (h : zw_H), k55 l4 h → zw_G Xc kc ks 7 h 55 [(4, .long l4)] [])  {l4 : Int64} {l6 : Int32} {h : zw_H} (hE : f_X4_shifts1_B6 (zw_Zf Xc).2.2.2 Q X k55 l0 l1 l2 l3 R l4 l6 h) : zw_G Xc kc ks 7 h 6 [(0, va_rf l0), (1, va_rf l1), (2, va_rf l2), (3, .int l3), (4, .long l4), (6, .int l6)] [] := by
  unfold f_X4_shifts1_B6 at hE
  refine zg_iload ok dX4_shift_6 5 rfl ?_
  refine zg_iload_n ok dX4_shift_8 rfl 3 rfl ?_
  refine zg_icmp_gt (tgt := 55) ok dX4_shift_9 (by decide) hE (fun hE => ?_) (fun hE => ?_)
  · refine zg_sub (L' := [(4, .long l4)]) [4] rfl ?_
    exact hk55 _ _ hE
  · refine zg_lload ok dX4_shift_12 4 rfl ?_
    refine zg_iload_n ok dX4_shift_14 rfl 3 rfl ?_
    refine zg_iload ok dX4_shift_15 5 rfl ?_
    refine zg_callSN (vs := [zI l3, zI l6]) (rest := [.long l4]) (rm := rm_X1_choose) ok hRm lk_X4_132 dX4_shift_17 hE (fun hE => mt_X1_choose hl hE) rfl (Nat.le_of_ble_eq_true rfl) ⟨⟨Nat.le_of_ble_eq_true rfl, Nat.le_of_ble_eq_true rfl⟩, (by show kc + 0 ≤ 0; omega), (by show ks + 0 ≤ 0; omega)⟩ (zg_retJ (fun v1 h1 hE => ?_)) (zg_xok ok tab fin ⟨(by show kc + 0 ≤ 0; omega), (by show ks + 0 ≤ 0; omega)⟩)
    refine zg_cost (kc2 := kc) (ks2 := ks) ⟨(by show kc + 0 = kc; omega), (by show ks + 0 = ks; omega)⟩ ?_
    refine zg_aload_n ok dX4_shift_20 rfl 0 rfl ?_
    refine zg_aload_n ok dX4_shift_21 rfl 1 rfl ?_
    refine zg_iload ok dX4_shift_22 5 rfl ?_
    refine zg_callV (vs := [zA l1, zI l6]) (rest := [.long v1, .long l4]) (rm := rm_X4_shifteds2) ok hRm lk_X4_136 dX4_shift_24 hE (fun hE => mt_X4_shifteds2 hl hE) rfl (Nat.le_of_ble_eq_true rfl) ⟨⟨Nat.le_of_ble_eq_true rfl, Nat.le_of_ble_eq_true rfl⟩, (by show kc + 0 ≤ 0; omega), (by show ks + 0 ≤ 0; omega)⟩ (zg_retJ (fun v2 h2 hE => ?_)) (zg_xok ok tab fin ⟨(by show kc + 0 ≤ 0; omega), (by show ks + 0 ≤ 0; omega)⟩)
    refine zg_cost (kc2 := kc) (ks2 := ks) ⟨(by show kc + 0 = kc; omega), (by show ks + 0 = ks; omega)⟩ ?_
    refine zg_lmul ok dX4_shift_27 ?_
    refine zg_aload_n ok dX4_shift_28 rfl 1 rfl ?_
    refine zg_getI ok lf_X4_125 dX4_shift_29 hE (fun v3 hE => ?_)
    refine zg_aload_n ok dX4_shift_32 rfl 2 rfl ?_
    refine zg_getI ok lf_X4_125 dX4_shift_33 hE (fun v4 hE => ?_)
    refine zg_isub ok dX4_shift_36 ?_
    refine zg_i2l ok dX4_shift_37 ?_
    refine zg_iload_n ok dX4_shift_38 rfl 3 rfl ?_
    refine zg_iload ok dX4_shift_39 5 rfl ?_
    refine zg_isub ok dX4_shift_41 ?_
    refine zg_callS (vs := [zJ ((v3 - v4).toInt64), zI (l3 - l6)]) (rest := [.long (v1 * v2), .long l4]) (rm := rm_X4_raised) ok hRm lk_X4_128 dX4_shift_42 hE (fun hE => mt_X4_raised hl hE) rfl (Nat.le_of_ble_eq_true rfl) ⟨⟨Nat.le_of_ble_eq_true rfl, Nat.le_of_ble_eq_true rfl⟩, (by show kc + 0 ≤ 0; omega), (by show ks + 0 ≤ 0; omega)⟩ (zg_retJ (fun v5 h3 hE => ?_)) (zg_xok ok tab fin ⟨(by show kc + 0 ≤ 0; omega), (by show ks + 0 ≤ 0; omega)⟩)
    refine zg_cost (kc2 := kc) (ks2 := ks) ⟨(by show kc + 0 = kc; omega), (by show ks + 0 = ks; omega)⟩ ?_
    refine zg_lmul ok dX4_shift_45 ?_
    refine zg_ladd ok dX4_shift_46 ?_
    refine zg_letJ hE (fun v6 hE => ?_)
    refine zg_lstore (L' := [(4, .long v6), (0, va_rf l0), (1, va_rf l1), (2, va_rf l2), (3, .int l3), (6, .int l6)]) ok dX4_shift_47 (by decide) rfl ?_
    refine zg_iincL (k := 5) (L' := fun v7 => [(6, .int v7), (4, .long v6), (0, va_rf l0), (1, va_rf l1), (2, va_rf l2), (3, .int l3)]) ok dX4_shift_49 (by decide +kernel) hE rfl (by decide) (fun _ => rfl) (fun v7 hE => ?_)
    refine zg_goto (tgt := 6) ok dX4_shift_52 (by decide) ?_
    refine zg_sub (L' := [(0, va_rf l0), (1, va_rf l1), (2, va_rf l2), (3, .int l3), (4, .long v6), (6, .int v7)]) [2, 3, 4, 5, 1, 0] rfl ?_
    exact hR _ _ _ hE
theorem gt_f_X4_shifts1_L6 {Xc : zw_X} {Q : Int64 → zw_H → Prop} {X : String → Nat → zw_H → Prop} (hl : (zw_l Xc).stackTraces = false) (ok : zw_ok Xc cX4_shift "MultipoleLine$Line" yX4_shift.name 7) (tab : zw_tab Xc []) (fin : zw_fin Xc (Option.some Jvm.ClassFile.FieldType.long) (zq_J Q) X 0 0) (hRm : zw_rm Xc = rm_X4_shifts1) {kc ks : Nat} (hb : kc ≤ 0 ∧ ks ≤ 0) {l0 : Option Nat} {l1 : Option Nat} {l2 : Option Nat} {l3 : Int32} {k55 : Int64 → zw_H → Prop} (hk55 : ∀ (l4 : Int64) (h : zw_H), k55 l4 h → zw_G Xc kc ks 7 h 55 [(4, .long l4)] [])  : ∀ (n9 : Nat) (l4 : Int64) (l6 : Int32) (h : zw_H), zl3 (f_X4_shifts1_B6 (zw_Zf Xc).2.2.2 Q X k55 l0 l1 l2 l3) n9 l4 l6 h → zw_G Xc kc ks 7 h 6 [(0, va_rf l0), (1, va_rf l1), (2, va_rf l2), (3, .int l3), (4, .long l4), (6, .int l6)] [] := by
  intro n9
  induction n9 with
  | zero => intro l4 l6 h hE; exact hE.elim
  | succ n9 ih => intro l4 l6 h hE; exact gt_f_X4_shifts1_B6 hl ok tab fin hRm hb ih hk55 hE
set_option maxHeartbeats 8000000 in
theorem mt_X4_shifts1 {l : Launch} (hl : l.stackTraces = false) {Z : zw_Z} {a0 : Option Nat} {a1 : Option Nat} {a2 : Option Nat} {a3 : Int32} {h : zw_H} {Q : Int64 → zw_H → Prop} {X : String → Nat → zw_H → Prop} (hE : f_X4_shifts1 Z.2.2.2 a0 a1 a2 a3 h Q X) : zw_Met l Z yX4_shift (ws_ yX4_shift cX4_shift 7 (Option.some Jvm.ClassFile.FieldType.long)) rm_X4_shifts1 [zA a0, zA a1, zA a2, zI a3] h (zq_J Q) X := by
  refine zg_start (own := "MultipoleLine$Line") (by decide +kernel) rfl (Nat.le_of_ble_eq_true rfl) hl (fun Xc ok tab fin hRm hXl hXZ => ?_)
  subst hXl
  subst hXZ
  unfold f_X4_shifts1 at hE
  refine zg_lconst (v := 0) ok dX4_shift_0 (by decide) ?_
  refine zg_lstore (L' := [(4, .long 0), (0, va_rf a0), (1, va_rf a1), (2, va_rf a2), (3, .int a3)]) ok dX4_shift_1 (by decide) rfl ?_
  refine zg_iconst (v := 0) ok dX4_shift_3 (by decide) ?_
  refine zg_istore (L' := [(6, .int 0), (4, .long 0), (0, va_rf a0), (1, va_rf a1), (2, va_rf a2), (3, .int a3)]) ok dX4_shift_4 (by decide) rfl ?_
  refine zg_sub (L' := [(0, va_rf a0), (1, va_rf a1), (2, va_rf a2), (3, .int a3), (4, .long 0), (6, .int 0)]) [2, 3, 4, 5, 1, 0] rfl ?_
  refine gt_f_X4_shifts1_L6 hl ok tab fin hRm ⟨Nat.le_of_ble_eq_true rfl, Nat.le_of_ble_eq_true rfl⟩ ?_ _ _ _ _ hE
  · intro v8 h4 hE
    refine zg_lload ok dX4_shift_55 0 rfl ?_
    exact zg_lret ok fin dX4_shift_57 ⟨Nat.le_of_ble_eq_true rfl, Nat.le_of_ble_eq_true rfl⟩ hE
set_option maxHeartbeats 8000000 in
theorem mt_X4_shifteds1 {l : Launch} (hl : l.stackTraces = false) {Z : zw_Z} {a0 : Option Nat} {a1 : Option Nat} {a2 : Int32} {h : zw_H} {Q : Int64 → zw_H → Prop} {X : String → Nat → zw_H → Prop} (hE : f_X4_shifteds1 Z.2.2.2 a0 a1 a2 h Q X) : zw_Met l Z yX4_shifted (ws_ yX4_shifted cX4_shifted 3 (Option.some Jvm.ClassFile.FieldType.long)) rm_X4_shifteds1 [zA a0, zA a1, zI a2] h (zq_J Q) X := by
  refine zg_start (own := "MultipoleLine$Line") (by decide +kernel) rfl (Nat.le_of_ble_eq_true rfl) hl (fun Xc ok tab fin hRm hXl hXZ => ?_)
  subst hXl
  subst hXZ
  unfold f_X4_shifteds1 at hE
  refine zg_aload_n ok dX4_shifted_0 rfl 1 rfl ?_
  refine zg_getI ok lf_X4_139 dX4_shifted_1 hE (fun v1 hE => ?_)
  refine zg_aload_n ok dX4_shifted_4 rfl 0 rfl ?_
  refine zg_getI ok lf_X4_57 dX4_shifted_5 hE (fun v2 hE => ?_)
  refine zg_icmp_ne (tgt := 18) ok dX4_shifted_8 (by decide) hE (fun hE => ?_) (fun hE => ?_)
  · refine zg_aload_n ok dX4_shifted_18 rfl 0 rfl ?_
    refine zg_aload_n ok dX4_shifted_19 rfl 0 rfl ?_
    refine zg_aload_n ok dX4_shifted_20 rfl 1 rfl ?_
    refine zg_getI ok lf_X4_139 dX4_shifted_21 hE (fun v3 hE => ?_)
    refine zg_iconst (v := 1) ok dX4_shifted_24 (by decide) ?_
    refine zg_iadd ok dX4_shifted_25 ?_
    refine zg_iconst (v := 2) ok dX4_shifted_26 (by decide) ?_
    refine zg_aload_n ok dX4_shifted_27 rfl 1 rfl ?_
    refine zg_getI ok lf_X4_119 dX4_shifted_28 hE (fun v4 hE => ?_)
    refine zg_imul ok dX4_shifted_31 ?_
    refine zg_callV (vs := [zI (v3 + 1), zI ((2 : Int32) * v4)]) (rest := [va_rf a0]) (rm := rm_X4_box) ok hRm lk_X4_142 dX4_shifted_32 hE (fun hE => mt_X4_box hl hE) rfl (Nat.le_of_ble_eq_true rfl) ⟨⟨Nat.le_of_ble_eq_true rfl, Nat.le_of_ble_eq_true rfl⟩, Nat.le_of_ble_eq_true rfl, Nat.le_of_ble_eq_true rfl⟩ (zg_retA (fun v5 h1 hE => ?_)) (zg_xok ok tab fin ⟨Nat.le_of_ble_eq_true rfl, Nat.le_of_ble_eq_true rfl⟩)
    refine zg_cost (kc2 := 0) (ks2 := 0) ⟨rfl, rfl⟩ ?_
    refine zg_aload_n ok dX4_shifted_35 rfl 1 rfl ?_
    refine zg_iload_n ok dX4_shifted_36 rfl 2 rfl ?_
    refine zg_callV (vs := [zA v5, zA a1, zI a2]) (rest := []) (rm := rm_X4_shifts1) ok hRm lk_X4_145 dX4_shifted_37 hE (fun hE => mt_X4_shifts1 hl hE) rfl (Nat.le_of_ble_eq_true rfl) ⟨⟨Nat.le_of_ble_eq_true rfl, Nat.le_of_ble_eq_true rfl⟩, Nat.le_of_ble_eq_true rfl, Nat.le_of_ble_eq_true rfl⟩ (zg_retJ (fun v6 h2 hE => ?_)) (zg_xok ok tab fin ⟨Nat.le_of_ble_eq_true rfl, Nat.le_of_ble_eq_true rfl⟩)
    refine zg_cost (kc2 := 0) (ks2 := 0) ⟨rfl, rfl⟩ ?_
    refine zg_aload_n ok dX4_shifted_40 rfl 0 rfl ?_
    refine zg_aload_n ok dX4_shifted_41 rfl 0 rfl ?_
    refine zg_aload_n ok dX4_shifted_42 rfl 1 rfl ?_
    refine zg_getI ok lf_X4_139 dX4_shifted_43 hE (fun v7 hE => ?_)
    refine zg_iconst (v := 1) ok dX4_shifted_46 (by decide) ?_
    refine zg_iadd ok dX4_shifted_47 ?_
    refine zg_iconst (v := 2) ok dX4_shifted_48 (by decide) ?_
    refine zg_aload_n ok dX4_shifted_49 rfl 1 rfl ?_
    refine zg_getI ok lf_X4_119 dX4_shifted_50 hE (fun v8 hE => ?_)
    refine zg_imul ok dX4_shifted_53 ?_
    refine zg_iconst (v := 1) ok dX4_shifted_54 (by decide) ?_
    refine zg_iadd ok dX4_shifted_55 ?_
    refine zg_callV (vs := [zI (v7 + 1), zI (((2 : Int32) * v8) + 1)]) (rest := [va_rf a0, .long v6]) (rm := rm_X4_box) ok hRm lk_X4_142 dX4_shifted_56 hE (fun hE => mt_X4_box hl hE) rfl (Nat.le_of_ble_eq_true rfl) ⟨⟨Nat.le_of_ble_eq_true rfl, Nat.le_of_ble_eq_true rfl⟩, Nat.le_of_ble_eq_true rfl, Nat.le_of_ble_eq_true rfl⟩ (zg_retA (fun v9 h3 hE => ?_)) (zg_xok ok tab fin ⟨Nat.le_of_ble_eq_true rfl, Nat.le_of_ble_eq_true rfl⟩)
    refine zg_cost (kc2 := 0) (ks2 := 0) ⟨rfl, rfl⟩ ?_
    refine zg_aload_n ok dX4_shifted_59 rfl 1 rfl ?_
    refine zg_iload_n ok dX4_shifted_60 rfl 2 rfl ?_
    refine zg_callV (vs := [zA v9, zA a1, zI a2]) (rest := [.long v6]) (rm := rm_X4_shifts1) ok hRm lk_X4_145 dX4_shifted_61 hE (fun hE => mt_X4_shifts1 hl hE) rfl (Nat.le_of_ble_eq_true rfl) ⟨⟨Nat.le_of_ble_eq_true rfl, Nat.le_of_ble_eq_true rfl⟩, Nat.le_of_ble_eq_true rfl, Nat.le_of_ble_eq_true rfl⟩ (zg_retJ (fun v10 h4 hE => ?_)) (zg_xok ok tab fin ⟨Nat.le_of_ble_eq_true rfl, Nat.le_of_ble_eq_true rfl⟩)
    refine zg_cost (kc2 := 0) (ks2 := 0) ⟨rfl, rfl⟩ ?_
    refine zg_ladd ok dX4_shifted_64 ?_
    exact zg_lret ok fin dX4_shifted_65 ⟨Nat.le_of_ble_eq_true rfl, Nat.le_of_ble_eq_true rfl⟩ hE
  · refine zg_aload_n ok dX4_shifted_11 rfl 0 rfl ?_
    refine zg_aload_n ok dX4_shifted_12 rfl 1 rfl ?_
    refine zg_iload_n ok dX4_shifted_13 rfl 2 rfl ?_
    refine zg_callV (vs := [zA a1, zI a2]) (rest := []) (rm := rm_X4_moment) ok hRm lk_X4_106 dX4_shifted_14 hE (fun hE => mt_X4_moment hl hE) rfl (Nat.le_of_ble_eq_true rfl) ⟨⟨Nat.le_of_ble_eq_true rfl, Nat.le_of_ble_eq_true rfl⟩, Nat.le_of_ble_eq_true rfl, Nat.le_of_ble_eq_true rfl⟩ (zg_retJ (fun v11 h5 hE => ?_)) (zg_xok ok tab fin ⟨Nat.le_of_ble_eq_true rfl, Nat.le_of_ble_eq_true rfl⟩)
    refine zg_cost (kc2 := 0) (ks2 := 0) ⟨rfl, rfl⟩ ?_
    exact zg_lret ok fin dX4_shifted_17 ⟨Nat.le_of_ble_eq_true rfl, Nat.le_of_ble_eq_true rfl⟩ hE
set_option maxHeartbeats 8000000 in
theorem gt_f_X4_shifts0_B6 {Xc : zw_X} {Q : Int64 → zw_H → Prop} {X : String → Nat → zw_H → Prop} (hl : (zw_l Xc).stackTraces = false) (ok : zw_ok Xc cX4_shift "MultipoleLine$Line" yX4_shift.name 7) (tab : zw_tab Xc []) (fin : zw_fin Xc (Option.some Jvm.ClassFile.FieldType.long) (zq_J Q) X 0 0) (hRm : zw_rm Xc = rm_X4_shifts0) {kc ks : Nat} (hb : kc ≤ 0 ∧ ks ≤ 0) {R : Int64 → Int32 → zw_H → Prop} {l0 : Option Nat} {l1 : Option Nat} {l2 : Option Nat} {l3 : Int32} (hR : ∀ (l4 : Int64) (l6 : Int32) (h : zw_H), R l4 l6 h → zw_G Xc kc ks 7 h 6 [(0, va_rf l0), (1, va_rf l1), (2, va_rf l2), (3, .int l3), (4, .long l4), (6, .int l6)] []) {k55 : Int64 → zw_H → Prop} (hk55 : ∀ (l4 : Int64) (h : zw_H), k55 l4 h → zw_G Xc kc ks 7 h 55 [(4, .long l4)] [])  {l4 : Int64} {l6 : Int32} {h : zw_H} (hE : f_X4_shifts0_B6 (zw_Zf Xc).2.2.2 Q X k55 l0 l1 l2 l3 R l4 l6 h) : zw_G Xc kc ks 7 h 6 [(0, va_rf l0), (1, va_rf l1), (2, va_rf l2), (3, .int l3), (4, .long l4), (6, .int l6)] [] := by
  unfold f_X4_shifts0_B6 at hE
  refine zg_iload ok dX4_shift_6 5 rfl ?_
  refine zg_iload_n ok dX4_shift_8 rfl 3 rfl ?_
  refine zg_icmp_gt (tgt := 55) ok dX4_shift_9 (by decide) hE (fun hE => ?_) (fun hE => ?_)
  · refine zg_sub (L' := [(4, .long l4)]) [4] rfl ?_
    exact hk55 _ _ hE
  · refine zg_lload ok dX4_shift_12 4 rfl ?_
    refine zg_iload_n ok dX4_shift_14 rfl 3 rfl ?_
    refine zg_iload ok dX4_shift_15 5 rfl ?_
    refine zg_callSN (vs := [zI l3, zI l6]) (rest := [.long l4]) (rm := rm_X1_choose) ok hRm lk_X4_132 dX4_shift_17 hE (fun hE => mt_X1_choose hl hE) rfl (Nat.le_of_ble_eq_true rfl) ⟨⟨Nat.le_of_ble_eq_true rfl, Nat.le_of_ble_eq_true rfl⟩, (by show kc + 0 ≤ 0; omega), (by show ks + 0 ≤ 0; omega)⟩ (zg_retJ (fun v1 h1 hE => ?_)) (zg_xok ok tab fin ⟨(by show kc + 0 ≤ 0; omega), (by show ks + 0 ≤ 0; omega)⟩)
    refine zg_cost (kc2 := kc) (ks2 := ks) ⟨(by show kc + 0 = kc; omega), (by show ks + 0 = ks; omega)⟩ ?_
    refine zg_aload_n ok dX4_shift_20 rfl 0 rfl ?_
    refine zg_aload_n ok dX4_shift_21 rfl 1 rfl ?_
    refine zg_iload ok dX4_shift_22 5 rfl ?_
    refine zg_callV (vs := [zA l1, zI l6]) (rest := [.long v1, .long l4]) (rm := rm_X4_shifteds1) ok hRm lk_X4_136 dX4_shift_24 hE (fun hE => mt_X4_shifteds1 hl hE) rfl (Nat.le_of_ble_eq_true rfl) ⟨⟨Nat.le_of_ble_eq_true rfl, Nat.le_of_ble_eq_true rfl⟩, (by show kc + 0 ≤ 0; omega), (by show ks + 0 ≤ 0; omega)⟩ (zg_retJ (fun v2 h2 hE => ?_)) (zg_xok ok tab fin ⟨(by show kc + 0 ≤ 0; omega), (by show ks + 0 ≤ 0; omega)⟩)
    refine zg_cost (kc2 := kc) (ks2 := ks) ⟨(by show kc + 0 = kc; omega), (by show ks + 0 = ks; omega)⟩ ?_
    refine zg_lmul ok dX4_shift_27 ?_
    refine zg_aload_n ok dX4_shift_28 rfl 1 rfl ?_
    refine zg_getI ok lf_X4_125 dX4_shift_29 hE (fun v3 hE => ?_)
    refine zg_aload_n ok dX4_shift_32 rfl 2 rfl ?_
    refine zg_getI ok lf_X4_125 dX4_shift_33 hE (fun v4 hE => ?_)
    refine zg_isub ok dX4_shift_36 ?_
    refine zg_i2l ok dX4_shift_37 ?_
    refine zg_iload_n ok dX4_shift_38 rfl 3 rfl ?_
    refine zg_iload ok dX4_shift_39 5 rfl ?_
    refine zg_isub ok dX4_shift_41 ?_
    refine zg_callS (vs := [zJ ((v3 - v4).toInt64), zI (l3 - l6)]) (rest := [.long (v1 * v2), .long l4]) (rm := rm_X4_raised) ok hRm lk_X4_128 dX4_shift_42 hE (fun hE => mt_X4_raised hl hE) rfl (Nat.le_of_ble_eq_true rfl) ⟨⟨Nat.le_of_ble_eq_true rfl, Nat.le_of_ble_eq_true rfl⟩, (by show kc + 0 ≤ 0; omega), (by show ks + 0 ≤ 0; omega)⟩ (zg_retJ (fun v5 h3 hE => ?_)) (zg_xok ok tab fin ⟨(by show kc + 0 ≤ 0; omega), (by show ks + 0 ≤ 0; omega)⟩)
    refine zg_cost (kc2 := kc) (ks2 := ks) ⟨(by show kc + 0 = kc; omega), (by show ks + 0 = ks; omega)⟩ ?_
    refine zg_lmul ok dX4_shift_45 ?_
    refine zg_ladd ok dX4_shift_46 ?_
    refine zg_letJ hE (fun v6 hE => ?_)
    refine zg_lstore (L' := [(4, .long v6), (0, va_rf l0), (1, va_rf l1), (2, va_rf l2), (3, .int l3), (6, .int l6)]) ok dX4_shift_47 (by decide) rfl ?_
    refine zg_iincL (k := 5) (L' := fun v7 => [(6, .int v7), (4, .long v6), (0, va_rf l0), (1, va_rf l1), (2, va_rf l2), (3, .int l3)]) ok dX4_shift_49 (by decide +kernel) hE rfl (by decide) (fun _ => rfl) (fun v7 hE => ?_)
    refine zg_goto (tgt := 6) ok dX4_shift_52 (by decide) ?_
    refine zg_sub (L' := [(0, va_rf l0), (1, va_rf l1), (2, va_rf l2), (3, .int l3), (4, .long v6), (6, .int v7)]) [2, 3, 4, 5, 1, 0] rfl ?_
    exact hR _ _ _ hE
theorem gt_f_X4_shifts0_L6 {Xc : zw_X} {Q : Int64 → zw_H → Prop} {X : String → Nat → zw_H → Prop} (hl : (zw_l Xc).stackTraces = false) (ok : zw_ok Xc cX4_shift "MultipoleLine$Line" yX4_shift.name 7) (tab : zw_tab Xc []) (fin : zw_fin Xc (Option.some Jvm.ClassFile.FieldType.long) (zq_J Q) X 0 0) (hRm : zw_rm Xc = rm_X4_shifts0) {kc ks : Nat} (hb : kc ≤ 0 ∧ ks ≤ 0) {l0 : Option Nat} {l1 : Option Nat} {l2 : Option Nat} {l3 : Int32} {k55 : Int64 → zw_H → Prop} (hk55 : ∀ (l4 : Int64) (h : zw_H), k55 l4 h → zw_G Xc kc ks 7 h 55 [(4, .long l4)] [])  : ∀ (n9 : Nat) (l4 : Int64) (l6 : Int32) (h : zw_H), zl3 (f_X4_shifts0_B6 (zw_Zf Xc).2.2.2 Q X k55 l0 l1 l2 l3) n9 l4 l6 h → zw_G Xc kc ks 7 h 6 [(0, va_rf l0), (1, va_rf l1), (2, va_rf l2), (3, .int l3), (4, .long l4), (6, .int l6)] [] := by
  intro n9
  induction n9 with
  | zero => intro l4 l6 h hE; exact hE.elim
  | succ n9 ih => intro l4 l6 h hE; exact gt_f_X4_shifts0_B6 hl ok tab fin hRm hb ih hk55 hE
set_option maxHeartbeats 8000000 in
theorem mt_X4_shifts0 {l : Launch} (hl : l.stackTraces = false) {Z : zw_Z} {a0 : Option Nat} {a1 : Option Nat} {a2 : Option Nat} {a3 : Int32} {h : zw_H} {Q : Int64 → zw_H → Prop} {X : String → Nat → zw_H → Prop} (hE : f_X4_shifts0 Z.2.2.2 a0 a1 a2 a3 h Q X) : zw_Met l Z yX4_shift (ws_ yX4_shift cX4_shift 7 (Option.some Jvm.ClassFile.FieldType.long)) rm_X4_shifts0 [zA a0, zA a1, zA a2, zI a3] h (zq_J Q) X := by
  refine zg_start (own := "MultipoleLine$Line") (by decide +kernel) rfl (Nat.le_of_ble_eq_true rfl) hl (fun Xc ok tab fin hRm hXl hXZ => ?_)
  subst hXl
  subst hXZ
  unfold f_X4_shifts0 at hE
  refine zg_lconst (v := 0) ok dX4_shift_0 (by decide) ?_
  refine zg_lstore (L' := [(4, .long 0), (0, va_rf a0), (1, va_rf a1), (2, va_rf a2), (3, .int a3)]) ok dX4_shift_1 (by decide) rfl ?_
  refine zg_iconst (v := 0) ok dX4_shift_3 (by decide) ?_
  refine zg_istore (L' := [(6, .int 0), (4, .long 0), (0, va_rf a0), (1, va_rf a1), (2, va_rf a2), (3, .int a3)]) ok dX4_shift_4 (by decide) rfl ?_
  refine zg_sub (L' := [(0, va_rf a0), (1, va_rf a1), (2, va_rf a2), (3, .int a3), (4, .long 0), (6, .int 0)]) [2, 3, 4, 5, 1, 0] rfl ?_
  refine gt_f_X4_shifts0_L6 hl ok tab fin hRm ⟨Nat.le_of_ble_eq_true rfl, Nat.le_of_ble_eq_true rfl⟩ ?_ _ _ _ _ hE
  · intro v8 h4 hE
    refine zg_lload ok dX4_shift_55 0 rfl ?_
    exact zg_lret ok fin dX4_shift_57 ⟨Nat.le_of_ble_eq_true rfl, Nat.le_of_ble_eq_true rfl⟩ hE
set_option maxHeartbeats 8000000 in
theorem mt_X4_shifteds0 {l : Launch} (hl : l.stackTraces = false) {Z : zw_Z} {a0 : Option Nat} {a1 : Option Nat} {a2 : Int32} {h : zw_H} {Q : Int64 → zw_H → Prop} {X : String → Nat → zw_H → Prop} (hE : f_X4_shifteds0 Z.2.2.2 a0 a1 a2 h Q X) : zw_Met l Z yX4_shifted (ws_ yX4_shifted cX4_shifted 3 (Option.some Jvm.ClassFile.FieldType.long)) rm_X4_shifteds0 [zA a0, zA a1, zI a2] h (zq_J Q) X := by
  refine zg_start (own := "MultipoleLine$Line") (by decide +kernel) rfl (Nat.le_of_ble_eq_true rfl) hl (fun Xc ok tab fin hRm hXl hXZ => ?_)
  subst hXl
  subst hXZ
  unfold f_X4_shifteds0 at hE
  refine zg_aload_n ok dX4_shifted_0 rfl 1 rfl ?_
  refine zg_getI ok lf_X4_139 dX4_shifted_1 hE (fun v1 hE => ?_)
  refine zg_aload_n ok dX4_shifted_4 rfl 0 rfl ?_
  refine zg_getI ok lf_X4_57 dX4_shifted_5 hE (fun v2 hE => ?_)
  refine zg_icmp_ne (tgt := 18) ok dX4_shifted_8 (by decide) hE (fun hE => ?_) (fun hE => ?_)
  · refine zg_aload_n ok dX4_shifted_18 rfl 0 rfl ?_
    refine zg_aload_n ok dX4_shifted_19 rfl 0 rfl ?_
    refine zg_aload_n ok dX4_shifted_20 rfl 1 rfl ?_
    refine zg_getI ok lf_X4_139 dX4_shifted_21 hE (fun v3 hE => ?_)
    refine zg_iconst (v := 1) ok dX4_shifted_24 (by decide) ?_
    refine zg_iadd ok dX4_shifted_25 ?_
    refine zg_iconst (v := 2) ok dX4_shifted_26 (by decide) ?_
    refine zg_aload_n ok dX4_shifted_27 rfl 1 rfl ?_
    refine zg_getI ok lf_X4_119 dX4_shifted_28 hE (fun v4 hE => ?_)
    refine zg_imul ok dX4_shifted_31 ?_
    refine zg_callV (vs := [zI (v3 + 1), zI ((2 : Int32) * v4)]) (rest := [va_rf a0]) (rm := rm_X4_box) ok hRm lk_X4_142 dX4_shifted_32 hE (fun hE => mt_X4_box hl hE) rfl (Nat.le_of_ble_eq_true rfl) ⟨⟨Nat.le_of_ble_eq_true rfl, Nat.le_of_ble_eq_true rfl⟩, Nat.le_of_ble_eq_true rfl, Nat.le_of_ble_eq_true rfl⟩ (zg_retA (fun v5 h1 hE => ?_)) (zg_xok ok tab fin ⟨Nat.le_of_ble_eq_true rfl, Nat.le_of_ble_eq_true rfl⟩)
    refine zg_cost (kc2 := 0) (ks2 := 0) ⟨rfl, rfl⟩ ?_
    refine zg_aload_n ok dX4_shifted_35 rfl 1 rfl ?_
    refine zg_iload_n ok dX4_shifted_36 rfl 2 rfl ?_
    refine zg_callV (vs := [zA v5, zA a1, zI a2]) (rest := []) (rm := rm_X4_shifts0) ok hRm lk_X4_145 dX4_shifted_37 hE (fun hE => mt_X4_shifts0 hl hE) rfl (Nat.le_of_ble_eq_true rfl) ⟨⟨Nat.le_of_ble_eq_true rfl, Nat.le_of_ble_eq_true rfl⟩, Nat.le_of_ble_eq_true rfl, Nat.le_of_ble_eq_true rfl⟩ (zg_retJ (fun v6 h2 hE => ?_)) (zg_xok ok tab fin ⟨Nat.le_of_ble_eq_true rfl, Nat.le_of_ble_eq_true rfl⟩)
    refine zg_cost (kc2 := 0) (ks2 := 0) ⟨rfl, rfl⟩ ?_
    refine zg_aload_n ok dX4_shifted_40 rfl 0 rfl ?_
    refine zg_aload_n ok dX4_shifted_41 rfl 0 rfl ?_
    refine zg_aload_n ok dX4_shifted_42 rfl 1 rfl ?_
    refine zg_getI ok lf_X4_139 dX4_shifted_43 hE (fun v7 hE => ?_)
    refine zg_iconst (v := 1) ok dX4_shifted_46 (by decide) ?_
    refine zg_iadd ok dX4_shifted_47 ?_
    refine zg_iconst (v := 2) ok dX4_shifted_48 (by decide) ?_
    refine zg_aload_n ok dX4_shifted_49 rfl 1 rfl ?_
    refine zg_getI ok lf_X4_119 dX4_shifted_50 hE (fun v8 hE => ?_)
    refine zg_imul ok dX4_shifted_53 ?_
    refine zg_iconst (v := 1) ok dX4_shifted_54 (by decide) ?_
    refine zg_iadd ok dX4_shifted_55 ?_
    refine zg_callV (vs := [zI (v7 + 1), zI (((2 : Int32) * v8) + 1)]) (rest := [va_rf a0, .long v6]) (rm := rm_X4_box) ok hRm lk_X4_142 dX4_shifted_56 hE (fun hE => mt_X4_box hl hE) rfl (Nat.le_of_ble_eq_true rfl) ⟨⟨Nat.le_of_ble_eq_true rfl, Nat.le_of_ble_eq_true rfl⟩, Nat.le_of_ble_eq_true rfl, Nat.le_of_ble_eq_true rfl⟩ (zg_retA (fun v9 h3 hE => ?_)) (zg_xok ok tab fin ⟨Nat.le_of_ble_eq_true rfl, Nat.le_of_ble_eq_true rfl⟩)
    refine zg_cost (kc2 := 0) (ks2 := 0) ⟨rfl, rfl⟩ ?_
    refine zg_aload_n ok dX4_shifted_59 rfl 1 rfl ?_
    refine zg_iload_n ok dX4_shifted_60 rfl 2 rfl ?_
    refine zg_callV (vs := [zA v9, zA a1, zI a2]) (rest := [.long v6]) (rm := rm_X4_shifts0) ok hRm lk_X4_145 dX4_shifted_61 hE (fun hE => mt_X4_shifts0 hl hE) rfl (Nat.le_of_ble_eq_true rfl) ⟨⟨Nat.le_of_ble_eq_true rfl, Nat.le_of_ble_eq_true rfl⟩, Nat.le_of_ble_eq_true rfl, Nat.le_of_ble_eq_true rfl⟩ (zg_retJ (fun v10 h4 hE => ?_)) (zg_xok ok tab fin ⟨Nat.le_of_ble_eq_true rfl, Nat.le_of_ble_eq_true rfl⟩)
    refine zg_cost (kc2 := 0) (ks2 := 0) ⟨rfl, rfl⟩ ?_
    refine zg_ladd ok dX4_shifted_64 ?_
    exact zg_lret ok fin dX4_shifted_65 ⟨Nat.le_of_ble_eq_true rfl, Nat.le_of_ble_eq_true rfl⟩ hE
  · refine zg_aload_n ok dX4_shifted_11 rfl 0 rfl ?_
    refine zg_aload_n ok dX4_shifted_12 rfl 1 rfl ?_
    refine zg_iload_n ok dX4_shifted_13 rfl 2 rfl ?_
    refine zg_callV (vs := [zA a1, zI a2]) (rest := []) (rm := rm_X4_moment) ok hRm lk_X4_106 dX4_shifted_14 hE (fun hE => mt_X4_moment hl hE) rfl (Nat.le_of_ble_eq_true rfl) ⟨⟨Nat.le_of_ble_eq_true rfl, Nat.le_of_ble_eq_true rfl⟩, Nat.le_of_ble_eq_true rfl, Nat.le_of_ble_eq_true rfl⟩ (zg_retJ (fun v11 h5 hE => ?_)) (zg_xok ok tab fin ⟨Nat.le_of_ble_eq_true rfl, Nat.le_of_ble_eq_true rfl⟩)
    refine zg_cost (kc2 := 0) (ks2 := 0) ⟨rfl, rfl⟩ ?_
    exact zg_lret ok fin dX4_shifted_17 ⟨Nat.le_of_ble_eq_true rfl, Nat.le_of_ble_eq_true rfl⟩ hE
set_option maxHeartbeats 8000000 in
theorem mt_X1_shifted {l : Launch} (hl : l.stackTraces = false) {Z : zw_Z} {a0 : Option Nat} {a1 : Int32} {a2 : Int32} {a3 : Int32} {h : zw_H} {Q : Int64 → zw_H → Prop} {X : String → Nat → zw_H → Prop} (hE : f_X1_shifted Z.2.2.2 a0 a1 a2 a3 h Q X) : zw_Met l Z yX1_shifted (ws_ yX1_shifted cX1_shifted 5 (Option.some Jvm.ClassFile.FieldType.long)) rm_X1_shifted [zA a0, zI a1, zI a2, zI a3] h (zq_J Q) X := by
  refine zg_start (own := "MultipoleLine") (by decide +kernel) rfl (Nat.le_of_ble_eq_true rfl) hl (fun Xc ok tab fin hRm hXl hXZ => ?_)
  subst hXl
  subst hXZ
  unfold f_X1_shifted at hE
  refine zg_aload_n ok dX1_shifted_0 rfl 0 rfl ?_
  refine zg_iload_n ok dX1_shifted_1 rfl 1 rfl ?_
  refine zg_iload_n ok dX1_shifted_2 rfl 2 rfl ?_
  refine zg_callV (vs := [zI a1, zI a2]) (rest := []) (rm := rm_X1_boxOf) ok hRm lk_X1_196 dX1_shifted_3 hE (fun hE => mt_X1_boxOf hl hE) rfl (Nat.le_of_ble_eq_true rfl) ⟨⟨Nat.le_of_ble_eq_true rfl, Nat.le_of_ble_eq_true rfl⟩, Nat.le_of_ble_eq_true rfl, Nat.le_of_ble_eq_true rfl⟩ (zg_retA (fun v1 h1 hE => ?_)) (zg_xok ok tab fin ⟨Nat.le_of_ble_eq_true rfl, Nat.le_of_ble_eq_true rfl⟩)
  refine zg_cost (kc2 := 3) (ks2 := 18) ⟨rfl, rfl⟩ ?_
  refine zg_astore (L' := [(4, va_rf v1), (0, va_rf a0), (1, .int a1), (2, .int a2), (3, .int a3)]) ok dX1_shifted_6 (by decide) rfl ?_
  refine zg_iload_n ok dX1_shifted_8 rfl 4 rfl ?_
  refine zg_callS (vs := [zI a3]) (rest := []) (rm := rm_X1_checkOrder) ok hRm lk_X1_229 dX1_shifted_9 hE (fun hE => mt_X1_checkOrder hl hE) rfl (Nat.le_of_ble_eq_true rfl) ⟨⟨Nat.le_of_ble_eq_true rfl, Nat.le_of_ble_eq_true rfl⟩, Nat.le_of_ble_eq_true rfl, Nat.le_of_ble_eq_true rfl⟩ (zg_retV (fun h2 hE => ?_)) (zg_xok ok tab fin ⟨Nat.le_of_ble_eq_true rfl, Nat.le_of_ble_eq_true rfl⟩)
  refine zg_cost (kc2 := 4) (ks2 := 24) ⟨rfl, rfl⟩ ?_
  refine zg_aload_n ok dX1_shifted_12 rfl 1 rfl ?_
  refine zg_getA ok lf_X1_68 dX1_shifted_13 hE (fun v2 hE => ?_)
  refine zg_aload ok dX1_shifted_16 0 rfl ?_
  refine zg_iload_n ok dX1_shifted_18 rfl 4 rfl ?_
  refine zg_callV (vs := [zA v1, zI a3]) (rest := []) (rm := rm_X4_shifteds0) ok hRm lk_X1_237 dX1_shifted_19 hE (fun hE => mt_X4_shifteds0 hl hE) rfl (Nat.le_of_ble_eq_true rfl) ⟨⟨Nat.le_of_ble_eq_true rfl, Nat.le_of_ble_eq_true rfl⟩, Nat.le_of_ble_eq_true rfl, Nat.le_of_ble_eq_true rfl⟩ (zg_retJ (fun v3 h3 hE => ?_)) (zg_xok ok tab fin ⟨Nat.le_of_ble_eq_true rfl, Nat.le_of_ble_eq_true rfl⟩)
  refine zg_cost (kc2 := 4) (ks2 := 24) ⟨rfl, rfl⟩ ?_
  exact zg_lret ok fin dX1_shifted_22 ⟨Nat.le_of_ble_eq_true rfl, Nat.le_of_ble_eq_true rfl⟩ hE
set_option maxHeartbeats 8000000 in
theorem mt_J14_abs_2 {l : Launch} (hl : l.stackTraces = false) {Z : zw_Z} {a0 : Int64} {h : zw_H} {Q : Int64 → zw_H → Prop} {X : String → Nat → zw_H → Prop} (hE : f_J14_abs_2 Z.2.2.2 a0 h Q X) : zw_Met l Z yJ14_abs_2 (ws_ yJ14_abs_2 cJ14_abs_2 2 (Option.some Jvm.ClassFile.FieldType.long)) rm_J14_abs_2 [zJ a0] h (zq_J Q) X := by
  refine zg_startF (own := "java/lang/Math") (by decide +kernel) rfl (Nat.le_of_ble_eq_true rfl) hl (fun Xc ok tab fin hRm hXl hXZ => ?_)
  subst hXl
  subst hXZ
  unfold f_J14_abs_2 at hE
  refine zg_lload_n ok dJ14_abs_2_0 rfl 0 rfl ?_
  refine zg_lconst (v := 0) ok dJ14_abs_2_1 (by decide) ?_
  refine zg_lcmp ok dJ14_abs_2_2 ?_
  refine zg_if_ge (tgt := 11) ok dJ14_abs_2_3 (by decide) hE (fun hE => ?_) (fun hE => ?_)
  · refine zg_lload_n ok dJ14_abs_2_11 rfl 0 rfl ?_
    exact zg_lret ok fin dJ14_abs_2_12 ⟨Nat.le_of_ble_eq_true rfl, Nat.le_of_ble_eq_true rfl⟩ hE
  · refine zg_lload_n ok dJ14_abs_2_6 rfl 0 rfl ?_
    refine zg_lneg ok dJ14_abs_2_7 ?_
    refine zg_goto (tgt := 12) ok dJ14_abs_2_8 (by decide) ?_
    exact zg_lret ok fin dJ14_abs_2_12 ⟨Nat.le_of_ble_eq_true rfl, Nat.le_of_ble_eq_true rfl⟩ hE
set_option maxHeartbeats 8000000 in
theorem gt_f_X4_momentGap_B45 {Xc : zw_X} {Q : Int64 → zw_H → Prop} {X : String → Nat → zw_H → Prop} (hl : (zw_l Xc).stackTraces = false) (ok : zw_ok Xc cX4_momentGap "MultipoleLine$Line" yX4_momentGap.name 9) (tab : zw_tab Xc []) (fin : zw_fin Xc (Option.some Jvm.ClassFile.FieldType.long) (zq_J Q) X 0 0) (hRm : zw_rm Xc = rm_X4_momentGap) {kc ks : Nat} (hb : kc ≤ 0 ∧ ks ≤ 0) {R : Int64 → Int32 → zw_H → Prop} {l0 : Option Nat} {l3 : Int32} {l4 : Option Nat} {l5 : Int32} {l6 : Int32} {l7 : Option Nat} (hR : ∀ (l1 : Int64) (l8 : Int32) (h : zw_H), R l1 l8 h → zw_G Xc kc ks 9 h 45 [(0, va_rf l0), (3, .int l3), (4, va_rf l4), (5, .int l5), (6, .int l6), (7, va_rf l7), (1, .long l1), (8, .int l8)] []) {k80 : Int64 → zw_H → Prop} (hk80 : ∀ (l1 : Int64) (h : zw_H), k80 l1 h → zw_G Xc kc ks 9 h 80 [(0, va_rf l0), (1, .long l1), (3, .int l3), (4, va_rf l4), (5, .int l5), (6, .int l6)] [])  {l1 : Int64} {l8 : Int32} {h : zw_H} (hE : f_X4_momentGap_B45 (zw_Zf Xc).2.2.2 Q X k80 l0 l3 l4 l5 l6 l7 R l1 l8 h) : zw_G Xc kc ks 9 h 45 [(0, va_rf l0), (3, .int l3), (4, va_rf l4), (5, .int l5), (6, .int l6), (7, va_rf l7), (1, .long l1), (8, .int l8)] [] := by
  unfold f_X4_momentGap_B45 at hE
  refine zg_iload ok dX4_momentGap_45 7 rfl ?_
  refine zg_iconst (v := 4) ok dX4_momentGap_47 (by decide) ?_
  refine zg_icmp_gt (tgt := 80) ok dX4_momentGap_48 (by decide) hE (fun hE => ?_) (fun hE => ?_)
  · refine zg_sub (L' := [(0, va_rf l0), (1, .long l1), (3, .int l3), (4, va_rf l4), (5, .int l5), (6, .int l6)]) [0, 6, 1, 2, 3, 4] rfl ?_
    exact hk80 _ _ hE
  · refine zg_lload_n ok dX4_momentGap_51 rfl 6 rfl ?_
    refine zg_aload_n ok dX4_momentGap_52 rfl 0 rfl ?_
    refine zg_aload ok dX4_momentGap_53 5 rfl ?_
    refine zg_iload ok dX4_momentGap_55 7 rfl ?_
    refine zg_callV (vs := [zA l7, zI l8]) (rest := [.long l1]) (rm := rm_X4_moment) ok hRm lk_X4_106 dX4_momentGap_57 hE (fun hE => mt_X4_moment hl hE) rfl (Nat.le_of_ble_eq_true rfl) ⟨⟨Nat.le_of_ble_eq_true rfl, Nat.le_of_ble_eq_true rfl⟩, (by show kc + 0 ≤ 0; omega), (by show ks + 0 ≤ 0; omega)⟩ (zg_retJ (fun v6 h1 hE => ?_)) (zg_xok ok tab fin ⟨(by show kc + 0 ≤ 0; omega), (by show ks + 0 ≤ 0; omega)⟩)
    refine zg_cost (kc2 := kc) (ks2 := ks) ⟨(by show kc + 0 = kc; omega), (by show ks + 0 = ks; omega)⟩ ?_
    refine zg_aload_n ok dX4_momentGap_60 rfl 0 rfl ?_
    refine zg_aload ok dX4_momentGap_61 5 rfl ?_
    refine zg_iload ok dX4_momentGap_63 7 rfl ?_
    refine zg_callV (vs := [zA l7, zI l8]) (rest := [.long v6, .long l1]) (rm := rm_X4_shifteds0) ok hRm lk_X4_136 dX4_momentGap_65 hE (fun hE => mt_X4_shifteds0 hl hE) rfl (Nat.le_of_ble_eq_true rfl) ⟨⟨Nat.le_of_ble_eq_true rfl, Nat.le_of_ble_eq_true rfl⟩, (by show kc + 0 ≤ 0; omega), (by show ks + 0 ≤ 0; omega)⟩ (zg_retJ (fun v7 h2 hE => ?_)) (zg_xok ok tab fin ⟨(by show kc + 0 ≤ 0; omega), (by show ks + 0 ≤ 0; omega)⟩)
    refine zg_cost (kc2 := kc) (ks2 := ks) ⟨(by show kc + 0 = kc; omega), (by show ks + 0 = ks; omega)⟩ ?_
    refine zg_lsub ok dX4_momentGap_68 ?_
    refine zg_callS (vs := [zJ (v6 - v7)]) (rest := [.long l1]) (rm := rm_J14_abs_2) ok hRm lk_X4_149 dX4_momentGap_69 hE (fun hE => mt_J14_abs_2 hl hE) rfl (Nat.le_of_ble_eq_true rfl) ⟨⟨Nat.le_of_ble_eq_true rfl, Nat.le_of_ble_eq_true rfl⟩, (by show kc + 0 ≤ 0; omega), (by show ks + 0 ≤ 0; omega)⟩ (zg_retJ (fun v8 h3 hE => ?_)) (zg_xok ok tab fin ⟨(by show kc + 0 ≤ 0; omega), (by show ks + 0 ≤ 0; omega)⟩)
    refine zg_cost (kc2 := kc) (ks2 := ks) ⟨(by show kc + 0 = kc; omega), (by show ks + 0 = ks; omega)⟩ ?_
    refine zg_ladd ok dX4_momentGap_72 ?_
    refine zg_letJ hE (fun v9 hE => ?_)
    refine zg_lstore_nR (L' := [(1, .long v9), (0, va_rf l0), (3, .int l3), (4, va_rf l4), (5, .int l5), (6, .int l6), (7, va_rf l7), (8, .int l8)]) ok dX4_momentGap_73 rfl (by decide) 0 rfl rfl rfl ?_
    refine zg_iincLR (k := 7) (L' := fun v10 => [(8, .int v10), (1, .long v9), (0, va_rf l0), (3, .int l3), (4, va_rf l4), (5, .int l5), (6, .int l6), (7, va_rf l7)]) ok dX4_momentGap_74 (by decide +kernel) hE rfl (by decide) rfl (k9 := 6) rfl (fun _ => rfl) (fun v10 hE => ?_)
    refine zg_goto (tgt := 45) ok dX4_momentGap_77 (by decide) ?_
    refine zg_sub (L' := [(0, va_rf l0), (3, .int l3), (4, va_rf l4), (5, .int l5), (6, .int l6), (7, va_rf l7), (1, .long v9), (8, .int v10)]) [2, 3, 4, 5, 6, 7, 1, 0] rfl ?_
    exact hR _ _ _ hE
theorem gt_f_X4_momentGap_L45 {Xc : zw_X} {Q : Int64 → zw_H → Prop} {X : String → Nat → zw_H → Prop} (hl : (zw_l Xc).stackTraces = false) (ok : zw_ok Xc cX4_momentGap "MultipoleLine$Line" yX4_momentGap.name 9) (tab : zw_tab Xc []) (fin : zw_fin Xc (Option.some Jvm.ClassFile.FieldType.long) (zq_J Q) X 0 0) (hRm : zw_rm Xc = rm_X4_momentGap) {kc ks : Nat} (hb : kc ≤ 0 ∧ ks ≤ 0) {l0 : Option Nat} {l3 : Int32} {l4 : Option Nat} {l5 : Int32} {l6 : Int32} {l7 : Option Nat} {k80 : Int64 → zw_H → Prop} (hk80 : ∀ (l1 : Int64) (h : zw_H), k80 l1 h → zw_G Xc kc ks 9 h 80 [(0, va_rf l0), (1, .long l1), (3, .int l3), (4, va_rf l4), (5, .int l5), (6, .int l6)] [])  : ∀ (n9 : Nat) (l1 : Int64) (l8 : Int32) (h : zw_H), zl3 (f_X4_momentGap_B45 (zw_Zf Xc).2.2.2 Q X k80 l0 l3 l4 l5 l6 l7) n9 l1 l8 h → zw_G Xc kc ks 9 h 45 [(0, va_rf l0), (3, .int l3), (4, va_rf l4), (5, .int l5), (6, .int l6), (7, va_rf l7), (1, .long l1), (8, .int l8)] [] := by
  intro n9
  induction n9 with
  | zero => intro l1 l8 h hE; exact hE.elim
  | succ n9 ih => intro l1 l8 h hE; exact gt_f_X4_momentGap_B45 hl ok tab fin hRm hb ih hk80 hE
set_option maxHeartbeats 8000000 in
theorem gt_f_X4_momentGap_B28 {Xc : zw_X} {Q : Int64 → zw_H → Prop} {X : String → Nat → zw_H → Prop} (hl : (zw_l Xc).stackTraces = false) (ok : zw_ok Xc cX4_momentGap "MultipoleLine$Line" yX4_momentGap.name 9) (tab : zw_tab Xc []) (fin : zw_fin Xc (Option.some Jvm.ClassFile.FieldType.long) (zq_J Q) X 0 0) (hRm : zw_rm Xc = rm_X4_momentGap) {kc ks : Nat} (hb : kc ≤ 0 ∧ ks ≤ 0) {R : Int64 → Int32 → zw_H → Prop} {l0 : Option Nat} {l3 : Int32} {l4 : Option Nat} {l5 : Int32} (hR : ∀ (l1 : Int64) (l6 : Int32) (h : zw_H), R l1 l6 h → zw_G Xc kc ks 9 h 28 [(0, va_rf l0), (3, .int l3), (4, va_rf l4), (5, .int l5), (1, .long l1), (6, .int l6)] []) {k86 : Int64 → zw_H → Prop} (hk86 : ∀ (l1 : Int64) (h : zw_H), k86 l1 h → zw_G Xc kc ks 9 h 86 [(0, va_rf l0), (1, .long l1), (3, .int l3)] [])  {l1 : Int64} {l6 : Int32} {h : zw_H} (hE : f_X4_momentGap_B28 (zw_Zf Xc).2.2.2 Q X k86 l0 l3 l4 l5 R l1 l6 h) : zw_G Xc kc ks 9 h 28 [(0, va_rf l0), (3, .int l3), (4, va_rf l4), (5, .int l5), (1, .long l1), (6, .int l6)] [] := by
  unfold f_X4_momentGap_B28 at hE
  refine zg_iload ok dX4_momentGap_28 5 rfl ?_
  refine zg_iload ok dX4_momentGap_30 3 rfl ?_
  refine zg_icmp_ge (tgt := 86) ok dX4_momentGap_32 (by decide) hE (fun hE => ?_) (fun hE => ?_)
  · refine zg_sub (L' := [(0, va_rf l0), (1, .long l1), (3, .int l3)]) [0, 4, 1] rfl ?_
    exact hk86 _ _ hE
  · refine zg_aload ok dX4_momentGap_35 2 rfl ?_
    refine zg_iload ok dX4_momentGap_37 5 rfl ?_
    refine zg_aaldB ok dX4_momentGap_39 hE (fun v5 hE => ?_)
    refine zg_astore (L' := [(7, va_rf v5), (0, va_rf l0), (3, .int l3), (4, va_rf l4), (5, .int l5), (1, .long l1), (6, .int l6)]) ok dX4_momentGap_40 (by decide) rfl ?_
    refine zg_iconst (v := 0) ok dX4_momentGap_42 (by decide) ?_
    refine zg_istoreR (L' := [(8, .int 0), (7, va_rf v5), (0, va_rf l0), (3, .int l3), (4, va_rf l4), (5, .int l5), (1, .long l1), (6, .int l6)]) ok dX4_momentGap_43 (by decide) 0 rfl rfl rfl ?_
    refine zg_sub (L' := [(0, va_rf l0), (3, .int l3), (4, va_rf l4), (5, .int l5), (6, .int l6), (7, va_rf v5), (1, .long l1), (8, .int 0)]) [2, 3, 4, 5, 7, 1, 6, 0] rfl ?_
    refine gt_f_X4_momentGap_L45 hl ok tab fin hRm ⟨(by omega), (by omega)⟩ ?_ _ _ _ _ hE
    · intro v11 h4 hE
      refine zg_iincL (k := 5) (L' := fun v12 => [(6, .int v12), (0, va_rf l0), (1, .long v11), (3, .int l3), (4, va_rf l4), (5, .int l5)]) ok dX4_momentGap_80 (by decide +kernel) hE rfl (by decide) (fun _ => rfl) (fun v12 hE => ?_)
      refine zg_goto (tgt := 28) ok dX4_momentGap_83 (by decide) ?_
      refine zg_sub (L' := [(0, va_rf l0), (3, .int l3), (4, va_rf l4), (5, .int l5), (1, .long v11), (6, .int v12)]) [1, 3, 4, 5, 2, 0] rfl ?_
      exact hR _ _ _ hE
theorem gt_f_X4_momentGap_L28 {Xc : zw_X} {Q : Int64 → zw_H → Prop} {X : String → Nat → zw_H → Prop} (hl : (zw_l Xc).stackTraces = false) (ok : zw_ok Xc cX4_momentGap "MultipoleLine$Line" yX4_momentGap.name 9) (tab : zw_tab Xc []) (fin : zw_fin Xc (Option.some Jvm.ClassFile.FieldType.long) (zq_J Q) X 0 0) (hRm : zw_rm Xc = rm_X4_momentGap) {kc ks : Nat} (hb : kc ≤ 0 ∧ ks ≤ 0) {l0 : Option Nat} {l3 : Int32} {l4 : Option Nat} {l5 : Int32} {k86 : Int64 → zw_H → Prop} (hk86 : ∀ (l1 : Int64) (h : zw_H), k86 l1 h → zw_G Xc kc ks 9 h 86 [(0, va_rf l0), (1, .long l1), (3, .int l3)] [])  : ∀ (n9 : Nat) (l1 : Int64) (l6 : Int32) (h : zw_H), zl3 (f_X4_momentGap_B28 (zw_Zf Xc).2.2.2 Q X k86 l0 l3 l4 l5) n9 l1 l6 h → zw_G Xc kc ks 9 h 28 [(0, va_rf l0), (3, .int l3), (4, va_rf l4), (5, .int l5), (1, .long l1), (6, .int l6)] [] := by
  intro n9
  induction n9 with
  | zero => intro l1 l6 h hE; exact hE.elim
  | succ n9 ih => intro l1 l6 h hE; exact gt_f_X4_momentGap_B28 hl ok tab fin hRm hb ih hk86 hE
set_option maxHeartbeats 8000000 in
theorem gt_f_X4_momentGap_B4 {Xc : zw_X} {Q : Int64 → zw_H → Prop} {X : String → Nat → zw_H → Prop} (hl : (zw_l Xc).stackTraces = false) (ok : zw_ok Xc cX4_momentGap "MultipoleLine$Line" yX4_momentGap.name 9) (tab : zw_tab Xc []) (fin : zw_fin Xc (Option.some Jvm.ClassFile.FieldType.long) (zq_J Q) X 0 0) (hRm : zw_rm Xc = rm_X4_momentGap) {kc ks : Nat} (hb : kc ≤ 0 ∧ ks ≤ 0) {R : Int64 → Int32 → zw_H → Prop} {l0 : Option Nat} (hR : ∀ (l1 : Int64) (l3 : Int32) (h : zw_H), R l1 l3 h → zw_G Xc kc ks 9 h 4 [(0, va_rf l0), (1, .long l1), (3, .int l3)] []) {k92 : Int64 → zw_H → Prop} (hk92 : ∀ (l1 : Int64) (h : zw_H), k92 l1 h → zw_G Xc kc ks 9 h 92 [(1, .long l1)] [])  {l1 : Int64} {l3 : Int32} {h : zw_H} (hE : f_X4_momentGap_B4 (zw_Zf Xc).2.2.2 Q X k92 l0 R l1 l3 h) : zw_G Xc kc ks 9 h 4 [(0, va_rf l0), (1, .long l1), (3, .int l3)] [] := by
  unfold f_X4_momentGap_B4 at hE
  refine zg_iload_n ok dX4_momentGap_4 rfl 2 rfl ?_
  refine zg_aload_n ok dX4_momentGap_5 rfl 0 rfl ?_
  refine zg_getI ok lf_X4_57 dX4_momentGap_6 hE (fun v1 hE => ?_)
  refine zg_icmp_gt (tgt := 92) ok dX4_momentGap_9 (by decide) hE (fun hE => ?_) (fun hE => ?_)
  · refine zg_sub (L' := [(1, .long l1)]) [1] rfl ?_
    exact hk92 _ _ hE
  · refine zg_aload_n ok dX4_momentGap_12 rfl 0 rfl ?_
    refine zg_getA ok lf_X4_20 dX4_momentGap_13 hE (fun v2 hE => ?_)
    refine zg_iload_n ok dX4_momentGap_16 rfl 2 rfl ?_
    refine zg_aaldBB ok dX4_momentGap_17 hE (fun v3 hE => ?_)
    refine zg_astore (L' := [(4, va_rf v3), (0, va_rf l0), (1, .long l1), (3, .int l3)]) ok dX4_momentGap_18 (by decide) rfl ?_
    refine zg_aload ok dX4_momentGap_20 0 rfl ?_
    refine zg_alen ok dX4_momentGap_22 hE (fun v4 hE => ?_)
    refine zg_istoreR (L' := [(5, .int v4), (4, va_rf v3), (0, va_rf l0), (1, .long l1), (3, .int l3)]) ok dX4_momentGap_23 (by decide) 0 rfl rfl rfl ?_
    refine zg_iconst (v := 0) ok dX4_momentGap_25 (by decide) ?_
    refine zg_istore (L' := [(6, .int 0), (5, .int v4), (4, va_rf v3), (0, va_rf l0), (1, .long l1), (3, .int l3)]) ok dX4_momentGap_26 (by decide) rfl ?_
    refine zg_sub (L' := [(0, va_rf l0), (3, .int l3), (4, va_rf v3), (5, .int v4), (1, .long l1), (6, .int 0)]) [3, 5, 2, 1, 4, 0] rfl ?_
    refine gt_f_X4_momentGap_L28 hl ok tab fin hRm ⟨(by omega), (by omega)⟩ ?_ _ _ _ _ hE
    · intro v13 h5 hE
      refine zg_iincL (k := 2) (L' := fun v14 => [(3, .int v14), (0, va_rf l0), (1, .long v13)]) ok dX4_momentGap_86 (by decide +kernel) hE rfl (by decide) (fun _ => rfl) (fun v14 hE => ?_)
      refine zg_goto (tgt := 4) ok dX4_momentGap_89 (by decide) ?_
      refine zg_sub (L' := [(0, va_rf l0), (1, .long v13), (3, .int v14)]) [1, 2, 0] rfl ?_
      exact hR _ _ _ hE
theorem gt_f_X4_momentGap_L4 {Xc : zw_X} {Q : Int64 → zw_H → Prop} {X : String → Nat → zw_H → Prop} (hl : (zw_l Xc).stackTraces = false) (ok : zw_ok Xc cX4_momentGap "MultipoleLine$Line" yX4_momentGap.name 9) (tab : zw_tab Xc []) (fin : zw_fin Xc (Option.some Jvm.ClassFile.FieldType.long) (zq_J Q) X 0 0) (hRm : zw_rm Xc = rm_X4_momentGap) {kc ks : Nat} (hb : kc ≤ 0 ∧ ks ≤ 0) {l0 : Option Nat} {k92 : Int64 → zw_H → Prop} (hk92 : ∀ (l1 : Int64) (h : zw_H), k92 l1 h → zw_G Xc kc ks 9 h 92 [(1, .long l1)] [])  : ∀ (n9 : Nat) (l1 : Int64) (l3 : Int32) (h : zw_H), zl3 (f_X4_momentGap_B4 (zw_Zf Xc).2.2.2 Q X k92 l0) n9 l1 l3 h → zw_G Xc kc ks 9 h 4 [(0, va_rf l0), (1, .long l1), (3, .int l3)] [] := by
  intro n9
  induction n9 with
  | zero => intro l1 l3 h hE; exact hE.elim
  | succ n9 ih => intro l1 l3 h hE; exact gt_f_X4_momentGap_B4 hl ok tab fin hRm hb ih hk92 hE
set_option maxHeartbeats 8000000 in
theorem mt_X4_momentGap {l : Launch} (hl : l.stackTraces = false) {Z : zw_Z} {a0 : Option Nat} {h : zw_H} {Q : Int64 → zw_H → Prop} {X : String → Nat → zw_H → Prop} (hE : f_X4_momentGap Z.2.2.2 a0 h Q X) : zw_Met l Z yX4_momentGap (ws_ yX4_momentGap cX4_momentGap 9 (Option.some Jvm.ClassFile.FieldType.long)) rm_X4_momentGap [zA a0] h (zq_J Q) X := by
  refine zg_start (own := "MultipoleLine$Line") (by decide +kernel) rfl (Nat.le_of_ble_eq_true rfl) hl (fun Xc ok tab fin hRm hXl hXZ => ?_)
  subst hXl
  subst hXZ
  unfold f_X4_momentGap at hE
  refine zg_lconst (v := 0) ok dX4_momentGap_0 (by decide) ?_
  refine zg_lstore_nR (L' := [(1, .long 0), (0, va_rf a0)]) ok dX4_momentGap_1 rfl (by decide) 0 rfl rfl rfl ?_
  refine zg_iconst (v := 0) ok dX4_momentGap_2 (by decide) ?_
  refine zg_istore_n (L' := [(3, .int 0), (1, .long 0), (0, va_rf a0)]) ok dX4_momentGap_3 rfl (by decide) rfl ?_
  refine zg_sub (L' := [(0, va_rf a0), (1, .long 0), (3, .int 0)]) [2, 1, 0] rfl ?_
  refine gt_f_X4_momentGap_L4 hl ok tab fin hRm ⟨Nat.le_of_ble_eq_true rfl, Nat.le_of_ble_eq_true rfl⟩ ?_ _ _ _ _ hE
  · intro v15 h6 hE
    refine zg_lload_n ok dX4_momentGap_92 rfl 0 rfl ?_
    exact zg_lret ok fin dX4_momentGap_93 ⟨Nat.le_of_ble_eq_true rfl, Nat.le_of_ble_eq_true rfl⟩ hE
set_option maxHeartbeats 8000000 in
theorem mt_X1_momentGap {l : Launch} (hl : l.stackTraces = false) {Z : zw_Z} {a0 : Option Nat} {h : zw_H} {Q : Int64 → zw_H → Prop} {X : String → Nat → zw_H → Prop} (hE : f_X1_momentGap Z.2.2.2 a0 h Q X) : zw_Met l Z yX1_momentGap (ws_ yX1_momentGap cX1_momentGap 1 (Option.some Jvm.ClassFile.FieldType.long)) rm_X1_momentGap [zA a0] h (zq_J Q) X := by
  refine zg_start (own := "MultipoleLine") (by decide +kernel) rfl (Nat.le_of_ble_eq_true rfl) hl (fun Xc ok tab fin hRm hXl hXZ => ?_)
  subst hXl
  subst hXZ
  unfold f_X1_momentGap at hE
  refine zg_aload_n ok dX1_momentGap_0 rfl 0 rfl ?_
  refine zg_callV (vs := []) (rest := []) (rm := rm_X1_loaded) ok hRm lk_X1_76 dX1_momentGap_1 hE (fun hE => mt_X1_loaded hl hE) rfl (Nat.le_of_ble_eq_true rfl) ⟨⟨Nat.le_of_ble_eq_true rfl, Nat.le_of_ble_eq_true rfl⟩, Nat.le_of_ble_eq_true rfl, Nat.le_of_ble_eq_true rfl⟩ (zg_retA (fun v1 h1 hE => ?_)) (zg_xok ok tab fin ⟨Nat.le_of_ble_eq_true rfl, Nat.le_of_ble_eq_true rfl⟩)
  refine zg_cost (kc2 := 1) (ks2 := 6) ⟨rfl, rfl⟩ ?_
  refine zg_callV (vs := []) (rest := []) (rm := rm_X4_momentGap) ok hRm lk_X1_240 dX1_momentGap_4 hE (fun hE => mt_X4_momentGap hl hE) rfl (Nat.le_of_ble_eq_true rfl) ⟨⟨Nat.le_of_ble_eq_true rfl, Nat.le_of_ble_eq_true rfl⟩, Nat.le_of_ble_eq_true rfl, Nat.le_of_ble_eq_true rfl⟩ (zg_retJ (fun v2 h2 hE => ?_)) (zg_xok ok tab fin ⟨Nat.le_of_ble_eq_true rfl, Nat.le_of_ble_eq_true rfl⟩)
  refine zg_cost (kc2 := 1) (ks2 := 6) ⟨rfl, rfl⟩ ?_
  exact zg_lret ok fin dX1_momentGap_7 ⟨Nat.le_of_ble_eq_true rfl, Nat.le_of_ble_eq_true rfl⟩ hE
set_option maxHeartbeats 8000000 in
theorem mt_J27_init {l : Launch} (hl : l.stackTraces = false) {Z : zw_Z} {a0 : Option Nat} {h : zw_H} {Q : zw_H → Prop} {X : String → Nat → zw_H → Prop} (hE : f_J27_init Z.2.2.2 a0 h Q X) : zw_Met l Z yJ27_init (ws_ yJ27_init cJ27_init 1 (Option.none : Option Jvm.ClassFile.FieldType)) rm_J27_init [zA a0] h (zq_V Q) X := by
  refine zg_start (own := "java/util/AbstractSequentialList") (by decide +kernel) rfl (Nat.le_of_ble_eq_true rfl) hl (fun Xc ok tab fin hRm hXl hXZ => ?_)
  subst hXl
  subst hXZ
  unfold f_J27_init at hE
  refine zg_aload_n ok dJ27_init_0 rfl 0 rfl ?_
  refine zg_callI (vs := []) (rest := []) (rm := rm_J11_init) ok hRm lk_J27_1 dJ27_init_1 hE.1 hE.2 (fun hE => mt_J11_init hl hE) rfl (Nat.le_of_ble_eq_true rfl) ⟨⟨Nat.le_of_ble_eq_true rfl, Nat.le_of_ble_eq_true rfl⟩, Nat.le_of_ble_eq_true rfl, Nat.le_of_ble_eq_true rfl⟩ (zg_retV (fun h1 hE => ?_)) (zg_xok ok tab fin ⟨Nat.le_of_ble_eq_true rfl, Nat.le_of_ble_eq_true rfl⟩)
  refine zg_cost (kc2 := 0) (ks2 := 0) ⟨rfl, rfl⟩ ?_
  exact zg_vret ok fin dJ27_init_4 ⟨Nat.le_of_ble_eq_true rfl, Nat.le_of_ble_eq_true rfl⟩ hE
set_option maxHeartbeats 8000000 in
theorem mt_J28_init {l : Launch} (hl : l.stackTraces = false) {Z : zw_Z} {a0 : Option Nat} {h : zw_H} {Q : zw_H → Prop} {X : String → Nat → zw_H → Prop} (hE : f_J28_init Z.2.2.2 a0 h Q X) : zw_Met l Z yJ28_init (ws_ yJ28_init cJ28_init 1 (Option.none : Option Jvm.ClassFile.FieldType)) rm_J28_init [zA a0] h (zq_V Q) X := by
  refine zg_start (own := "java/util/LinkedList") (by decide +kernel) rfl (Nat.le_of_ble_eq_true rfl) hl (fun Xc ok tab fin hRm hXl hXZ => ?_)
  subst hXl
  subst hXZ
  unfold f_J28_init at hE
  refine zg_aload_n ok dJ28_init_0 rfl 0 rfl ?_
  refine zg_callI (vs := []) (rest := []) (rm := rm_J27_init) ok hRm lk_J28_1 dJ28_init_1 hE.1 hE.2 (fun hE => mt_J27_init hl hE) rfl (Nat.le_of_ble_eq_true rfl) ⟨⟨Nat.le_of_ble_eq_true rfl, Nat.le_of_ble_eq_true rfl⟩, Nat.le_of_ble_eq_true rfl, Nat.le_of_ble_eq_true rfl⟩ (zg_retV (fun h1 hE => ?_)) (zg_xok ok tab fin ⟨Nat.le_of_ble_eq_true rfl, Nat.le_of_ble_eq_true rfl⟩)
  refine zg_cost (kc2 := 0) (ks2 := 0) ⟨rfl, rfl⟩ ?_
  refine zg_aload_n ok dJ28_init_4 rfl 0 rfl ?_
  refine zg_iconst (v := 0) ok dJ28_init_5 (by decide) ?_
  refine zg_put (ty := .int) ok lf_J28_7 (Or.inl rfl) (by decide) (by decide +kernel) rfl rfl dJ28_init_6 hE (fun h2 hE => ?_)
  exact zg_vret ok fin dJ28_init_9 ⟨Nat.le_of_ble_eq_true rfl, Nat.le_of_ble_eq_true rfl⟩ hE
set_option maxHeartbeats 8000000 in
theorem mt_X4_isNear {l : Launch} (hl : l.stackTraces = false) {Z : zw_Z} {a0 : Option Nat} {a1 : Option Nat} {a2 : Int32} {h : zw_H} {Q : Int32 → zw_H → Prop} {X : String → Nat → zw_H → Prop} (hE : f_X4_isNear Z.2.2.2 a0 a1 a2 h Q X) : zw_Met l Z yX4_isNear (ws_ yX4_isNear cX4_isNear 3 (Option.some Jvm.ClassFile.FieldType.boolean)) rm_X4_isNear [zA a0, zA a1, zI a2] h (zq_I Q) X := by
  refine zg_start (own := "MultipoleLine$Line") (by decide +kernel) rfl (Nat.le_of_ble_eq_true rfl) hl (fun Xc ok tab fin hRm hXl hXZ => ?_)
  subst hXl
  subst hXZ
  unfold f_X4_isNear at hE
  refine zg_aload_n ok dX4_isNear_0 rfl 0 rfl ?_
  refine zg_aload_n ok dX4_isNear_1 rfl 1 rfl ?_
  refine zg_getI ok lf_X4_86 dX4_isNear_2 hE (fun v1 hE => ?_)
  refine zg_callV (vs := [zI v1]) (rest := []) (rm := rm_X4_leaf) ok hRm lk_X4_115 dX4_isNear_5 hE (fun hE => mt_X4_leaf hl hE) rfl (Nat.le_of_ble_eq_true rfl) ⟨⟨Nat.le_of_ble_eq_true rfl, Nat.le_of_ble_eq_true rfl⟩, Nat.le_of_ble_eq_true rfl, Nat.le_of_ble_eq_true rfl⟩ (zg_retA (fun v2 h1 hE => ?_)) (zg_xok ok tab fin ⟨Nat.le_of_ble_eq_true rfl, Nat.le_of_ble_eq_true rfl⟩)
  refine zg_cost (kc2 := 0) (ks2 := 0) ⟨rfl, rfl⟩ ?_
  refine zg_getI ok lf_X4_119 dX4_isNear_8 hE (fun v3 hE => ?_)
  refine zg_aload_n ok dX4_isNear_11 rfl 0 rfl ?_
  refine zg_iload_n ok dX4_isNear_12 rfl 2 rfl ?_
  refine zg_callV (vs := [zI a2]) (rest := [.int v3]) (rm := rm_X4_leaf) ok hRm lk_X4_115 dX4_isNear_13 hE (fun hE => mt_X4_leaf hl hE) rfl (Nat.le_of_ble_eq_true rfl) ⟨⟨Nat.le_of_ble_eq_true rfl, Nat.le_of_ble_eq_true rfl⟩, Nat.le_of_ble_eq_true rfl, Nat.le_of_ble_eq_true rfl⟩ (zg_retA (fun v4 h2 hE => ?_)) (zg_xok ok tab fin ⟨Nat.le_of_ble_eq_true rfl, Nat.le_of_ble_eq_true rfl⟩)
  refine zg_cost (kc2 := 0) (ks2 := 0) ⟨rfl, rfl⟩ ?_
  refine zg_getI ok lf_X4_119 dX4_isNear_16 hE (fun v5 hE => ?_)
  refine zg_isub ok dX4_isNear_19 ?_
  refine zg_i2l ok dX4_isNear_20 ?_
  refine zg_ldc2 (v := (-1 : Int64)) ok q1439 dX4_isNear_21 ?_
  refine zg_lconst (v := 1) ok dX4_isNear_24 (by decide) ?_
  refine zg_callSN (vs := [zJ ((v3 - v5).toInt64), zJ (-1 : Int64), zJ 1]) (rest := []) (rm := rm_X1_in) ok hRm lk_X4_154 dX4_isNear_25 hE (fun hE => mt_X1_in hl hE) rfl (Nat.le_of_ble_eq_true rfl) ⟨⟨Nat.le_of_ble_eq_true rfl, Nat.le_of_ble_eq_true rfl⟩, Nat.le_of_ble_eq_true rfl, Nat.le_of_ble_eq_true rfl⟩ (zg_retI (fun v6 h3 hE => ?_)) (zg_xok ok tab fin ⟨Nat.le_of_ble_eq_true rfl, Nat.le_of_ble_eq_true rfl⟩)
  refine zg_cost (kc2 := 0) (ks2 := 0) ⟨rfl, rfl⟩ ?_
  exact zg_zretE (ret := none) ok fin dX4_isNear_28 ⟨Nat.le_of_ble_eq_true rfl, Nat.le_of_ble_eq_true rfl⟩ hE
set_option maxHeartbeats 8000000 in
theorem mt_J19_init {l : Launch} (hl : l.stackTraces = false) {Z : zw_Z} {a0 : Option Nat} {h : zw_H} {Q : zw_H → Prop} {X : String → Nat → zw_H → Prop} (hE : f_J19_init Z.2.2.2 a0 h Q X) : zw_Met l Z yJ19_init (ws_ yJ19_init cJ19_init 1 (Option.none : Option Jvm.ClassFile.FieldType)) rm_J19_init [zA a0] h (zq_V Q) X := by
  refine zg_start (own := "java/lang/Number") (by decide +kernel) rfl (Nat.le_of_ble_eq_true rfl) hl (fun Xc ok tab fin hRm hXl hXZ => ?_)
  subst hXl
  subst hXZ
  unfold f_J19_init at hE
  refine zg_aload_n ok dJ19_init_0 rfl 0 rfl ?_
  refine zg_objInitE (rest := []) ok hRm q1456 ⟨Nat.le_of_ble_eq_true rfl, Nat.le_of_ble_eq_true rfl⟩ (Nat.le_of_ble_eq_true rfl) dJ19_init_1 hE (fun hE => ?_)
  exact zg_vret ok fin dJ19_init_4 ⟨Nat.le_of_ble_eq_true rfl, Nat.le_of_ble_eq_true rfl⟩ hE
set_option maxHeartbeats 8000000 in
theorem mt_J20_init {l : Launch} (hl : l.stackTraces = false) {Z : zw_Z} {a0 : Option Nat} {a1 : Int32} {h : zw_H} {Q : zw_H → Prop} {X : String → Nat → zw_H → Prop} (hE : f_J20_init Z.2.2.2 a0 a1 h Q X) : zw_Met l Z yJ20_init (ws_ yJ20_init cJ20_init 2 (Option.none : Option Jvm.ClassFile.FieldType)) rm_J20_init [zA a0, zI a1] h (zq_V Q) X := by
  refine zg_startF (own := "java/lang/Integer") (by decide +kernel) rfl (Nat.le_of_ble_eq_true rfl) hl (fun Xc ok tab fin hRm hXl hXZ => ?_)
  subst hXl
  subst hXZ
  unfold f_J20_init at hE
  refine zg_aload_n ok dJ20_init_0 rfl 0 rfl ?_
  refine zg_callI (vs := []) (rest := []) (rm := rm_J19_init) ok hRm lk_J20_202 dJ20_init_1 hE.1 hE.2 (fun hE => mt_J19_init hl hE) rfl (Nat.le_of_ble_eq_true rfl) ⟨⟨Nat.le_of_ble_eq_true rfl, Nat.le_of_ble_eq_true rfl⟩, Nat.le_of_ble_eq_true rfl, Nat.le_of_ble_eq_true rfl⟩ (zg_retV (fun h1 hE => ?_)) (zg_xok ok tab fin ⟨Nat.le_of_ble_eq_true rfl, Nat.le_of_ble_eq_true rfl⟩)
  refine zg_cost (kc2 := 0) (ks2 := 0) ⟨rfl, rfl⟩ ?_
  refine zg_aload_n ok dJ20_init_4 rfl 0 rfl ?_
  refine zg_iload_n ok dJ20_init_5 rfl 1 rfl ?_
  refine zg_put (ty := .int) ok lf_J20_205w (Or.inr ⟨rfl, rfl, rfl, "java/lang/Integer", q1457, Or.inl rfl⟩) (by decide) (by decide +kernel) rfl rfl dJ20_init_6 hE (fun h2 hE => ?_)
  exact zg_vret ok fin dJ20_init_9 ⟨Nat.le_of_ble_eq_true rfl, Nat.le_of_ble_eq_true rfl⟩ hE
set_option maxHeartbeats 8000000 in
theorem gt_f_J20_valueOf_J23 {Xc : zw_X} {Q : Option Nat → zw_H → Prop} {X : String → Nat → zw_H → Prop} (hl : (zw_l Xc).stackTraces = false) (ok : zw_ok Xc cJ20_valueOf "java/lang/Integer" yJ20_valueOf.name 1) (tab : zw_tab Xc []) (fin : zw_fin Xc (Option.some (Jvm.ClassFile.FieldType.object "java/lang/Integer")) (zq_A Q) X 1 1) (hRm : zw_rm Xc = rm_J20_valueOf)  {l0 : Int32}  {h : zw_H} (hE : f_J20_valueOf_J23 (zw_Zf Xc).2.2.2 Q X  l0 h) : zw_G Xc 0 0 1 h 23 [(0, .int l0)] [] := by
  unfold f_J20_valueOf_J23 at hE
  refine zg_new ok ln_J20_1 (by rw [hRm]; exact ⟨Nat.le_of_ble_eq_true rfl, Nat.le_of_ble_eq_true rfl⟩) dJ20_valueOf_23 hE (fun v1 h1 hE => ?_)
  refine zg_cost (kc2 := 1) (ks2 := 1) ⟨rfl, rfl⟩ ?_
  refine zg_dup ok dJ20_valueOf_26 (zw_rfc _) ?_
  refine zg_iload_n ok dJ20_valueOf_27 rfl 0 rfl ?_
  refine zg_callI (vs := [zI l0]) (rest := [va_rf (some v1)]) (rm := rm_J20_init) ok hRm lk_J20_199 dJ20_valueOf_28 (by simp) hE (fun hE => mt_J20_init hl hE) rfl (Nat.le_of_ble_eq_true rfl) ⟨⟨Nat.le_of_ble_eq_true rfl, Nat.le_of_ble_eq_true rfl⟩, Nat.le_of_ble_eq_true rfl, Nat.le_of_ble_eq_true rfl⟩ (zg_retV (fun h2 hE => ?_)) (zg_xok ok tab fin ⟨Nat.le_of_ble_eq_true rfl, Nat.le_of_ble_eq_true rfl⟩)
  refine zg_cost (kc2 := 1) (ks2 := 1) ⟨rfl, rfl⟩ ?_
  exact zg_aret ok fin (Or.inl ⟨_, rfl⟩) dJ20_valueOf_31 ⟨Nat.le_of_ble_eq_true rfl, Nat.le_of_ble_eq_true rfl⟩ hE
set_option maxHeartbeats 8000000 in
theorem mt_J20_valueOf {l : Launch} (hl : l.stackTraces = false) {Z : zw_Z} {a0 : Int32} {h : zw_H} {Q : Option Nat → zw_H → Prop} {X : String → Nat → zw_H → Prop} (hE : f_J20_valueOf Z.2.2.2 a0 h Q X) : zw_Met l Z yJ20_valueOf (ws_ yJ20_valueOf cJ20_valueOf 1 (Option.some (Jvm.ClassFile.FieldType.object "java/lang/Integer"))) rm_J20_valueOf [zI a0] h (zq_A Q) X := by
  refine zg_startF (own := "java/lang/Integer") (by decide +kernel) rfl (Nat.le_of_ble_eq_true rfl) hl (fun Xc ok tab fin hRm hXl hXZ => ?_)
  subst hXl
  subst hXZ
  unfold f_J20_valueOf at hE
  refine zg_iload_n ok dJ20_valueOf_0 rfl 0 rfl ?_
  refine zg_bipush (v := (-128)) ok dJ20_valueOf_1 (by decide) ?_
  refine zg_icmp_lt (tgt := 23) ok dJ20_valueOf_3 (by decide) hE (fun hE => ?_) (fun hE => ?_)
  · exact gt_f_J20_valueOf_J23 hl ok tab fin hRm  hE
  · refine zg_iload_n ok dJ20_valueOf_6 rfl 0 rfl ?_
    refine zg_getsI (C := "java/lang/Integer$IntegerCache") (n := "high") (d' := "I") (v := 127) ok (List.mem_of_getElem? (i := 5) rfl) q1444 dJ20_valueOf_7 ?_
    refine zg_icmp_gt (tgt := 23) ok dJ20_valueOf_10 (by decide) hE (fun hE => ?_) (fun hE => ?_)
    · exact gt_f_J20_valueOf_J23 hl ok tab fin hRm  hE
    · refine zg_getsA (C := "java/lang/Integer$IntegerCache") (n := "cache") (d' := "[Ljava/lang/Integer;") (k := 6) ok (List.mem_of_getElem? (i := 6) rfl) q1446 dJ20_valueOf_13 ?_
      refine zg_iload_n ok dJ20_valueOf_16 rfl 0 rfl ?_
      refine zg_sipush (v := 128) ok dJ20_valueOf_17 (by decide) ?_
      refine zg_iadd ok dJ20_valueOf_20 ?_
      refine zg_aaldN ok dJ20_valueOf_21 hE (fun v2 hE => ?_)
      exact zg_aret ok fin (Or.inl ⟨_, rfl⟩) dJ20_valueOf_22 ⟨Nat.le_of_ble_eq_true rfl, Nat.le_of_ble_eq_true rfl⟩ hE
set_option maxHeartbeats 8000000 in
theorem mt_J23_init {l : Launch} (hl : l.stackTraces = false) {Z : zw_Z} {a0 : Option Nat} {a1 : Option Nat} {a2 : Option Nat} {a3 : Option Nat} {h : zw_H} {Q : zw_H → Prop} {X : String → Nat → zw_H → Prop} (hE : f_J23_init Z.2.2.2 a0 a1 a2 a3 h Q X) : zw_Met l Z yJ23_init (ws_ yJ23_init cJ23_init 4 (Option.none : Option Jvm.ClassFile.FieldType)) rm_J23_init [zA a0, zA a1, zA a2, zA a3] h (zq_V Q) X := by
  refine zg_start (own := "java/util/LinkedList$Node") (by decide +kernel) rfl (Nat.le_of_ble_eq_true rfl) hl (fun Xc ok tab fin hRm hXl hXZ => ?_)
  subst hXl
  subst hXZ
  unfold f_J23_init at hE
  refine zg_aload_n ok dJ23_init_0 rfl 0 rfl ?_
  refine zg_objInitE (rest := []) ok hRm q1080 ⟨Nat.le_of_ble_eq_true rfl, Nat.le_of_ble_eq_true rfl⟩ (Nat.le_of_ble_eq_true rfl) dJ23_init_1 hE (fun hE => ?_)
  refine zg_aload_n ok dJ23_init_4 rfl 0 rfl ?_
  refine zg_aload_n ok dJ23_init_5 rfl 2 rfl ?_
  refine zg_put (ty := (.object "java/lang/Object")) ok lf_J23_7 (Or.inl rfl) (by decide) (by decide +kernel) (zw_nrO _ _) (zw_frO _ _) dJ23_init_6 hE (fun h1 hE => ?_)
  refine zg_aload_n ok dJ23_init_9 rfl 0 rfl ?_
  refine zg_aload_n ok dJ23_init_10 rfl 3 rfl ?_
  refine zg_put (ty := (.object "java/util/LinkedList$Node")) ok lf_J23_13 (Or.inl rfl) (by decide) (by decide +kernel) (zw_nrO _ _) (zw_frO _ _) dJ23_init_11 hE (fun h2 hE => ?_)
  refine zg_aload_n ok dJ23_init_14 rfl 0 rfl ?_
  refine zg_aload_n ok dJ23_init_15 rfl 1 rfl ?_
  refine zg_put (ty := (.object "java/util/LinkedList$Node")) ok lf_J23_17 (Or.inl rfl) (by decide) (by decide +kernel) (zw_nrO _ _) (zw_frO _ _) dJ23_init_16 hE (fun h3 hE => ?_)
  exact zg_vret ok fin dJ23_init_19 ⟨Nat.le_of_ble_eq_true rfl, Nat.le_of_ble_eq_true rfl⟩ hE
set_option maxHeartbeats 8000000 in
theorem gt_f_J28_linkLast_J38 {Xc : zw_X} {Q : zw_H → Prop} {X : String → Nat → zw_H → Prop} (hl : (zw_l Xc).stackTraces = false) (ok : zw_ok Xc cJ28_linkLast "java/util/LinkedList" yJ28_linkLast.name 4) (tab : zw_tab Xc []) (fin : zw_fin Xc (Option.none : Option Jvm.ClassFile.FieldType) (zq_V Q) X 1 3) (hRm : zw_rm Xc = rm_J28_linkLast)  {l0 : Option Nat}  {h : zw_H} (hE : f_J28_linkLast_J38 (zw_Zf Xc).2.2.2 Q X  l0 h) : zw_G Xc 1 3 4 h 38 [(0, va_rf l0)] [] := by
  unfold f_J28_linkLast_J38 at hE
  refine zg_aload_n ok dJ28_linkLast_38 rfl 0 rfl ?_
  refine zg_dup ok dJ28_linkLast_39 (zw_rfc _) ?_
  refine zg_getI ok lf_J28_7 dJ28_linkLast_40 hE (fun v3 hE => ?_)
  refine zg_iconst (v := 1) ok dJ28_linkLast_43 (by decide) ?_
  refine zg_iadd ok dJ28_linkLast_44 ?_
  refine zg_put (ty := .int) ok lf_J28_7 (Or.inl rfl) (by decide) (by decide +kernel) rfl rfl dJ28_linkLast_45 hE (fun h5 hE => ?_)
  refine zg_aload_n ok dJ28_linkLast_48 rfl 0 rfl ?_
  refine zg_dup ok dJ28_linkLast_49 (zw_rfc _) ?_
  refine zg_getI ok lf_J28_33 dJ28_linkLast_50 hE (fun v4 hE => ?_)
  refine zg_iconst (v := 1) ok dJ28_linkLast_53 (by decide) ?_
  refine zg_iadd ok dJ28_linkLast_54 ?_
  refine zg_put (ty := .int) ok lf_J28_33 (Or.inl rfl) (by decide) (by decide +kernel) rfl rfl dJ28_linkLast_55 hE (fun h6 hE => ?_)
  exact zg_vret ok fin dJ28_linkLast_58 ⟨Nat.le_of_ble_eq_true rfl, Nat.le_of_ble_eq_true rfl⟩ hE
set_option maxHeartbeats 8000000 in
theorem mt_J28_linkLast {l : Launch} (hl : l.stackTraces = false) {Z : zw_Z} {a0 : Option Nat} {a1 : Option Nat} {h : zw_H} {Q : zw_H → Prop} {X : String → Nat → zw_H → Prop} (hE : f_J28_linkLast Z.2.2.2 a0 a1 h Q X) : zw_Met l Z yJ28_linkLast (ws_ yJ28_linkLast cJ28_linkLast 4 (Option.none : Option Jvm.ClassFile.FieldType)) rm_J28_linkLast [zA a0, zA a1] h (zq_V Q) X := by
  refine zg_start (own := "java/util/LinkedList") (by decide +kernel) rfl (Nat.le_of_ble_eq_true rfl) hl (fun Xc ok tab fin hRm hXl hXZ => ?_)
  subst hXl
  subst hXZ
  unfold f_J28_linkLast at hE
  refine zg_aload_n ok dJ28_linkLast_0 rfl 0 rfl ?_
  refine zg_getA ok lf_J28_27 dJ28_linkLast_1 hE (fun v1 hE => ?_)
  refine zg_astore_nR (L' := [(2, va_rf v1), (0, va_rf a0), (1, va_rf a1)]) ok dJ28_linkLast_4 rfl (by decide) 1 rfl rfl rfl ?_
  refine zg_new ok ln_J28_22 (by rw [hRm]; exact ⟨Nat.le_of_ble_eq_true rfl, Nat.le_of_ble_eq_true rfl⟩) dJ28_linkLast_5 hE (fun v2 h1 hE => ?_)
  refine zg_cost (kc2 := 1) (ks2 := 3) ⟨rfl, rfl⟩ ?_
  refine zg_dup ok dJ28_linkLast_8 (zw_rfc _) ?_
  refine zg_aload_n ok dJ28_linkLast_9 rfl 0 rfl ?_
  refine zg_aload_n ok dJ28_linkLast_10 rfl 2 rfl ?_
  refine zg_null ok dJ28_linkLast_11 ?_
  refine zg_callI (vs := [zA v1, zA a1, zA none]) (rest := [va_rf (some v2)]) (rm := rm_J23_init) ok hRm lk_J28_24 dJ28_linkLast_12 (by simp) hE (fun hE => mt_J23_init hl hE) rfl (Nat.le_of_ble_eq_true rfl) ⟨⟨Nat.le_of_ble_eq_true rfl, Nat.le_of_ble_eq_true rfl⟩, Nat.le_of_ble_eq_true rfl, Nat.le_of_ble_eq_true rfl⟩ (zg_retV (fun h2 hE => ?_)) (zg_xok ok tab fin ⟨Nat.le_of_ble_eq_true rfl, Nat.le_of_ble_eq_true rfl⟩)
  refine zg_cost (kc2 := 1) (ks2 := 3) ⟨rfl, rfl⟩ ?_
  refine zg_astore_nR (L' := [(3, va_rf (some v2)), (2, va_rf v1), (0, va_rf a0), (1, va_rf a1)]) ok dJ28_linkLast_15 rfl (by decide) 0 rfl rfl rfl ?_
  refine zg_aload_n ok dJ28_linkLast_16 rfl 2 rfl ?_
  refine zg_aload_n ok dJ28_linkLast_17 rfl 0 rfl ?_
  refine zg_put (ty := (.object "java/util/LinkedList$Node")) ok lf_J28_27 (Or.inl rfl) (by decide) (by decide +kernel) (zw_nrO _ _) (zw_frO _ _) dJ28_linkLast_18 hE (fun h3 hE => ?_)
  refine zg_aload_n ok dJ28_linkLast_21 rfl 1 rfl ?_
  refine zg_ifnonnull (tgt := 33) ok dJ28_linkLast_22 (by decide) hE (fun hE => ?_) (fun hE => ?_)
  · refine zg_aload_n ok dJ28_linkLast_33 rfl 1 rfl ?_
    refine zg_aload_n ok dJ28_linkLast_34 rfl 0 rfl ?_
    refine zg_put (ty := (.object "java/util/LinkedList$Node")) ok lf_J28_36 (Or.inl rfl) (by decide) (by decide +kernel) (zw_nrO _ _) (zw_frO _ _) dJ28_linkLast_35 hE (fun h4 hE => ?_)
    refine zg_sub (L' := [(0, va_rf a0)]) [2] rfl ?_
    exact gt_f_J28_linkLast_J38 hl ok tab fin hRm  hE
  · refine zg_aload_n ok dJ28_linkLast_25 rfl 2 rfl ?_
    refine zg_aload_n ok dJ28_linkLast_26 rfl 0 rfl ?_
    refine zg_put (ty := (.object "java/util/LinkedList$Node")) ok lf_J28_18 (Or.inl rfl) (by decide) (by decide +kernel) (zw_nrO _ _) (zw_frO _ _) dJ28_linkLast_27 hE (fun h7 hE => ?_)
    refine zg_goto (tgt := 38) ok dJ28_linkLast_30 (by decide) ?_
    refine zg_sub (L' := [(0, va_rf a0)]) [2] rfl ?_
    exact gt_f_J28_linkLast_J38 hl ok tab fin hRm  hE
set_option maxHeartbeats 8000000 in
theorem mt_J28_addLast {l : Launch} (hl : l.stackTraces = false) {Z : zw_Z} {a0 : Option Nat} {a1 : Option Nat} {h : zw_H} {Q : zw_H → Prop} {X : String → Nat → zw_H → Prop} (hE : f_J28_addLast Z.2.2.2 a0 a1 h Q X) : zw_Met l Z yJ28_addLast (ws_ yJ28_addLast cJ28_addLast 2 (Option.none : Option Jvm.ClassFile.FieldType)) rm_J28_addLast [zA a0, zA a1] h (zq_V Q) X := by
  refine zg_start (own := "java/util/LinkedList") (by decide +kernel) rfl (Nat.le_of_ble_eq_true rfl) hl (fun Xc ok tab fin hRm hXl hXZ => ?_)
  subst hXl
  subst hXZ
  unfold f_J28_addLast at hE
  refine zg_aload_n ok dJ28_addLast_0 rfl 0 rfl ?_
  refine zg_aload_n ok dJ28_addLast_1 rfl 1 rfl ?_
  refine zg_callV (vs := [zA a1]) (rest := []) (rm := rm_J28_linkLast) ok hRm lk_J28_57 dJ28_addLast_2 hE (fun hE => mt_J28_linkLast hl hE) rfl (Nat.le_of_ble_eq_true rfl) ⟨⟨Nat.le_of_ble_eq_true rfl, Nat.le_of_ble_eq_true rfl⟩, Nat.le_of_ble_eq_true rfl, Nat.le_of_ble_eq_true rfl⟩ (zg_retV (fun h1 hE => ?_)) (zg_xok ok tab fin ⟨Nat.le_of_ble_eq_true rfl, Nat.le_of_ble_eq_true rfl⟩)
  refine zg_cost (kc2 := 1) (ks2 := 3) ⟨rfl, rfl⟩ ?_
  exact zg_vret ok fin dJ28_addLast_5 ⟨Nat.le_of_ble_eq_true rfl, Nat.le_of_ble_eq_true rfl⟩ hE
set_option maxHeartbeats 8000000 in
theorem gt_f_X4_near_J39 {Xc : zw_X} {Q : Option Nat → zw_H → Prop} {X : String → Nat → zw_H → Prop} (hl : (zw_l Xc).stackTraces = false) (ok : zw_ok Xc cX4_near "MultipoleLine$Line" yX4_near.name 4) (tab : zw_tab Xc []) (fin : zw_fin Xc (Option.some (Jvm.ClassFile.FieldType.object "java/util/LinkedList")) (zq_A Q) X 51 104) (hRm : zw_rm Xc = rm_X4_near) {kb sb KE SE : Nat} (hk : kb + 2 ≤ KE ∧ sb + 4 ≤ SE) (hKE : KE ≤ 51 ∧ SE ≤ 104) {R : Int32 → zw_H → Prop} {l0 : Option Nat} {l1 : Int32} {l2 : Option Nat} (hR : ∀ (l3 : Int32) (h : zw_H), R l3 h → zw_G Xc (kb + 2) (sb + 4) 4 h 10 [(0, va_rf l0), (1, .int l1), (2, va_rf l2), (3, .int l3)] []) {k45 : zw_H → Prop} (hk45 : ∀  (h : zw_H), k45  h → zw_G Xc KE SE 4 h 45 [(2, va_rf l2)] [])  {l3 : Int32}  {h : zw_H} (hE : f_X4_near_J39 (zw_Zf Xc).2.2.2 Q X R k45 l0 l1 l2 l3 h) : zw_G Xc (kb + 2) (sb + 4) 4 h 39 [(0, va_rf l0), (1, .int l1), (2, va_rf l2), (3, .int l3)] [] := by
  unfold f_X4_near_J39 at hE
  refine zg_iincLR (k := 3) (L' := fun v5 => [(3, .int v5), (0, va_rf l0), (1, .int l1), (2, va_rf l2)]) ok dX4_near_39 (by decide +kernel) hE rfl (by decide) rfl (k9 := 2) rfl (fun _ => rfl) (fun v5 hE => ?_)
  refine zg_goto (tgt := 10) ok dX4_near_42 (by decide) ?_
  refine zg_sub (L' := [(0, va_rf l0), (1, .int l1), (2, va_rf l2), (3, .int v5)]) [1, 2, 3, 0] rfl ?_
  exact hR _ _ hE
set_option maxHeartbeats 8000000 in
theorem gt_f_X4_near_B10 {Xc : zw_X} {Q : Option Nat → zw_H → Prop} {X : String → Nat → zw_H → Prop} (hl : (zw_l Xc).stackTraces = false) (ok : zw_ok Xc cX4_near "MultipoleLine$Line" yX4_near.name 4) (tab : zw_tab Xc []) (fin : zw_fin Xc (Option.some (Jvm.ClassFile.FieldType.object "java/util/LinkedList")) (zq_A Q) X 51 104) (hRm : zw_rm Xc = rm_X4_near) {kb sb KE SE : Nat} (hk : kb + 2 ≤ KE ∧ sb + 4 ≤ SE) (hKE : KE ≤ 51 ∧ SE ≤ 104) {R : Int32 → zw_H → Prop} {l0 : Option Nat} {l1 : Int32} {l2 : Option Nat} (hR : ∀ (l3 : Int32) (h : zw_H), R l3 h → zw_G Xc (kb + 2) (sb + 4) 4 h 10 [(0, va_rf l0), (1, .int l1), (2, va_rf l2), (3, .int l3)] []) {k45 : zw_H → Prop} (hk45 : ∀  (h : zw_H), k45  h → zw_G Xc KE SE 4 h 45 [(2, va_rf l2)] [])  {l3 : Int32} {h : zw_H} (hE : f_X4_near_B10 (zw_Zf Xc).2.2.2 Q X k45 l0 l1 l2 R l3 h) : zw_G Xc kb sb 4 h 10 [(0, va_rf l0), (1, .int l1), (2, va_rf l2), (3, .int l3)] [] := by
  unfold f_X4_near_B10 at hE
  refine zg_iload_n ok dX4_near_10 rfl 3 rfl ?_
  refine zg_aload_n ok dX4_near_11 rfl 0 rfl ?_
  refine zg_callV (vs := []) (rest := [.int l3]) (rm := rm_X4_size) ok hRm lk_X4_37 dX4_near_12 hE (fun hE => mt_X4_size hl hE) rfl (Nat.le_of_ble_eq_true rfl) ⟨⟨Nat.le_of_ble_eq_true rfl, Nat.le_of_ble_eq_true rfl⟩, (by show kb + 0 ≤ 51; omega), (by show sb + 0 ≤ 104; omega)⟩ (zg_retI (fun v2 h3 hE => ?_)) (zg_xok ok tab fin ⟨(by show kb + 0 ≤ 51; omega), (by show sb + 0 ≤ 104; omega)⟩)
  refine zg_cost (kc2 := kb) (ks2 := sb) ⟨(by show kb + 0 = kb; omega), (by show sb + 0 = sb; omega)⟩ ?_
  refine zg_icmp_ge (tgt := 45) ok dX4_near_15 (by decide) hE (fun hE => ?_) (fun hE => ?_)
  · refine zg_wide (kc2 := KE) (ks2 := SE) (by omega) (by omega) ?_
    refine zg_sub (L' := [(2, va_rf l2)]) [2] rfl ?_
    exact hk45 _ hE
  · refine zg_aload_n ok dX4_near_18 rfl 0 rfl ?_
    refine zg_aload_n ok dX4_near_19 rfl 0 rfl ?_
    refine zg_iload_n ok dX4_near_20 rfl 3 rfl ?_
    refine zg_callV (vs := [zI l3]) (rest := [va_rf l0]) (rm := rm_X4_at) ok hRm lk_X4_41 dX4_near_21 hE (fun hE => mt_X4_at hl hE) rfl (Nat.le_of_ble_eq_true rfl) ⟨⟨Nat.le_of_ble_eq_true rfl, Nat.le_of_ble_eq_true rfl⟩, (by show kb + 0 ≤ 51; omega), (by show sb + 0 ≤ 104; omega)⟩ (zg_retA (fun v3 h4 hE => ?_)) (zg_xok ok tab fin ⟨(by show kb + 0 ≤ 51; omega), (by show sb + 0 ≤ 104; omega)⟩)
    refine zg_cost (kc2 := kb) (ks2 := sb) ⟨(by show kb + 0 = kb; omega), (by show sb + 0 = sb; omega)⟩ ?_
    refine zg_iload_n ok dX4_near_24 rfl 1 rfl ?_
    refine zg_callV (vs := [zA v3, zI l1]) (rest := []) (rm := rm_X4_isNear) ok hRm lk_X4_161 dX4_near_25 hE (fun hE => mt_X4_isNear hl hE) rfl (Nat.le_of_ble_eq_true rfl) ⟨⟨Nat.le_of_ble_eq_true rfl, Nat.le_of_ble_eq_true rfl⟩, (by show kb + 0 ≤ 51; omega), (by show sb + 0 ≤ 104; omega)⟩ (zg_retI (fun v4 h5 hE => ?_)) (zg_xok ok tab fin ⟨(by show kb + 0 ≤ 51; omega), (by show sb + 0 ≤ 104; omega)⟩)
    refine zg_cost (kc2 := kb) (ks2 := sb) ⟨(by show kb + 0 = kb; omega), (by show sb + 0 = sb; omega)⟩ ?_
    refine zg_if_eq (tgt := 39) ok dX4_near_28 (by decide) hE (fun hE => ?_) (fun hE => ?_)
    · refine zg_wide (kc2 := kb + 2) (ks2 := sb + 4) (by omega) (by omega) ?_
      exact gt_f_X4_near_J39 hl ok tab fin hRm hk hKE hR hk45 hE
    · refine zg_aload_n ok dX4_near_31 rfl 2 rfl ?_
      refine zg_iload_n ok dX4_near_32 rfl 3 rfl ?_
      refine zg_callS (vs := [zI l3]) (rest := [va_rf l2]) (rm := rm_J20_valueOf) ok hRm lk_X4_165 dX4_near_33 hE (fun hE => mt_J20_valueOf hl hE) rfl (Nat.le_of_ble_eq_true rfl) ⟨⟨Nat.le_of_ble_eq_true rfl, Nat.le_of_ble_eq_true rfl⟩, (by show kb + 1 ≤ 51; omega), (by show sb + 1 ≤ 104; omega)⟩ (zg_retA (fun v6 h6 hE => ?_)) (zg_xok ok tab fin ⟨(by show kb + 1 ≤ 51; omega), (by show sb + 1 ≤ 104; omega)⟩)
      refine zg_cost (kc2 := kb + 1) (ks2 := sb + 1) ⟨(by show kb + 1 = kb + 1; omega), (by show sb + 1 = sb + 1; omega)⟩ ?_
      refine zg_callV (vs := [zA v6]) (rest := []) (rm := rm_J28_addLast) ok hRm lk_X4_171 dX4_near_36 hE (fun hE => mt_J28_addLast hl hE) rfl (Nat.le_of_ble_eq_true rfl) ⟨⟨Nat.le_of_ble_eq_true rfl, Nat.le_of_ble_eq_true rfl⟩, (by show kb + 1 + 1 ≤ 51; omega), (by show sb + 1 + 3 ≤ 104; omega)⟩ (zg_retV (fun h7 hE => ?_)) (zg_xok ok tab fin ⟨(by show kb + 1 + 1 ≤ 51; omega), (by show sb + 1 + 3 ≤ 104; omega)⟩)
      refine zg_cost (kc2 := kb + 2) (ks2 := sb + 4) ⟨(by show kb + 1 + 1 = kb + 2; omega), (by show sb + 1 + 3 = sb + 4; omega)⟩ ?_
      exact gt_f_X4_near_J39 hl ok tab fin hRm hk hKE hR hk45 hE
theorem gt_f_X4_near_L10 {Xc : zw_X} {Q : Option Nat → zw_H → Prop} {X : String → Nat → zw_H → Prop} (hl : (zw_l Xc).stackTraces = false) (ok : zw_ok Xc cX4_near "MultipoleLine$Line" yX4_near.name 4) (tab : zw_tab Xc []) (fin : zw_fin Xc (Option.some (Jvm.ClassFile.FieldType.object "java/util/LinkedList")) (zq_A Q) X 51 104) (hRm : zw_rm Xc = rm_X4_near) {KE SE : Nat} (hKE : KE ≤ 51 ∧ SE ≤ 104) {l0 : Option Nat} {l1 : Int32} {l2 : Option Nat} {k45 : zw_H → Prop} (hk45 : ∀  (h : zw_H), k45  h → zw_G Xc KE SE 4 h 45 [(2, va_rf l2)] [])  : ∀ (n9 kb sb : Nat), kb + n9 * 2 ≤ KE ∧ sb + n9 * 4 ≤ SE → ∀ (l3 : Int32) (h : zw_H), zl2 (f_X4_near_B10 (zw_Zf Xc).2.2.2 Q X k45 l0 l1 l2) n9 l3 h → zw_G Xc kb sb 4 h 10 [(0, va_rf l0), (1, .int l1), (2, va_rf l2), (3, .int l3)] [] := by
  intro n9
  induction n9 with
  | zero => intro kb sb hk9 l3 h hE; exact hE.elim
  | succ n9 ih => intro kb sb hk9 l3 h hE; exact gt_f_X4_near_B10 hl ok tab fin hRm ⟨by omega, by omega⟩ hKE (ih (kb + 2) (sb + 4) ⟨by omega, by omega⟩) hk45 hE
set_option maxHeartbeats 8000000 in
theorem mt_X4_near {l : Launch} (hl : l.stackTraces = false) {Z : zw_Z} {a0 : Option Nat} {a1 : Int32} {h : zw_H} {Q : Option Nat → zw_H → Prop} {X : String → Nat → zw_H → Prop} (hE : f_X4_near Z.2.2.2 a0 a1 h Q X) : zw_Met l Z yX4_near (ws_ yX4_near cX4_near 4 (Option.some (Jvm.ClassFile.FieldType.object "java/util/LinkedList"))) rm_X4_near [zA a0, zI a1] h (zq_A Q) X := by
  refine zg_start (own := "MultipoleLine$Line") (by decide +kernel) rfl (Nat.le_of_ble_eq_true rfl) hl (fun Xc ok tab fin hRm hXl hXZ => ?_)
  subst hXl
  subst hXZ
  unfold f_X4_near at hE
  refine zg_new ok ln_X4_158 (by rw [hRm]; exact ⟨Nat.le_of_ble_eq_true rfl, Nat.le_of_ble_eq_true rfl⟩) dX4_near_0 hE (fun v1 h1 hE => ?_)
  refine zg_cost (kc2 := 1) (ks2 := 4) ⟨rfl, rfl⟩ ?_
  refine zg_dup ok dX4_near_3 (zw_rfc _) ?_
  refine zg_callI (vs := []) (rest := [va_rf (some v1)]) (rm := rm_J28_init) ok hRm lk_X4_160 dX4_near_4 (by simp) hE (fun hE => mt_J28_init hl hE) rfl (Nat.le_of_ble_eq_true rfl) ⟨⟨Nat.le_of_ble_eq_true rfl, Nat.le_of_ble_eq_true rfl⟩, Nat.le_of_ble_eq_true rfl, Nat.le_of_ble_eq_true rfl⟩ (zg_retV (fun h2 hE => ?_)) (zg_xok ok tab fin ⟨Nat.le_of_ble_eq_true rfl, Nat.le_of_ble_eq_true rfl⟩)
  refine zg_cost (kc2 := 1) (ks2 := 4) ⟨rfl, rfl⟩ ?_
  refine zg_astore_n (L' := [(2, va_rf (some v1)), (0, va_rf a0), (1, .int a1)]) ok dX4_near_7 rfl (by decide) rfl ?_
  refine zg_iconst (v := 0) ok dX4_near_8 (by decide) ?_
  refine zg_istore_nR (L' := [(3, .int 0), (2, va_rf (some v1)), (0, va_rf a0), (1, .int a1)]) ok dX4_near_9 rfl (by decide) 0 rfl rfl rfl ?_
  refine zg_sub (L' := [(0, va_rf a0), (1, .int a1), (2, va_rf (some v1)), (3, .int 0)]) [2, 3, 1, 0] rfl ?_
  refine gt_f_X4_near_L10 (KE := 51) (SE := 104) hl ok tab fin hRm ⟨Nat.le_of_ble_eq_true rfl, Nat.le_of_ble_eq_true rfl⟩ ?_ _ 1 4 ⟨Nat.le_of_ble_eq_true rfl, Nat.le_of_ble_eq_true rfl⟩ _ _ hE
  · intro h8 hE
    refine zg_aload_n ok dX4_near_45 rfl 0 rfl ?_
    exact zg_aret ok fin (Or.inl ⟨_, rfl⟩) dX4_near_46 ⟨Nat.le_of_ble_eq_true rfl, Nat.le_of_ble_eq_true rfl⟩ hE
set_option maxHeartbeats 8000000 in
theorem mt_J28_size {l : Launch} (hl : l.stackTraces = false) {Z : zw_Z} {a0 : Option Nat} {h : zw_H} {Q : Int32 → zw_H → Prop} {X : String → Nat → zw_H → Prop} (hE : f_J28_size Z.2.2.2 a0 h Q X) : zw_Met l Z yJ28_size (ws_ yJ28_size cJ28_size 1 (Option.some Jvm.ClassFile.FieldType.int)) rm_J28_size [zA a0] h (zq_I Q) X := by
  refine zg_start (own := "java/util/LinkedList") (by decide +kernel) rfl (Nat.le_of_ble_eq_true rfl) hl (fun Xc ok tab fin hRm hXl hXZ => ?_)
  subst hXl
  subst hXZ
  unfold f_J28_size at hE
  refine zg_aload_n ok dJ28_size_0 rfl 0 rfl ?_
  refine zg_getI ok lf_J28_7 dJ28_size_1 hE (fun v1 hE => ?_)
  exact zg_iret ok fin dJ28_size_4 ⟨Nat.le_of_ble_eq_true rfl, Nat.le_of_ble_eq_true rfl⟩ hE
set_option maxHeartbeats 8000000 in
theorem mt_X1_nearMany {l : Launch} (hl : l.stackTraces = false) {Z : zw_Z} {a0 : Option Nat} {a1 : Int32} {h : zw_H} {Q : Int32 → zw_H → Prop} {X : String → Nat → zw_H → Prop} (hE : f_X1_nearMany Z.2.2.2 a0 a1 h Q X) : zw_Met l Z yX1_nearMany (ws_ yX1_nearMany cX1_nearMany 2 (Option.some Jvm.ClassFile.FieldType.int)) rm_X1_nearMany [zA a0, zI a1] h (zq_I Q) X := by
  refine zg_start (own := "MultipoleLine") (by decide +kernel) rfl (Nat.le_of_ble_eq_true rfl) hl (fun Xc ok tab fin hRm hXl hXZ => ?_)
  subst hXl
  subst hXZ
  unfold f_X1_nearMany at hE
  refine zg_aload_n ok dX1_nearMany_0 rfl 0 rfl ?_
  refine zg_iload_n ok dX1_nearMany_1 rfl 1 rfl ?_
  refine zg_callV (vs := [zI a1]) (rest := []) (rm := rm_X1_at) ok hRm lk_X1_193 dX1_nearMany_2 hE (fun hE => mt_X1_at hl hE) rfl (Nat.le_of_ble_eq_true rfl) ⟨⟨Nat.le_of_ble_eq_true rfl, Nat.le_of_ble_eq_true rfl⟩, Nat.le_of_ble_eq_true rfl, Nat.le_of_ble_eq_true rfl⟩ (zg_retA (fun v1 h1 hE => ?_)) (zg_xok ok tab fin ⟨Nat.le_of_ble_eq_true rfl, Nat.le_of_ble_eq_true rfl⟩)
  refine zg_cost (kc2 := 2) (ks2 := 12) ⟨rfl, rfl⟩ ?_
  refine zg_iload_n ok dX1_nearMany_5 rfl 1 rfl ?_
  refine zg_callV (vs := [zI a1]) (rest := []) (rm := rm_X4_near) ok hRm lk_X1_244 dX1_nearMany_6 hE (fun hE => mt_X4_near hl hE) rfl (Nat.le_of_ble_eq_true rfl) ⟨⟨Nat.le_of_ble_eq_true rfl, Nat.le_of_ble_eq_true rfl⟩, Nat.le_of_ble_eq_true rfl, Nat.le_of_ble_eq_true rfl⟩ (zg_retA (fun v2 h2 hE => ?_)) (zg_xok ok tab fin ⟨Nat.le_of_ble_eq_true rfl, Nat.le_of_ble_eq_true rfl⟩)
  refine zg_cost (kc2 := 53) (ks2 := 116) ⟨rfl, rfl⟩ ?_
  refine zg_callV (vs := []) (rest := []) (rm := rm_J28_size) ok hRm lk_X1_248 dX1_nearMany_9 hE (fun hE => mt_J28_size hl hE) rfl (Nat.le_of_ble_eq_true rfl) ⟨⟨Nat.le_of_ble_eq_true rfl, Nat.le_of_ble_eq_true rfl⟩, Nat.le_of_ble_eq_true rfl, Nat.le_of_ble_eq_true rfl⟩ (zg_retI (fun v3 h3 hE => ?_)) (zg_xok ok tab fin ⟨Nat.le_of_ble_eq_true rfl, Nat.le_of_ble_eq_true rfl⟩)
  refine zg_cost (kc2 := 53) (ks2 := 116) ⟨rfl, rfl⟩ ?_
  exact zg_iret ok fin dX1_nearMany_12 ⟨Nat.le_of_ble_eq_true rfl, Nat.le_of_ble_eq_true rfl⟩ hE
set_option maxHeartbeats 8000000 in
theorem mt_J12_rangeCheckForAdd {l : Launch} (hl : l.stackTraces = false) {Z : zw_Z} {a0 : Option Nat} {a1 : Int32} {h : zw_H} {Q : zw_H → Prop} {X : String → Nat → zw_H → Prop} (hE : f_J12_rangeCheckForAdd Z.2.2.2 a0 a1 h Q X) : zw_Met l Z yJ12_rangeCheckForAdd (ws_ yJ12_rangeCheckForAdd cJ12_rangeCheckForAdd 2 (Option.none : Option Jvm.ClassFile.FieldType)) rm_J12_rangeCheckForAdd [zA a0, zI a1] h (zq_V Q) X := by
  refine zg_start (own := "java/util/ArrayList") (by decide +kernel) rfl (Nat.le_of_ble_eq_true rfl) hl (fun Xc ok tab fin hRm hXl hXZ => ?_)
  subst hXl
  subst hXZ
  unfold f_J12_rangeCheckForAdd at hE
  refine zg_iload_n ok dJ12_rangeCheckForAdd_0 rfl 1 rfl ?_
  refine zg_aload_n ok dJ12_rangeCheckForAdd_1 rfl 0 rfl ?_
  refine zg_getI ok lf_J12_48 dJ12_rangeCheckForAdd_2 hE (fun v1 hE => ?_)
  refine zg_icmp_gt (tgt := 12) ok dJ12_rangeCheckForAdd_5 (by decide) hE (fun hE => ?_) (fun hE => ?_)
  · exact hE.elim
  · refine zg_iload_n ok dJ12_rangeCheckForAdd_8 rfl 1 rfl ?_
    refine zg_if_ge (tgt := 25) ok dJ12_rangeCheckForAdd_9 (by decide) hE (fun hE => ?_) (fun hE => ?_)
    · exact zg_vret ok fin dJ12_rangeCheckForAdd_25 ⟨Nat.le_of_ble_eq_true rfl, Nat.le_of_ble_eq_true rfl⟩ hE
    · exact hE.elim
set_option maxHeartbeats 8000000 in
theorem mt_J30_init {l : Launch} (hl : l.stackTraces = false) {Z : zw_Z} {a0 : Option Nat} {a1 : Option Nat} {h : zw_H} {Q : zw_H → Prop} {X : String → Nat → zw_H → Prop} (hE : f_J30_init Z.2.2.2 a0 a1 h Q X) : zw_Met l Z yJ30_init (ws_ yJ30_init cJ30_init 2 (Option.none : Option Jvm.ClassFile.FieldType)) rm_J30_init [zA a0, zA a1] h (zq_V Q) X := by
  refine zg_start (own := "java/util/ArrayList$Itr") (by decide +kernel) rfl (Nat.le_of_ble_eq_true rfl) hl (fun Xc ok tab fin hRm hXl hXZ => ?_)
  subst hXl
  subst hXZ
  unfold f_J30_init at hE
  exact hE.elim
set_option maxHeartbeats 8000000 in
theorem mt_J31_init {l : Launch} (hl : l.stackTraces = false) {Z : zw_Z} {a0 : Option Nat} {a1 : Option Nat} {a2 : Int32} {h : zw_H} {Q : zw_H → Prop} {X : String → Nat → zw_H → Prop} (hE : f_J31_init Z.2.2.2 a0 a1 a2 h Q X) : zw_Met l Z yJ31_init (ws_ yJ31_init cJ31_init 3 (Option.none : Option Jvm.ClassFile.FieldType)) rm_J31_init [zA a0, zA a1, zI a2] h (zq_V Q) X := by
  refine zg_start (own := "java/util/ArrayList$ListItr") (by decide +kernel) rfl (Nat.le_of_ble_eq_true rfl) hl (fun Xc ok tab fin hRm hXl hXZ => ?_)
  subst hXl
  subst hXZ
  unfold f_J31_init at hE
  exact hE.elim
set_option maxHeartbeats 8000000 in
theorem mt_J12_listIterator {l : Launch} (hl : l.stackTraces = false) {Z : zw_Z} {a0 : Option Nat} {a1 : Int32} {h : zw_H} {Q : Option Nat → zw_H → Prop} {X : String → Nat → zw_H → Prop} (hE : f_J12_listIterator Z.2.2.2 a0 a1 h Q X) : zw_Met l Z yJ12_listIterator (ws_ yJ12_listIterator cJ12_listIterator 2 (Option.some (Jvm.ClassFile.FieldType.object "java/util/ListIterator"))) rm_J12_listIterator [zA a0, zI a1] h (zq_A Q) X := by
  refine zg_start (own := "java/util/ArrayList") (by decide +kernel) rfl (Nat.le_of_ble_eq_true rfl) hl (fun Xc ok tab fin hRm hXl hXZ => ?_)
  subst hXl
  subst hXZ
  unfold f_J12_listIterator at hE
  exact hE.elim
set_option maxHeartbeats 8000000 in
theorem mt_J28_isPositionIndex {l : Launch} (hl : l.stackTraces = false) {Z : zw_Z} {a0 : Option Nat} {a1 : Int32} {h : zw_H} {Q : Int32 → zw_H → Prop} {X : String → Nat → zw_H → Prop} (hE : f_J28_isPositionIndex Z.2.2.2 a0 a1 h Q X) : zw_Met l Z yJ28_isPositionIndex (ws_ yJ28_isPositionIndex cJ28_isPositionIndex 2 (Option.some Jvm.ClassFile.FieldType.boolean)) rm_J28_isPositionIndex [zA a0, zI a1] h (zq_I Q) X := by
  refine zg_start (own := "java/util/LinkedList") (by decide +kernel) rfl (Nat.le_of_ble_eq_true rfl) hl (fun Xc ok tab fin hRm hXl hXZ => ?_)
  subst hXl
  subst hXZ
  unfold f_J28_isPositionIndex at hE
  refine zg_iload_n ok dJ28_isPositionIndex_0 rfl 1 rfl ?_
  refine zg_if_lt (tgt := 16) ok dJ28_isPositionIndex_1 (by decide) hE (fun hE => ?_) (fun hE => ?_)
  · refine zg_iconst (v := 0) ok dJ28_isPositionIndex_16 (by decide) ?_
    exact zg_zret ok fin dJ28_isPositionIndex_17 ⟨Nat.le_of_ble_eq_true rfl, Nat.le_of_ble_eq_true rfl⟩ rfl hE
  · refine zg_iload_n ok dJ28_isPositionIndex_4 rfl 1 rfl ?_
    refine zg_aload_n ok dJ28_isPositionIndex_5 rfl 0 rfl ?_
    refine zg_getI ok lf_J28_7 dJ28_isPositionIndex_6 hE (fun v1 hE => ?_)
    refine zg_icmp_gt (tgt := 16) ok dJ28_isPositionIndex_9 (by decide) hE (fun hE => ?_) (fun hE => ?_)
    · refine zg_iconst (v := 0) ok dJ28_isPositionIndex_16 (by decide) ?_
      exact zg_zret ok fin dJ28_isPositionIndex_17 ⟨Nat.le_of_ble_eq_true rfl, Nat.le_of_ble_eq_true rfl⟩ rfl hE
    · refine zg_iconst (v := 1) ok dJ28_isPositionIndex_12 (by decide) ?_
      refine zg_goto (tgt := 17) ok dJ28_isPositionIndex_13 (by decide) ?_
      exact zg_zret ok fin dJ28_isPositionIndex_17 ⟨Nat.le_of_ble_eq_true rfl, Nat.le_of_ble_eq_true rfl⟩ rfl hE
set_option maxHeartbeats 8000000 in
theorem mt_J28_checkPositionIndex {l : Launch} (hl : l.stackTraces = false) {Z : zw_Z} {a0 : Option Nat} {a1 : Int32} {h : zw_H} {Q : zw_H → Prop} {X : String → Nat → zw_H → Prop} (hE : f_J28_checkPositionIndex Z.2.2.2 a0 a1 h Q X) : zw_Met l Z yJ28_checkPositionIndex (ws_ yJ28_checkPositionIndex cJ28_checkPositionIndex 2 (Option.none : Option Jvm.ClassFile.FieldType)) rm_J28_checkPositionIndex [zA a0, zI a1] h (zq_V Q) X := by
  refine zg_start (own := "java/util/LinkedList") (by decide +kernel) rfl (Nat.le_of_ble_eq_true rfl) hl (fun Xc ok tab fin hRm hXl hXZ => ?_)
  subst hXl
  subst hXZ
  unfold f_J28_checkPositionIndex at hE
  refine zg_aload_n ok dJ28_checkPositionIndex_0 rfl 0 rfl ?_
  refine zg_iload_n ok dJ28_checkPositionIndex_1 rfl 1 rfl ?_
  refine zg_callV (vs := [zI a1]) (rest := []) (rm := rm_J28_isPositionIndex) ok hRm lk_J28_128 dJ28_checkPositionIndex_2 hE (fun hE => mt_J28_isPositionIndex hl hE) rfl (Nat.le_of_ble_eq_true rfl) ⟨⟨Nat.le_of_ble_eq_true rfl, Nat.le_of_ble_eq_true rfl⟩, Nat.le_of_ble_eq_true rfl, Nat.le_of_ble_eq_true rfl⟩ (zg_retI (fun v1 h1 hE => ?_)) (zg_xok ok tab fin ⟨Nat.le_of_ble_eq_true rfl, Nat.le_of_ble_eq_true rfl⟩)
  refine zg_cost (kc2 := 0) (ks2 := 0) ⟨rfl, rfl⟩ ?_
  refine zg_if_ne (tgt := 21) ok dJ28_checkPositionIndex_5 (by decide) hE (fun hE => ?_) (fun hE => ?_)
  · exact zg_vret ok fin dJ28_checkPositionIndex_21 ⟨Nat.le_of_ble_eq_true rfl, Nat.le_of_ble_eq_true rfl⟩ hE
  · exact hE.elim
set_option maxHeartbeats 8000000 in
theorem gt_f_J28_node_B47 {Xc : zw_X} {Q : Option Nat → zw_H → Prop} {X : String → Nat → zw_H → Prop} (hl : (zw_l Xc).stackTraces = false) (ok : zw_ok Xc cJ28_node "java/util/LinkedList" yJ28_node.name 4) (tab : zw_tab Xc []) (fin : zw_fin Xc (Option.some (Jvm.ClassFile.FieldType.object "java/util/LinkedList$Node")) (zq_A Q) X 0 0) (hRm : zw_rm Xc = rm_J28_node) {kc ks : Nat} (hb : kc ≤ 0 ∧ ks ≤ 0) {R : Option Nat → Int32 → zw_H → Prop} {l1 : Int32} (hR : ∀ (l2 : Option Nat) (l3 : Int32) (h : zw_H), R l2 l3 h → zw_G Xc kc ks 4 h 47 [(1, .int l1), (2, va_rf l2), (3, .int l3)] []) {k63 : Option Nat → zw_H → Prop} (hk63 : ∀ (l2 : Option Nat) (h : zw_H), k63 l2 h → zw_G Xc kc ks 4 h 63 [(2, va_rf l2)] [])  {l2 : Option Nat} {l3 : Int32} {h : zw_H} (hE : f_J28_node_B47 (zw_Zf Xc).2.2.2 Q X k63 l1 R l2 l3 h) : zw_G Xc kc ks 4 h 47 [(1, .int l1), (2, va_rf l2), (3, .int l3)] [] := by
  unfold f_J28_node_B47 at hE
  refine zg_iload_n ok dJ28_node_47 rfl 2 rfl ?_
  refine zg_iload_n ok dJ28_node_48 rfl 0 rfl ?_
  refine zg_icmp_le (tgt := 63) ok dJ28_node_49 (by decide) hE (fun hE => ?_) (fun hE => ?_)
  · refine zg_sub (L' := [(2, va_rf l2)]) [1] rfl ?_
    exact hk63 _ _ hE
  · refine zg_aload_n ok dJ28_node_52 rfl 1 rfl ?_
    refine zg_getA ok lf_J28_30 dJ28_node_53 hE (fun v5 hE => ?_)
    refine zg_astore_n (L' := [(2, va_rf v5), (1, .int l1), (3, .int l3)]) ok dJ28_node_56 rfl (by decide) rfl ?_
    refine zg_iincLR (k := 2) (L' := fun v6 => [(3, .int v6), (2, va_rf v5), (1, .int l1)]) ok dJ28_node_57 (by decide +kernel) hE rfl (by decide) rfl (k9 := 0) rfl (fun _ => rfl) (fun v6 hE => ?_)
    refine zg_goto (tgt := 47) ok dJ28_node_60 (by decide) ?_
    refine zg_sub (L' := [(1, .int l1), (2, va_rf v5), (3, .int v6)]) [2, 1, 0] rfl ?_
    exact hR _ _ _ hE
theorem gt_f_J28_node_L47 {Xc : zw_X} {Q : Option Nat → zw_H → Prop} {X : String → Nat → zw_H → Prop} (hl : (zw_l Xc).stackTraces = false) (ok : zw_ok Xc cJ28_node "java/util/LinkedList" yJ28_node.name 4) (tab : zw_tab Xc []) (fin : zw_fin Xc (Option.some (Jvm.ClassFile.FieldType.object "java/util/LinkedList$Node")) (zq_A Q) X 0 0) (hRm : zw_rm Xc = rm_J28_node) {kc ks : Nat} (hb : kc ≤ 0 ∧ ks ≤ 0) {l1 : Int32} {k63 : Option Nat → zw_H → Prop} (hk63 : ∀ (l2 : Option Nat) (h : zw_H), k63 l2 h → zw_G Xc kc ks 4 h 63 [(2, va_rf l2)] [])  : ∀ (n9 : Nat) (l2 : Option Nat) (l3 : Int32) (h : zw_H), zl3 (f_J28_node_B47 (zw_Zf Xc).2.2.2 Q X k63 l1) n9 l2 l3 h → zw_G Xc kc ks 4 h 47 [(1, .int l1), (2, va_rf l2), (3, .int l3)] [] := by
  intro n9
  induction n9 with
  | zero => intro l2 l3 h hE; exact hE.elim
  | succ n9 ih => intro l2 l3 h hE; exact gt_f_J28_node_B47 hl ok tab fin hRm hb ih hk63 hE
set_option maxHeartbeats 8000000 in
theorem gt_f_J28_node_B17 {Xc : zw_X} {Q : Option Nat → zw_H → Prop} {X : String → Nat → zw_H → Prop} (hl : (zw_l Xc).stackTraces = false) (ok : zw_ok Xc cJ28_node "java/util/LinkedList" yJ28_node.name 4) (tab : zw_tab Xc []) (fin : zw_fin Xc (Option.some (Jvm.ClassFile.FieldType.object "java/util/LinkedList$Node")) (zq_A Q) X 0 0) (hRm : zw_rm Xc = rm_J28_node) {kc ks : Nat} (hb : kc ≤ 0 ∧ ks ≤ 0) {R : Option Nat → Int32 → zw_H → Prop} {l1 : Int32} (hR : ∀ (l2 : Option Nat) (l3 : Int32) (h : zw_H), R l2 l3 h → zw_G Xc kc ks 4 h 17 [(1, .int l1), (2, va_rf l2), (3, .int l3)] []) {k33 : Option Nat → zw_H → Prop} (hk33 : ∀ (l2 : Option Nat) (h : zw_H), k33 l2 h → zw_G Xc kc ks 4 h 33 [(2, va_rf l2)] [])  {l2 : Option Nat} {l3 : Int32} {h : zw_H} (hE : f_J28_node_B17 (zw_Zf Xc).2.2.2 Q X k33 l1 R l2 l3 h) : zw_G Xc kc ks 4 h 17 [(1, .int l1), (2, va_rf l2), (3, .int l3)] [] := by
  unfold f_J28_node_B17 at hE
  refine zg_iload_n ok dJ28_node_17 rfl 2 rfl ?_
  refine zg_iload_n ok dJ28_node_18 rfl 0 rfl ?_
  refine zg_icmp_ge (tgt := 33) ok dJ28_node_19 (by decide) hE (fun hE => ?_) (fun hE => ?_)
  · refine zg_sub (L' := [(2, va_rf l2)]) [1] rfl ?_
    exact hk33 _ _ hE
  · refine zg_aload_n ok dJ28_node_22 rfl 1 rfl ?_
    refine zg_getA ok lf_J28_36 dJ28_node_23 hE (fun v9 hE => ?_)
    refine zg_astore_n (L' := [(2, va_rf v9), (1, .int l1), (3, .int l3)]) ok dJ28_node_26 rfl (by decide) rfl ?_
    refine zg_iincLR (k := 2) (L' := fun v10 => [(3, .int v10), (2, va_rf v9), (1, .int l1)]) ok dJ28_node_27 (by decide +kernel) hE rfl (by decide) rfl (k9 := 0) rfl (fun _ => rfl) (fun v10 hE => ?_)
    refine zg_goto (tgt := 17) ok dJ28_node_30 (by decide) ?_
    refine zg_sub (L' := [(1, .int l1), (2, va_rf v9), (3, .int v10)]) [2, 1, 0] rfl ?_
    exact hR _ _ _ hE
theorem gt_f_J28_node_L17 {Xc : zw_X} {Q : Option Nat → zw_H → Prop} {X : String → Nat → zw_H → Prop} (hl : (zw_l Xc).stackTraces = false) (ok : zw_ok Xc cJ28_node "java/util/LinkedList" yJ28_node.name 4) (tab : zw_tab Xc []) (fin : zw_fin Xc (Option.some (Jvm.ClassFile.FieldType.object "java/util/LinkedList$Node")) (zq_A Q) X 0 0) (hRm : zw_rm Xc = rm_J28_node) {kc ks : Nat} (hb : kc ≤ 0 ∧ ks ≤ 0) {l1 : Int32} {k33 : Option Nat → zw_H → Prop} (hk33 : ∀ (l2 : Option Nat) (h : zw_H), k33 l2 h → zw_G Xc kc ks 4 h 33 [(2, va_rf l2)] [])  : ∀ (n9 : Nat) (l2 : Option Nat) (l3 : Int32) (h : zw_H), zl3 (f_J28_node_B17 (zw_Zf Xc).2.2.2 Q X k33 l1) n9 l2 l3 h → zw_G Xc kc ks 4 h 17 [(1, .int l1), (2, va_rf l2), (3, .int l3)] [] := by
  intro n9
  induction n9 with
  | zero => intro l2 l3 h hE; exact hE.elim
  | succ n9 ih => intro l2 l3 h hE; exact gt_f_J28_node_B17 hl ok tab fin hRm hb ih hk33 hE
set_option maxHeartbeats 8000000 in
theorem mt_J28_node {l : Launch} (hl : l.stackTraces = false) {Z : zw_Z} {a0 : Option Nat} {a1 : Int32} {h : zw_H} {Q : Option Nat → zw_H → Prop} {X : String → Nat → zw_H → Prop} (hE : f_J28_node Z.2.2.2 a0 a1 h Q X) : zw_Met l Z yJ28_node (ws_ yJ28_node cJ28_node 4 (Option.some (Jvm.ClassFile.FieldType.object "java/util/LinkedList$Node"))) rm_J28_node [zA a0, zI a1] h (zq_A Q) X := by
  refine zg_start (own := "java/util/LinkedList") (by decide +kernel) rfl (Nat.le_of_ble_eq_true rfl) hl (fun Xc ok tab fin hRm hXl hXZ => ?_)
  subst hXl
  subst hXZ
  unfold f_J28_node at hE
  refine zg_iload_n ok dJ28_node_0 rfl 1 rfl ?_
  refine zg_aload_n ok dJ28_node_1 rfl 0 rfl ?_
  refine zg_getI ok lf_J28_7 dJ28_node_2 hE (fun v1 hE => ?_)
  refine zg_iconst (v := 1) ok dJ28_node_5 (by decide) ?_
  refine zg_ishr ok dJ28_node_6 ?_
  refine zg_icmp_ge (tgt := 35) ok dJ28_node_7 (by decide) hE (fun hE => ?_) (fun hE => ?_)
  · refine zg_aload_n ok dJ28_node_35 rfl 0 rfl ?_
    refine zg_getA ok lf_J28_27 dJ28_node_36 hE (fun v2 hE => ?_)
    refine zg_astore_n (L' := [(2, va_rf v2), (0, va_rf a0), (1, .int a1)]) ok dJ28_node_39 rfl (by decide) rfl ?_
    refine zg_aload_n ok dJ28_node_40 rfl 1 rfl ?_
    refine zg_getI ok lf_J28_7 dJ28_node_41 hE (fun v3 hE => ?_)
    refine zg_iconst (v := 1) ok dJ28_node_44 (by decide) ?_
    refine zg_isub ok dJ28_node_45 ?_
    refine zg_letI hE (fun v4 hE => ?_)
    refine zg_istore_nR (L' := [(3, .int v4), (2, va_rf v2), (0, va_rf a0), (1, .int a1)]) ok dJ28_node_46 rfl (by decide) 0 rfl rfl rfl ?_
    refine zg_sub (L' := [(1, .int a1), (2, va_rf v2), (3, .int v4)]) [3, 1, 0] rfl ?_
    refine gt_f_J28_node_L47 hl ok tab fin hRm ⟨Nat.le_of_ble_eq_true rfl, Nat.le_of_ble_eq_true rfl⟩ ?_ _ _ _ _ hE
    · intro v7 h1 hE
      refine zg_aload_n ok dJ28_node_63 rfl 0 rfl ?_
      exact zg_aret ok fin (Or.inl ⟨_, rfl⟩) dJ28_node_64 ⟨Nat.le_of_ble_eq_true rfl, Nat.le_of_ble_eq_true rfl⟩ hE
  · refine zg_aload_n ok dJ28_node_10 rfl 0 rfl ?_
    refine zg_getA ok lf_J28_18 dJ28_node_11 hE (fun v8 hE => ?_)
    refine zg_astore_n (L' := [(2, va_rf v8), (0, va_rf a0), (1, .int a1)]) ok dJ28_node_14 rfl (by decide) rfl ?_
    refine zg_iconst (v := 0) ok dJ28_node_15 (by decide) ?_
    refine zg_istore_nR (L' := [(3, .int 0), (2, va_rf v8), (0, va_rf a0), (1, .int a1)]) ok dJ28_node_16 rfl (by decide) 0 rfl rfl rfl ?_
    refine zg_sub (L' := [(1, .int a1), (2, va_rf v8), (3, .int 0)]) [3, 1, 0] rfl ?_
    refine gt_f_J28_node_L17 hl ok tab fin hRm ⟨Nat.le_of_ble_eq_true rfl, Nat.le_of_ble_eq_true rfl⟩ ?_ _ _ _ _ hE
    · intro v11 h2 hE
      refine zg_aload_n ok dJ28_node_33 rfl 0 rfl ?_
      exact zg_aret ok fin (Or.inl ⟨_, rfl⟩) dJ28_node_34 ⟨Nat.le_of_ble_eq_true rfl, Nat.le_of_ble_eq_true rfl⟩ hE
set_option maxHeartbeats 8000000 in
theorem gt_f_J32_init_J38 {Xc : zw_X} {Q : zw_H → Prop} {X : String → Nat → zw_H → Prop} (hl : (zw_l Xc).stackTraces = false) (ok : zw_ok Xc cJ32_init "java/util/LinkedList$ListItr" yJ32_init.name 3) (tab : zw_tab Xc []) (fin : zw_fin Xc (Option.none : Option Jvm.ClassFile.FieldType) (zq_V Q) X 0 0) (hRm : zw_rm Xc = rm_J32_init)  {l0 : Option Nat} {l2 : Int32} {s0 : Option Nat} {s1 : Option Nat} {h : zw_H} (hE : f_J32_init_J38 (zw_Zf Xc).2.2.2 Q X  l0 l2 s0 s1 h) : zw_G Xc 0 0 3 h 38 [(0, va_rf l0), (2, .int l2)] [va_rf s0, va_rf s1] := by
  unfold f_J32_init_J38 at hE
  refine zg_put (ty := (.object "java/util/LinkedList$Node")) ok lf_J32_29 (Or.inl rfl) (by decide) (by decide +kernel) (zw_nrO _ _) (zw_frO _ _) dJ32_init_38 hE (fun h4 hE => ?_)
  refine zg_aload_n ok dJ32_init_41 rfl 0 rfl ?_
  refine zg_iload_n ok dJ32_init_42 rfl 1 rfl ?_
  refine zg_put (ty := .int) ok lf_J32_33 (Or.inl rfl) (by decide) (by decide +kernel) rfl rfl dJ32_init_43 hE (fun h5 hE => ?_)
  exact zg_vret ok fin dJ32_init_46 ⟨Nat.le_of_ble_eq_true rfl, Nat.le_of_ble_eq_true rfl⟩ hE
set_option maxHeartbeats 8000000 in
theorem mt_J32_init {l : Launch} (hl : l.stackTraces = false) {Z : zw_Z} {a0 : Option Nat} {a1 : Option Nat} {a2 : Int32} {h : zw_H} {Q : zw_H → Prop} {X : String → Nat → zw_H → Prop} (hE : f_J32_init Z.2.2.2 a0 a1 a2 h Q X) : zw_Met l Z yJ32_init (ws_ yJ32_init cJ32_init 3 (Option.none : Option Jvm.ClassFile.FieldType)) rm_J32_init [zA a0, zA a1, zI a2] h (zq_V Q) X := by
  refine zg_start (own := "java/util/LinkedList$ListItr") (by decide +kernel) rfl (Nat.le_of_ble_eq_true rfl) hl (fun Xc ok tab fin hRm hXl hXZ => ?_)
  subst hXl
  subst hXZ
  unfold f_J32_init at hE
  refine zg_aload_n ok dJ32_init_0 rfl 0 rfl ?_
  refine zg_aload_n ok dJ32_init_1 rfl 1 rfl ?_
  refine zg_put (ty := (.object "java/util/LinkedList")) ok lf_J32_1 (Or.inr ⟨rfl, rfl, rfl, "java/util/LinkedList$ListItr", q1557, Or.inl rfl⟩) (by decide) (by decide +kernel) (zw_nrO _ _) (zw_frO _ _) dJ32_init_2 hE (fun h1 hE => ?_)
  refine zg_aload_n ok dJ32_init_5 rfl 0 rfl ?_
  refine zg_objInitE (rest := []) ok hRm q1551 ⟨Nat.le_of_ble_eq_true rfl, Nat.le_of_ble_eq_true rfl⟩ (Nat.le_of_ble_eq_true rfl) dJ32_init_6 hE (fun hE => ?_)
  refine zg_aload_n ok dJ32_init_9 rfl 0 rfl ?_
  refine zg_aload_n ok dJ32_init_10 rfl 0 rfl ?_
  refine zg_getA ok lf_J32_1 dJ32_init_11 hE (fun v1 hE => ?_)
  refine zg_getI ok lf_J32_13 dJ32_init_14 hE (fun v2 hE => ?_)
  refine zg_put (ty := .int) ok lf_J32_19 (Or.inl rfl) (by decide) (by decide +kernel) rfl rfl dJ32_init_17 hE (fun h2 hE => ?_)
  refine zg_aload_n ok dJ32_init_20 rfl 0 rfl ?_
  refine zg_iload_n ok dJ32_init_21 rfl 2 rfl ?_
  refine zg_aload_n ok dJ32_init_22 rfl 1 rfl ?_
  refine zg_getI ok lf_J32_22 dJ32_init_23 hE (fun v3 hE => ?_)
  refine zg_icmp_ne (tgt := 33) ok dJ32_init_26 (by decide) hE (fun hE => ?_) (fun hE => ?_)
  · refine zg_aload_n ok dJ32_init_33 rfl 1 rfl ?_
    refine zg_iload_n ok dJ32_init_34 rfl 2 rfl ?_
    refine zg_callV (vs := [zI a2]) (rest := [va_rf a0]) (rm := rm_J28_node) ok hRm lk_J32_25 dJ32_init_35 hE (fun hE => mt_J28_node hl hE) rfl (Nat.le_of_ble_eq_true rfl) ⟨⟨Nat.le_of_ble_eq_true rfl, Nat.le_of_ble_eq_true rfl⟩, Nat.le_of_ble_eq_true rfl, Nat.le_of_ble_eq_true rfl⟩ (zg_retA (fun v4 h3 hE => ?_)) (zg_xok ok tab fin ⟨Nat.le_of_ble_eq_true rfl, Nat.le_of_ble_eq_true rfl⟩)
    refine zg_cost (kc2 := 0) (ks2 := 0) ⟨rfl, rfl⟩ ?_
    refine zg_sub (L' := [(0, va_rf a0), (2, .int a2)]) [0, 2] rfl ?_
    exact gt_f_J32_init_J38 hl ok tab fin hRm  hE
  · refine zg_null ok dJ32_init_29 ?_
    refine zg_goto (tgt := 38) ok dJ32_init_30 (by decide) ?_
    refine zg_sub (L' := [(0, va_rf a0), (2, .int a2)]) [0, 2] rfl ?_
    exact gt_f_J32_init_J38 hl ok tab fin hRm  hE
set_option maxHeartbeats 8000000 in
theorem mt_J28_listIterator {l : Launch} (hl : l.stackTraces = false) {Z : zw_Z} {a0 : Option Nat} {a1 : Int32} {h : zw_H} {Q : Option Nat → zw_H → Prop} {X : String → Nat → zw_H → Prop} (hE : f_J28_listIterator Z.2.2.2 a0 a1 h Q X) : zw_Met l Z yJ28_listIterator (ws_ yJ28_listIterator cJ28_listIterator 2 (Option.some (Jvm.ClassFile.FieldType.object "java/util/ListIterator"))) rm_J28_listIterator [zA a0, zI a1] h (zq_A Q) X := by
  refine zg_start (own := "java/util/LinkedList") (by decide +kernel) rfl (Nat.le_of_ble_eq_true rfl) hl (fun Xc ok tab fin hRm hXl hXZ => ?_)
  subst hXl
  subst hXZ
  unfold f_J28_listIterator at hE
  refine zg_aload_n ok dJ28_listIterator_0 rfl 0 rfl ?_
  refine zg_iload_n ok dJ28_listIterator_1 rfl 1 rfl ?_
  refine zg_callV (vs := [zI a1]) (rest := []) (rm := rm_J28_checkPositionIndex) ok hRm lk_J28_76 dJ28_listIterator_2 hE (fun hE => mt_J28_checkPositionIndex hl hE) rfl (Nat.le_of_ble_eq_true rfl) ⟨⟨Nat.le_of_ble_eq_true rfl, Nat.le_of_ble_eq_true rfl⟩, Nat.le_of_ble_eq_true rfl, Nat.le_of_ble_eq_true rfl⟩ (zg_retV (fun h1 hE => ?_)) (zg_xok ok tab fin ⟨Nat.le_of_ble_eq_true rfl, Nat.le_of_ble_eq_true rfl⟩)
  refine zg_cost (kc2 := 0) (ks2 := 0) ⟨rfl, rfl⟩ ?_
  refine zg_new ok ln_J28_150 (by rw [hRm]; exact ⟨Nat.le_of_ble_eq_true rfl, Nat.le_of_ble_eq_true rfl⟩) dJ28_listIterator_5 hE (fun v1 h2 hE => ?_)
  refine zg_cost (kc2 := 1) (ks2 := 5) ⟨rfl, rfl⟩ ?_
  refine zg_dup ok dJ28_listIterator_8 (zw_rfc _) ?_
  refine zg_aload_n ok dJ28_listIterator_9 rfl 0 rfl ?_
  refine zg_iload_n ok dJ28_listIterator_10 rfl 1 rfl ?_
  refine zg_callI (vs := [zA a0, zI a1]) (rest := [va_rf (some v1)]) (rm := rm_J32_init) ok hRm lk_J28_152 dJ28_listIterator_11 (by simp) hE (fun hE => mt_J32_init hl hE) rfl (Nat.le_of_ble_eq_true rfl) ⟨⟨Nat.le_of_ble_eq_true rfl, Nat.le_of_ble_eq_true rfl⟩, Nat.le_of_ble_eq_true rfl, Nat.le_of_ble_eq_true rfl⟩ (zg_retV (fun h3 hE => ?_)) (zg_xok ok tab fin ⟨Nat.le_of_ble_eq_true rfl, Nat.le_of_ble_eq_true rfl⟩)
  refine zg_cost (kc2 := 1) (ks2 := 5) ⟨rfl, rfl⟩ ?_
  exact zg_aret ok fin (Or.inl ⟨_, rfl⟩) dJ28_listIterator_14 ⟨Nat.le_of_ble_eq_true rfl, Nat.le_of_ble_eq_true rfl⟩ hE
set_option maxHeartbeats 8000000 in
theorem mt_J11_listIterator {l : Launch} (hl : l.stackTraces = false) {Z : zw_Z} {a0 : Option Nat} {h : zw_H} {Q : Option Nat → zw_H → Prop} {X : String → Nat → zw_H → Prop} (hE : f_J11_listIterator Z.2.2.2 a0 h Q X) : zw_Met l Z yJ11_listIterator (ws_ yJ11_listIterator cJ11_listIterator 1 (Option.some (Jvm.ClassFile.FieldType.object "java/util/ListIterator"))) rm_J11_listIterator [zA a0] h (zq_A Q) X := by
  refine zg_start (own := "java/util/AbstractList") (by decide +kernel) rfl (Nat.le_of_ble_eq_true rfl) hl (fun Xc ok tab fin hRm hXl hXZ => ?_)
  subst hXl
  subst hXZ
  unfold f_J11_listIterator at hE
  refine zg_aload_n ok dJ11_listIterator_0 rfl 0 rfl ?_
  refine zg_iconst (v := 0) ok dJ11_listIterator_1 (by decide) ?_
  rcases od_some hE with ⟨a9, hr9, hE⟩ | ⟨a9, hr9, hE⟩
  · refine zg_callU (vs := [zI 0]) (rest := []) (rm := rm_J12_listIterator) ok hRm lk_J11_47_9 dJ11_listIterator_2 hE (fun hE => mt_J12_listIterator hl hE) rfl (Nat.le_of_ble_eq_true rfl) ⟨⟨Nat.le_of_ble_eq_true rfl, Nat.le_of_ble_eq_true rfl⟩, Nat.le_of_ble_eq_true rfl, Nat.le_of_ble_eq_true rfl⟩ (zg_retA (fun v1 h1 hE => ?_)) (zg_xok ok tab fin ⟨Nat.le_of_ble_eq_true rfl, Nat.le_of_ble_eq_true rfl⟩)
    refine zg_wide (kc2 := 1) (ks2 := 5) (Nat.le_of_ble_eq_true rfl) (Nat.le_of_ble_eq_true rfl) ?_
    exact zg_aret ok fin (Or.inl ⟨_, rfl⟩) dJ11_listIterator_5 ⟨Nat.le_of_ble_eq_true rfl, Nat.le_of_ble_eq_true rfl⟩ hE
  · refine zg_callU (vs := [zI 0]) (rest := []) (rm := rm_J28_listIterator) ok hRm lk_J11_47_14 dJ11_listIterator_2 hE (fun hE => mt_J28_listIterator hl hE) rfl (Nat.le_of_ble_eq_true rfl) ⟨⟨Nat.le_of_ble_eq_true rfl, Nat.le_of_ble_eq_true rfl⟩, Nat.le_of_ble_eq_true rfl, Nat.le_of_ble_eq_true rfl⟩ (zg_retA (fun v1 h1 hE => ?_)) (zg_xok ok tab fin ⟨Nat.le_of_ble_eq_true rfl, Nat.le_of_ble_eq_true rfl⟩)
    refine zg_wide (kc2 := 1) (ks2 := 5) (Nat.le_of_ble_eq_true rfl) (Nat.le_of_ble_eq_true rfl) ?_
    exact zg_aret ok fin (Or.inl ⟨_, rfl⟩) dJ11_listIterator_5 ⟨Nat.le_of_ble_eq_true rfl, Nat.le_of_ble_eq_true rfl⟩ hE
set_option maxHeartbeats 8000000 in
theorem mt_J27_iterator {l : Launch} (hl : l.stackTraces = false) {Z : zw_Z} {a0 : Option Nat} {h : zw_H} {Q : Option Nat → zw_H → Prop} {X : String → Nat → zw_H → Prop} (hE : f_J27_iterator Z.2.2.2 a0 h Q X) : zw_Met l Z yJ27_iterator (ws_ yJ27_iterator cJ27_iterator 1 (Option.some (Jvm.ClassFile.FieldType.object "java/util/Iterator"))) rm_J27_iterator [zA a0] h (zq_A Q) X := by
  refine zg_start (own := "java/util/AbstractSequentialList") (by decide +kernel) rfl (Nat.le_of_ble_eq_true rfl) hl (fun Xc ok tab fin hRm hXl hXZ => ?_)
  subst hXl
  subst hXZ
  unfold f_J27_iterator at hE
  refine zg_aload_n ok dJ27_iterator_0 rfl 0 rfl ?_
  refine zg_callU (vs := []) (rest := []) (rm := rm_J11_listIterator) ok hRm lk_J27_65 dJ27_iterator_1 hE (fun hE => mt_J11_listIterator hl hE) rfl (Nat.le_of_ble_eq_true rfl) ⟨⟨Nat.le_of_ble_eq_true rfl, Nat.le_of_ble_eq_true rfl⟩, Nat.le_of_ble_eq_true rfl, Nat.le_of_ble_eq_true rfl⟩ (zg_retA (fun v1 h1 hE => ?_)) (zg_xok ok tab fin ⟨Nat.le_of_ble_eq_true rfl, Nat.le_of_ble_eq_true rfl⟩)
  refine zg_cost (kc2 := 1) (ks2 := 5) ⟨rfl, rfl⟩ ?_
  exact zg_aret ok fin (Or.inl ⟨_, rfl⟩) dJ27_iterator_4 ⟨Nat.le_of_ble_eq_true rfl, Nat.le_of_ble_eq_true rfl⟩ hE
set_option maxHeartbeats 8000000 in
theorem mt_J32_hasNext {l : Launch} (hl : l.stackTraces = false) {Z : zw_Z} {a0 : Option Nat} {h : zw_H} {Q : Int32 → zw_H → Prop} {X : String → Nat → zw_H → Prop} (hE : f_J32_hasNext Z.2.2.2 a0 h Q X) : zw_Met l Z yJ32_hasNext (ws_ yJ32_hasNext cJ32_hasNext 1 (Option.some Jvm.ClassFile.FieldType.boolean)) rm_J32_hasNext [zA a0] h (zq_I Q) X := by
  refine zg_start (own := "java/util/LinkedList$ListItr") (by decide +kernel) rfl (Nat.le_of_ble_eq_true rfl) hl (fun Xc ok tab fin hRm hXl hXZ => ?_)
  subst hXl
  subst hXZ
  unfold f_J32_hasNext at hE
  refine zg_aload_n ok dJ32_hasNext_0 rfl 0 rfl ?_
  refine zg_getI ok lf_J32_33 dJ32_hasNext_1 hE (fun v1 hE => ?_)
  refine zg_aload_n ok dJ32_hasNext_4 rfl 0 rfl ?_
  refine zg_getA ok lf_J32_1 dJ32_hasNext_5 hE (fun v2 hE => ?_)
  refine zg_getI ok lf_J32_22 dJ32_hasNext_8 hE (fun v3 hE => ?_)
  refine zg_icmp_ge (tgt := 18) ok dJ32_hasNext_11 (by decide) hE (fun hE => ?_) (fun hE => ?_)
  · refine zg_iconst (v := 0) ok dJ32_hasNext_18 (by decide) ?_
    exact zg_zret ok fin dJ32_hasNext_19 ⟨Nat.le_of_ble_eq_true rfl, Nat.le_of_ble_eq_true rfl⟩ rfl hE
  · refine zg_iconst (v := 1) ok dJ32_hasNext_14 (by decide) ?_
    refine zg_goto (tgt := 19) ok dJ32_hasNext_15 (by decide) ?_
    exact zg_zret ok fin dJ32_hasNext_19 ⟨Nat.le_of_ble_eq_true rfl, Nat.le_of_ble_eq_true rfl⟩ rfl hE
