set_option maxRecDepth 100000
set_option maxHeartbeats 8000000 in
theorem mt_X0_movesIn {l : Launch} (hl : l.stackTraces = false) {Z : zw_Z} {a0 : Option Nat} {a1 : Int32} {a2 : Option Nat} {h : zw_H} {Q : Int32 → zw_H → Prop} {X : String → Nat → zw_H → Prop} (hE : f_X0_movesIn Z.2.2.2 a0 a1 a2 h Q X) : zw_Met l Z yX0_movesIn (wsW_ yX0_movesIn cX0_movesIn 4 (Option.some Jvm.ClassFile.FieldType.int) [((0 : Nat), (9 : Nat), (12 : Nat), (20 : Nat)), ((0 : Nat), (9 : Nat), (15 : Nat), (15 : Nat))]) rm_X0_movesIn [zA a0, zI a1, zA a2] h (zq_I Q) X := by
  refine zg_startW (own := "MultipoleLineLaw") (by decide +kernel) rfl (Nat.le_of_ble_eq_true rfl) hl (fun Xc ok tab fin hRm hXl hXZ => ?_)
  subst hXl
  subst hXZ
  unfold f_X0_movesIn at hE
  refine zg_aload_n ok dX0_movesIn_0 rfl 2 rfl ?_
  refine zg_iconst (v := 0) ok dX0_movesIn_1 (by decide) ?_
  refine zg_aload_n ok dX0_movesIn_2 rfl 0 rfl ?_
  refine zg_iload_n ok dX0_movesIn_3 rfl 1 rfl ?_
  refine zg_callV (vs := [zI a1]) (rest := [.int 0, va_rf a2]) (rm := rm_X1_movesIn) ok hRm lk_X0_125 dX0_movesIn_4 hE (fun hE => mt_X1_movesIn hl hE) rfl (Nat.le_of_ble_eq_true rfl) ⟨⟨Nat.le_of_ble_eq_true rfl, Nat.le_of_ble_eq_true rfl⟩, Nat.le_of_ble_eq_true rfl, Nat.le_of_ble_eq_true rfl⟩ (zg_retI (fun v1 h1 hE => ?_)) (fun E9 q9 h9 hE => ?_)
  · refine zg_cost (kc2 := 295) (ks2 := 2369) ⟨rfl, rfl⟩ ?_
    refine zg_i2l ok dX0_movesIn_7 ?_
    refine zg_last ok dX0_movesIn_8 hE (fun h2 hE => ?_)
    refine zg_goto (tgt := 18) ok dX0_movesIn_9 (by decide) ?_
    refine zg_iconst (v := 0) ok dX0_movesIn_18 (by decide) ?_
    exact zg_iret ok fin dX0_movesIn_19 ⟨Nat.le_of_ble_eq_true rfl, Nat.le_of_ble_eq_true rfl⟩ hE
  · by_cases c9 : E9 = "java/lang/IllegalStateException"
    · rw [if_pos c9] at hE
      subst c9
      refine zg_catch ok tab ((tableOf [((0 : Nat), (9 : Nat), (12 : Nat), (20 : Nat)), ((0 : Nat), (9 : Nat), (15 : Nat), (15 : Nat))]).take 0) ((tableOf [((0 : Nat), (9 : Nat), (12 : Nat), (20 : Nat)), ((0 : Nat), (9 : Nat), (15 : Nat), (15 : Nat))])[0]) ((tableOf [((0 : Nat), (9 : Nat), (12 : Nat), (20 : Nat)), ((0 : Nat), (9 : Nat), (15 : Nat), (15 : Nat))]).drop 1) rfl (fun z hz => by cases hz) (by decide +kernel) (by decide) q1112 q1126 ?_
      refine zg_astore_nR (L' := [(3, va_rf (some q9)), (0, va_rf a0), (1, .int a1), (2, va_rf a2)]) ok dX0_movesIn_12 rfl (by decide) 2 rfl rfl rfl ?_
      refine zg_iconst (v := 1) ok dX0_movesIn_13 (by decide) ?_
      exact zg_iret ok fin dX0_movesIn_14 ⟨Nat.le_of_ble_eq_true rfl, Nat.le_of_ble_eq_true rfl⟩ hE
    rw [if_neg c9] at hE
    by_cases c9 : E9 = "java/lang/IllegalArgumentException"
    · rw [if_pos c9] at hE
      subst c9
      refine zg_catch ok tab ((tableOf [((0 : Nat), (9 : Nat), (12 : Nat), (20 : Nat)), ((0 : Nat), (9 : Nat), (15 : Nat), (15 : Nat))]).take 1) ((tableOf [((0 : Nat), (9 : Nat), (12 : Nat), (20 : Nat)), ((0 : Nat), (9 : Nat), (15 : Nat), (15 : Nat))])[1]) ((tableOf [((0 : Nat), (9 : Nat), (12 : Nat), (20 : Nat)), ((0 : Nat), (9 : Nat), (15 : Nat), (15 : Nat))]).drop 2) rfl (by
          intro z hz
          cases hz with
          | head => exact Or.inr ⟨by decide, "java/lang/IllegalStateException", q1112, List.mem_of_getElem? (i := 5) rfl⟩
          | tail _ hz =>
            cases hz) (by decide +kernel) (by decide) q354 q652 ?_
      refine zg_astore_nR (L' := [(3, va_rf (some q9)), (0, va_rf a0), (1, .int a1), (2, va_rf a2)]) ok dX0_movesIn_15 rfl (by decide) 2 rfl rfl rfl ?_
      refine zg_iconst (v := 2) ok dX0_movesIn_16 (by decide) ?_
      exact zg_iret ok fin dX0_movesIn_17 ⟨Nat.le_of_ble_eq_true rfl, Nat.le_of_ble_eq_true rfl⟩ hE
    rw [if_neg c9] at hE
    exact hE.elim
set_option maxHeartbeats 8000000 in
theorem mt_X0_stillIn {l : Launch} (hl : l.stackTraces = false) {Z : zw_Z} {a0 : Option Nat} {a1 : Option Nat} {h : zw_H} {Q : Int32 → zw_H → Prop} {X : String → Nat → zw_H → Prop} (hE : f_X0_stillIn Z.2.2.2 a0 a1 h Q X) : zw_Met l Z yX0_stillIn (wsW_ yX0_stillIn cX0_stillIn 3 (Option.some Jvm.ClassFile.FieldType.int) [((0 : Nat), (8 : Nat), (11 : Nat), (20 : Nat))]) rm_X0_stillIn [zA a0, zA a1] h (zq_I Q) X := by
  refine zg_startW (own := "MultipoleLineLaw") (by decide +kernel) rfl (Nat.le_of_ble_eq_true rfl) hl (fun Xc ok tab fin hRm hXl hXZ => ?_)
  subst hXl
  subst hXZ
  unfold f_X0_stillIn at hE
  refine zg_aload_n ok dX0_stillIn_0 rfl 1 rfl ?_
  refine zg_iconst (v := 0) ok dX0_stillIn_1 (by decide) ?_
  refine zg_aload_n ok dX0_stillIn_2 rfl 0 rfl ?_
  refine zg_callV (vs := []) (rest := [.int 0, va_rf a1]) (rm := rm_X1_stillIn) ok hRm lk_X0_128 dX0_stillIn_3 hE (fun hE => mt_X1_stillIn hl hE) rfl (Nat.le_of_ble_eq_true rfl) ⟨⟨Nat.le_of_ble_eq_true rfl, Nat.le_of_ble_eq_true rfl⟩, Nat.le_of_ble_eq_true rfl, Nat.le_of_ble_eq_true rfl⟩ (zg_retI (fun v1 h1 hE => ?_)) (fun E9 q9 h9 hE => ?_)
  · refine zg_cost (kc2 := 294) (ks2 := 2363) ⟨rfl, rfl⟩ ?_
    refine zg_i2l ok dX0_stillIn_6 ?_
    refine zg_last ok dX0_stillIn_7 hE (fun h2 hE => ?_)
    refine zg_goto (tgt := 14) ok dX0_stillIn_8 (by decide) ?_
    refine zg_iconst (v := 0) ok dX0_stillIn_14 (by decide) ?_
    exact zg_iret ok fin dX0_stillIn_15 ⟨Nat.le_of_ble_eq_true rfl, Nat.le_of_ble_eq_true rfl⟩ hE
  · by_cases c9 : E9 = "java/lang/IllegalStateException"
    · rw [if_pos c9] at hE
      subst c9
      refine zg_catch ok tab ((tableOf [((0 : Nat), (8 : Nat), (11 : Nat), (20 : Nat))]).take 0) ((tableOf [((0 : Nat), (8 : Nat), (11 : Nat), (20 : Nat))])[0]) ((tableOf [((0 : Nat), (8 : Nat), (11 : Nat), (20 : Nat))]).drop 1) rfl (fun z hz => by cases hz) (by decide +kernel) (by decide) q1112 q1126 ?_
      refine zg_astore_nR (L' := [(2, va_rf (some q9)), (0, va_rf a0), (1, va_rf a1)]) ok dX0_stillIn_11 rfl (by decide) 1 rfl rfl rfl ?_
      refine zg_iconst (v := 1) ok dX0_stillIn_12 (by decide) ?_
      exact zg_iret ok fin dX0_stillIn_13 ⟨Nat.le_of_ble_eq_true rfl, Nat.le_of_ble_eq_true rfl⟩ hE
    rw [if_neg c9] at hE
    exact hE.elim
set_option maxHeartbeats 8000000 in
theorem mt_X0_orderFor {l : Launch} (hl : l.stackTraces = false) {Z : zw_Z} {a0 : Option Nat} {a1 : Int32} {a2 : Int32} {a3 : Option Nat} {h : zw_H} {Q : Int32 → zw_H → Prop} {X : String → Nat → zw_H → Prop} (hE : f_X0_orderFor Z.2.2.2 a0 a1 a2 a3 h Q X) : zw_Met l Z yX0_orderFor (wsW_ yX0_orderFor cX0_orderFor 5 (Option.some Jvm.ClassFile.FieldType.int) [((0 : Nat), (10 : Nat), (13 : Nat), (20 : Nat)), ((0 : Nat), (10 : Nat), (17 : Nat), (15 : Nat))]) rm_X0_orderFor [zA a0, zI a1, zI a2, zA a3] h (zq_I Q) X := by
  refine zg_startW (own := "MultipoleLineLaw") (by decide +kernel) rfl (Nat.le_of_ble_eq_true rfl) hl (fun Xc ok tab fin hRm hXl hXZ => ?_)
  subst hXl
  subst hXZ
  unfold f_X0_orderFor at hE
  refine zg_aload_n ok dX0_orderFor_0 rfl 3 rfl ?_
  refine zg_iconst (v := 0) ok dX0_orderFor_1 (by decide) ?_
  refine zg_aload_n ok dX0_orderFor_2 rfl 0 rfl ?_
  refine zg_iload_n ok dX0_orderFor_3 rfl 1 rfl ?_
  refine zg_iload_n ok dX0_orderFor_4 rfl 2 rfl ?_
  refine zg_callV (vs := [zI a1, zI a2]) (rest := [.int 0, va_rf a3]) (rm := rm_X1_orderFor) ok hRm lk_X0_131 dX0_orderFor_5 hE (fun hE => mt_X1_orderFor hl hE) rfl (Nat.le_of_ble_eq_true rfl) ⟨⟨Nat.le_of_ble_eq_true rfl, Nat.le_of_ble_eq_true rfl⟩, Nat.le_of_ble_eq_true rfl, Nat.le_of_ble_eq_true rfl⟩ (zg_retI (fun v1 h1 hE => ?_)) (fun E9 q9 h9 hE => ?_)
  · refine zg_cost (kc2 := 3) (ks2 := 18) ⟨rfl, rfl⟩ ?_
    refine zg_i2l ok dX0_orderFor_8 ?_
    refine zg_last ok dX0_orderFor_9 hE (fun h2 hE => ?_)
    refine zg_goto (tgt := 21) ok dX0_orderFor_10 (by decide) ?_
    refine zg_iconst (v := 0) ok dX0_orderFor_21 (by decide) ?_
    exact zg_iret ok fin dX0_orderFor_22 ⟨Nat.le_of_ble_eq_true rfl, Nat.le_of_ble_eq_true rfl⟩ hE
  · by_cases c9 : E9 = "java/lang/IllegalStateException"
    · rw [if_pos c9] at hE
      subst c9
      refine zg_catch ok tab ((tableOf [((0 : Nat), (10 : Nat), (13 : Nat), (20 : Nat)), ((0 : Nat), (10 : Nat), (17 : Nat), (15 : Nat))]).take 0) ((tableOf [((0 : Nat), (10 : Nat), (13 : Nat), (20 : Nat)), ((0 : Nat), (10 : Nat), (17 : Nat), (15 : Nat))])[0]) ((tableOf [((0 : Nat), (10 : Nat), (13 : Nat), (20 : Nat)), ((0 : Nat), (10 : Nat), (17 : Nat), (15 : Nat))]).drop 1) rfl (fun z hz => by cases hz) (by decide +kernel) (by decide) q1112 q1126 ?_
      refine zg_astoreR (L' := [(4, va_rf (some q9)), (0, va_rf a0), (1, .int a1), (2, .int a2), (3, va_rf a3)]) ok dX0_orderFor_13 (by decide) 3 rfl rfl rfl ?_
      refine zg_iconst (v := 1) ok dX0_orderFor_15 (by decide) ?_
      exact zg_iret ok fin dX0_orderFor_16 ⟨Nat.le_of_ble_eq_true rfl, Nat.le_of_ble_eq_true rfl⟩ hE
    rw [if_neg c9] at hE
    by_cases c9 : E9 = "java/lang/IllegalArgumentException"
    · rw [if_pos c9] at hE
      subst c9
      refine zg_catch ok tab ((tableOf [((0 : Nat), (10 : Nat), (13 : Nat), (20 : Nat)), ((0 : Nat), (10 : Nat), (17 : Nat), (15 : Nat))]).take 1) ((tableOf [((0 : Nat), (10 : Nat), (13 : Nat), (20 : Nat)), ((0 : Nat), (10 : Nat), (17 : Nat), (15 : Nat))])[1]) ((tableOf [((0 : Nat), (10 : Nat), (13 : Nat), (20 : Nat)), ((0 : Nat), (10 : Nat), (17 : Nat), (15 : Nat))]).drop 2) rfl (by
          intro z hz
          cases hz with
          | head => exact Or.inr ⟨by decide, "java/lang/IllegalStateException", q1112, List.mem_of_getElem? (i := 5) rfl⟩
          | tail _ hz =>
            cases hz) (by decide +kernel) (by decide) q354 q652 ?_
      refine zg_astoreR (L' := [(4, va_rf (some q9)), (0, va_rf a0), (1, .int a1), (2, .int a2), (3, va_rf a3)]) ok dX0_orderFor_17 (by decide) 3 rfl rfl rfl ?_
      refine zg_iconst (v := 2) ok dX0_orderFor_19 (by decide) ?_
      exact zg_iret ok fin dX0_orderFor_20 ⟨Nat.le_of_ble_eq_true rfl, Nat.le_of_ble_eq_true rfl⟩ hE
    rw [if_neg c9] at hE
    exact hE.elim
set_option maxHeartbeats 8000000 in
theorem mt_X0_bestLevels {l : Launch} (hl : l.stackTraces = false) {Z : zw_Z} {a0 : Option Nat} {a1 : Option Nat} {h : zw_H} {Q : Int32 → zw_H → Prop} {X : String → Nat → zw_H → Prop} (hE : f_X0_bestLevels Z.2.2.2 a0 a1 h Q X) : zw_Met l Z yX0_bestLevels (wsW_ yX0_bestLevels cX0_bestLevels 3 (Option.some Jvm.ClassFile.FieldType.int) [((0 : Nat), (8 : Nat), (11 : Nat), (20 : Nat))]) rm_X0_bestLevels [zA a0, zA a1] h (zq_I Q) X := by
  refine zg_startW (own := "MultipoleLineLaw") (by decide +kernel) rfl (Nat.le_of_ble_eq_true rfl) hl (fun Xc ok tab fin hRm hXl hXZ => ?_)
  subst hXl
  subst hXZ
  unfold f_X0_bestLevels at hE
  refine zg_aload_n ok dX0_bestLevels_0 rfl 1 rfl ?_
  refine zg_iconst (v := 0) ok dX0_bestLevels_1 (by decide) ?_
  refine zg_aload_n ok dX0_bestLevels_2 rfl 0 rfl ?_
  refine zg_callV (vs := []) (rest := [.int 0, va_rf a1]) (rm := rm_X1_bestLevels) ok hRm lk_X0_134 dX0_bestLevels_3 hE (fun hE => mt_X1_bestLevels hl hE) rfl (Nat.le_of_ble_eq_true rfl) ⟨⟨Nat.le_of_ble_eq_true rfl, Nat.le_of_ble_eq_true rfl⟩, Nat.le_of_ble_eq_true rfl, Nat.le_of_ble_eq_true rfl⟩ (zg_retI (fun v1 h1 hE => ?_)) (fun E9 q9 h9 hE => ?_)
  · refine zg_cost (kc2 := 1) (ks2 := 6) ⟨rfl, rfl⟩ ?_
    refine zg_i2l ok dX0_bestLevels_6 ?_
    refine zg_last ok dX0_bestLevels_7 hE (fun h2 hE => ?_)
    refine zg_goto (tgt := 14) ok dX0_bestLevels_8 (by decide) ?_
    refine zg_iconst (v := 0) ok dX0_bestLevels_14 (by decide) ?_
    exact zg_iret ok fin dX0_bestLevels_15 ⟨Nat.le_of_ble_eq_true rfl, Nat.le_of_ble_eq_true rfl⟩ hE
  · by_cases c9 : E9 = "java/lang/IllegalStateException"
    · rw [if_pos c9] at hE
      subst c9
      refine zg_catch ok tab ((tableOf [((0 : Nat), (8 : Nat), (11 : Nat), (20 : Nat))]).take 0) ((tableOf [((0 : Nat), (8 : Nat), (11 : Nat), (20 : Nat))])[0]) ((tableOf [((0 : Nat), (8 : Nat), (11 : Nat), (20 : Nat))]).drop 1) rfl (fun z hz => by cases hz) (by decide +kernel) (by decide) q1112 q1126 ?_
      refine zg_astore_nR (L' := [(2, va_rf (some q9)), (0, va_rf a0), (1, va_rf a1)]) ok dX0_bestLevels_11 rfl (by decide) 1 rfl rfl rfl ?_
      refine zg_iconst (v := 1) ok dX0_bestLevels_12 (by decide) ?_
      exact zg_iret ok fin dX0_bestLevels_13 ⟨Nat.le_of_ble_eq_true rfl, Nat.le_of_ble_eq_true rfl⟩ hE
    rw [if_neg c9] at hE
    exact hE.elim
set_option maxHeartbeats 8000000 in
theorem mt_X0_without {l : Launch} (hl : l.stackTraces = false) {Z : zw_Z} {a0 : Option Nat} {a1 : Int32} {a2 : Int32} {a3 : Option Nat} {h : zw_H} {Q : Int32 → zw_H → Prop} {X : String → Nat → zw_H → Prop} (hE : f_X0_without Z.2.2.2 a0 a1 a2 a3 h Q X) : zw_Met l Z yX0_without (wsW_ yX0_without cX0_without 5 (Option.some Jvm.ClassFile.FieldType.int) [((0 : Nat), (9 : Nat), (12 : Nat), (20 : Nat)), ((0 : Nat), (9 : Nat), (16 : Nat), (13 : Nat)), ((0 : Nat), (9 : Nat), (20 : Nat), (15 : Nat))]) rm_X0_without [zA a0, zI a1, zI a2, zA a3] h (zq_I Q) X := by
  refine zg_startW (own := "MultipoleLineLaw") (by decide +kernel) rfl (Nat.le_of_ble_eq_true rfl) hl (fun Xc ok tab fin hRm hXl hXZ => ?_)
  subst hXl
  subst hXZ
  unfold f_X0_without at hE
  refine zg_aload_n ok dX0_without_0 rfl 3 rfl ?_
  refine zg_iconst (v := 0) ok dX0_without_1 (by decide) ?_
  refine zg_aload_n ok dX0_without_2 rfl 0 rfl ?_
  refine zg_iload_n ok dX0_without_3 rfl 1 rfl ?_
  refine zg_iload_n ok dX0_without_4 rfl 2 rfl ?_
  refine zg_callV (vs := [zI a1, zI a2]) (rest := [.int 0, va_rf a3]) (rm := rm_X1_without) ok hRm lk_X0_137 dX0_without_5 hE (fun hE => mt_X1_without hl hE) rfl (Nat.le_of_ble_eq_true rfl) ⟨⟨Nat.le_of_ble_eq_true rfl, Nat.le_of_ble_eq_true rfl⟩, Nat.le_of_ble_eq_true rfl, Nat.le_of_ble_eq_true rfl⟩ (zg_retD (fun v1 h1 hE => ?_)) (fun E9 q9 h9 hE => ?_)
  · refine zg_cost (kc2 := 4) (ks2 := 24) ⟨rfl, rfl⟩ ?_
    refine zg_dast ok dX0_without_8 hE (fun h2 hE => ?_)
    refine zg_goto (tgt := 24) ok dX0_without_9 (by decide) ?_
    refine zg_iconst (v := 0) ok dX0_without_24 (by decide) ?_
    exact zg_iret ok fin dX0_without_25 ⟨Nat.le_of_ble_eq_true rfl, Nat.le_of_ble_eq_true rfl⟩ hE
  · by_cases c9 : E9 = "java/lang/IllegalStateException"
    · rw [if_pos c9] at hE
      subst c9
      refine zg_catch ok tab ((tableOf [((0 : Nat), (9 : Nat), (12 : Nat), (20 : Nat)), ((0 : Nat), (9 : Nat), (16 : Nat), (13 : Nat)), ((0 : Nat), (9 : Nat), (20 : Nat), (15 : Nat))]).take 0) ((tableOf [((0 : Nat), (9 : Nat), (12 : Nat), (20 : Nat)), ((0 : Nat), (9 : Nat), (16 : Nat), (13 : Nat)), ((0 : Nat), (9 : Nat), (20 : Nat), (15 : Nat))])[0]) ((tableOf [((0 : Nat), (9 : Nat), (12 : Nat), (20 : Nat)), ((0 : Nat), (9 : Nat), (16 : Nat), (13 : Nat)), ((0 : Nat), (9 : Nat), (20 : Nat), (15 : Nat))]).drop 1) rfl (fun z hz => by cases hz) (by decide +kernel) (by decide) q1112 q1126 ?_
      refine zg_astoreR (L' := [(4, va_rf (some q9)), (0, va_rf a0), (1, .int a1), (2, .int a2), (3, va_rf a3)]) ok dX0_without_12 (by decide) 3 rfl rfl rfl ?_
      refine zg_iconst (v := 1) ok dX0_without_14 (by decide) ?_
      exact zg_iret ok fin dX0_without_15 ⟨Nat.le_of_ble_eq_true rfl, Nat.le_of_ble_eq_true rfl⟩ hE
    rw [if_neg c9] at hE
    by_cases c9 : E9 = "java/lang/IndexOutOfBoundsException"
    · rw [if_pos c9] at hE
      subst c9
      refine zg_catch ok tab ((tableOf [((0 : Nat), (9 : Nat), (12 : Nat), (20 : Nat)), ((0 : Nat), (9 : Nat), (16 : Nat), (13 : Nat)), ((0 : Nat), (9 : Nat), (20 : Nat), (15 : Nat))]).take 1) ((tableOf [((0 : Nat), (9 : Nat), (12 : Nat), (20 : Nat)), ((0 : Nat), (9 : Nat), (16 : Nat), (13 : Nat)), ((0 : Nat), (9 : Nat), (20 : Nat), (15 : Nat))])[1]) ((tableOf [((0 : Nat), (9 : Nat), (12 : Nat), (20 : Nat)), ((0 : Nat), (9 : Nat), (16 : Nat), (13 : Nat)), ((0 : Nat), (9 : Nat), (20 : Nat), (15 : Nat))]).drop 2) rfl (by
          intro z hz
          cases hz with
          | head => exact Or.inr ⟨by decide, "java/lang/IllegalStateException", q1112, List.mem_of_getElem? (i := 3) rfl⟩
          | tail _ hz =>
            cases hz) (by decide +kernel) (by decide) q274 q368 ?_
      refine zg_astoreR (L' := [(4, va_rf (some q9)), (0, va_rf a0), (1, .int a1), (2, .int a2), (3, va_rf a3)]) ok dX0_without_16 (by decide) 3 rfl rfl rfl ?_
      refine zg_iconst (v := 2) ok dX0_without_18 (by decide) ?_
      exact zg_iret ok fin dX0_without_19 ⟨Nat.le_of_ble_eq_true rfl, Nat.le_of_ble_eq_true rfl⟩ hE
    rw [if_neg c9] at hE
    by_cases c9 : E9 = "java/lang/IllegalArgumentException"
    · rw [if_pos c9] at hE
      subst c9
      refine zg_catch ok tab ((tableOf [((0 : Nat), (9 : Nat), (12 : Nat), (20 : Nat)), ((0 : Nat), (9 : Nat), (16 : Nat), (13 : Nat)), ((0 : Nat), (9 : Nat), (20 : Nat), (15 : Nat))]).take 2) ((tableOf [((0 : Nat), (9 : Nat), (12 : Nat), (20 : Nat)), ((0 : Nat), (9 : Nat), (16 : Nat), (13 : Nat)), ((0 : Nat), (9 : Nat), (20 : Nat), (15 : Nat))])[2]) ((tableOf [((0 : Nat), (9 : Nat), (12 : Nat), (20 : Nat)), ((0 : Nat), (9 : Nat), (16 : Nat), (13 : Nat)), ((0 : Nat), (9 : Nat), (20 : Nat), (15 : Nat))]).drop 3) rfl (by
          intro z hz
          cases hz with
          | head => exact Or.inr ⟨by decide, "java/lang/IllegalStateException", q1112, List.mem_of_getElem? (i := 5) rfl⟩
          | tail _ hz =>
            cases hz with
            | head => exact Or.inr ⟨by decide, "java/lang/IndexOutOfBoundsException", q274, List.mem_of_getElem? (i := 6) rfl⟩
            | tail _ hz =>
              cases hz) (by decide +kernel) (by decide) q354 q652 ?_
      refine zg_astoreR (L' := [(4, va_rf (some q9)), (0, va_rf a0), (1, .int a1), (2, .int a2), (3, va_rf a3)]) ok dX0_without_20 (by decide) 3 rfl rfl rfl ?_
      refine zg_iconst (v := 3) ok dX0_without_22 (by decide) ?_
      exact zg_iret ok fin dX0_without_23 ⟨Nat.le_of_ble_eq_true rfl, Nat.le_of_ble_eq_true rfl⟩ hE
    rw [if_neg c9] at hE
    exact hE.elim
set_option maxHeartbeats 8000000 in
theorem mt_X0_quietest {l : Launch} (hl : l.stackTraces = false) {Z : zw_Z} {a0 : Option Nat} {a1 : Option Nat} {h : zw_H} {Q : Int32 → zw_H → Prop} {X : String → Nat → zw_H → Prop} (hE : f_X0_quietest Z.2.2.2 a0 a1 h Q X) : zw_Met l Z yX0_quietest (wsW_ yX0_quietest cX0_quietest 3 (Option.some Jvm.ClassFile.FieldType.int) [((0 : Nat), (8 : Nat), (11 : Nat), (20 : Nat))]) rm_X0_quietest [zA a0, zA a1] h (zq_I Q) X := by
  refine zg_startW (own := "MultipoleLineLaw") (by decide +kernel) rfl (Nat.le_of_ble_eq_true rfl) hl (fun Xc ok tab fin hRm hXl hXZ => ?_)
  subst hXl
  subst hXZ
  unfold f_X0_quietest at hE
  refine zg_aload_n ok dX0_quietest_0 rfl 1 rfl ?_
  refine zg_iconst (v := 0) ok dX0_quietest_1 (by decide) ?_
  refine zg_aload_n ok dX0_quietest_2 rfl 0 rfl ?_
  refine zg_callV (vs := []) (rest := [.int 0, va_rf a1]) (rm := rm_X1_quietest) ok hRm lk_X0_141 dX0_quietest_3 hE (fun hE => mt_X1_quietest hl hE) rfl (Nat.le_of_ble_eq_true rfl) ⟨⟨Nat.le_of_ble_eq_true rfl, Nat.le_of_ble_eq_true rfl⟩, Nat.le_of_ble_eq_true rfl, Nat.le_of_ble_eq_true rfl⟩ (zg_retI (fun v1 h1 hE => ?_)) (fun E9 q9 h9 hE => ?_)
  · refine zg_cost (kc2 := 515) (ks2 := 3090) ⟨rfl, rfl⟩ ?_
    refine zg_i2l ok dX0_quietest_6 ?_
    refine zg_last ok dX0_quietest_7 hE (fun h2 hE => ?_)
    refine zg_goto (tgt := 14) ok dX0_quietest_8 (by decide) ?_
    refine zg_iconst (v := 0) ok dX0_quietest_14 (by decide) ?_
    exact zg_iret ok fin dX0_quietest_15 ⟨Nat.le_of_ble_eq_true rfl, Nat.le_of_ble_eq_true rfl⟩ hE
  · by_cases c9 : E9 = "java/lang/IllegalStateException"
    · rw [if_pos c9] at hE
      subst c9
      refine zg_catch ok tab ((tableOf [((0 : Nat), (8 : Nat), (11 : Nat), (20 : Nat))]).take 0) ((tableOf [((0 : Nat), (8 : Nat), (11 : Nat), (20 : Nat))])[0]) ((tableOf [((0 : Nat), (8 : Nat), (11 : Nat), (20 : Nat))]).drop 1) rfl (fun z hz => by cases hz) (by decide +kernel) (by decide) q1112 q1126 ?_
      refine zg_astore_nR (L' := [(2, va_rf (some q9)), (0, va_rf a0), (1, va_rf a1)]) ok dX0_quietest_11 rfl (by decide) 1 rfl rfl rfl ?_
      refine zg_iconst (v := 1) ok dX0_quietest_12 (by decide) ?_
      exact zg_iret ok fin dX0_quietest_13 ⟨Nat.le_of_ble_eq_true rfl, Nat.le_of_ble_eq_true rfl⟩ hE
    rw [if_neg c9] at hE
    exact hE.elim
set_option maxHeartbeats 8000000 in
theorem mt_X0_energy {l : Launch} (hl : l.stackTraces = false) {Z : zw_Z} {a0 : Option Nat} {a1 : Int32} {a2 : Option Nat} {h : zw_H} {Q : Int32 → zw_H → Prop} {X : String → Nat → zw_H → Prop} (hE : f_X0_energy Z.2.2.2 a0 a1 a2 h Q X) : zw_Met l Z yX0_energy (wsW_ yX0_energy cX0_energy 4 (Option.some Jvm.ClassFile.FieldType.int) [((0 : Nat), (8 : Nat), (11 : Nat), (20 : Nat))]) rm_X0_energy [zA a0, zI a1, zA a2] h (zq_I Q) X := by
  refine zg_startW (own := "MultipoleLineLaw") (by decide +kernel) rfl (Nat.le_of_ble_eq_true rfl) hl (fun Xc ok tab fin hRm hXl hXZ => ?_)
  subst hXl
  subst hXZ
  unfold f_X0_energy at hE
  refine zg_aload_n ok dX0_energy_0 rfl 2 rfl ?_
  refine zg_iconst (v := 0) ok dX0_energy_1 (by decide) ?_
  refine zg_aload_n ok dX0_energy_2 rfl 0 rfl ?_
  refine zg_iload_n ok dX0_energy_3 rfl 1 rfl ?_
  refine zg_callV (vs := [zI a1]) (rest := [.int 0, va_rf a2]) (rm := rm_X1_energy) ok hRm lk_X0_144 dX0_energy_4 hE (fun hE => mt_X1_energy hl hE) rfl (Nat.le_of_ble_eq_true rfl) ⟨⟨Nat.le_of_ble_eq_true rfl, Nat.le_of_ble_eq_true rfl⟩, Nat.le_of_ble_eq_true rfl, Nat.le_of_ble_eq_true rfl⟩ (zg_retD (fun v1 h1 hE => ?_)) (fun E9 q9 h9 hE => ?_)
  · refine zg_cost (kc2 := 1) (ks2 := 6) ⟨rfl, rfl⟩ ?_
    refine zg_dast ok dX0_energy_7 hE (fun h2 hE => ?_)
    refine zg_goto (tgt := 14) ok dX0_energy_8 (by decide) ?_
    refine zg_iconst (v := 0) ok dX0_energy_14 (by decide) ?_
    exact zg_iret ok fin dX0_energy_15 ⟨Nat.le_of_ble_eq_true rfl, Nat.le_of_ble_eq_true rfl⟩ hE
  · by_cases c9 : E9 = "java/lang/IllegalStateException"
    · rw [if_pos c9] at hE
      subst c9
      refine zg_catch ok tab ((tableOf [((0 : Nat), (8 : Nat), (11 : Nat), (20 : Nat))]).take 0) ((tableOf [((0 : Nat), (8 : Nat), (11 : Nat), (20 : Nat))])[0]) ((tableOf [((0 : Nat), (8 : Nat), (11 : Nat), (20 : Nat))]).drop 1) rfl (fun z hz => by cases hz) (by decide +kernel) (by decide) q1112 q1126 ?_
      refine zg_astore_nR (L' := [(3, va_rf (some q9)), (0, va_rf a0), (1, .int a1), (2, va_rf a2)]) ok dX0_energy_11 rfl (by decide) 2 rfl rfl rfl ?_
      refine zg_iconst (v := 1) ok dX0_energy_12 (by decide) ?_
      exact zg_iret ok fin dX0_energy_13 ⟨Nat.le_of_ble_eq_true rfl, Nat.le_of_ble_eq_true rfl⟩ hE
    rw [if_neg c9] at hE
    exact hE.elim
set_option maxHeartbeats 8000000 in
theorem mt_X0_nearestZero {l : Launch} (hl : l.stackTraces = false) {Z : zw_Z} {a0 : Option Nat} {a1 : Int32} {a2 : Option Nat} {h : zw_H} {Q : Int32 → zw_H → Prop} {X : String → Nat → zw_H → Prop} (hE : f_X0_nearestZero Z.2.2.2 a0 a1 a2 h Q X) : zw_Met l Z yX0_nearestZero (wsW_ yX0_nearestZero cX0_nearestZero 4 (Option.some Jvm.ClassFile.FieldType.int) [((0 : Nat), (9 : Nat), (12 : Nat), (20 : Nat)), ((0 : Nat), (9 : Nat), (15 : Nat), (15 : Nat))]) rm_X0_nearestZero [zA a0, zI a1, zA a2] h (zq_I Q) X := by
  refine zg_startW (own := "MultipoleLineLaw") (by decide +kernel) rfl (Nat.le_of_ble_eq_true rfl) hl (fun Xc ok tab fin hRm hXl hXZ => ?_)
  subst hXl
  subst hXZ
  unfold f_X0_nearestZero at hE
  refine zg_aload_n ok dX0_nearestZero_0 rfl 2 rfl ?_
  refine zg_iconst (v := 0) ok dX0_nearestZero_1 (by decide) ?_
  refine zg_aload_n ok dX0_nearestZero_2 rfl 0 rfl ?_
  refine zg_iload_n ok dX0_nearestZero_3 rfl 1 rfl ?_
  refine zg_callV (vs := [zI a1]) (rest := [.int 0, va_rf a2]) (rm := rm_X1_nearestZero) ok hRm lk_X0_148 dX0_nearestZero_4 hE (fun hE => mt_X1_nearestZero hl hE) rfl (Nat.le_of_ble_eq_true rfl) ⟨⟨Nat.le_of_ble_eq_true rfl, Nat.le_of_ble_eq_true rfl⟩, Nat.le_of_ble_eq_true rfl, Nat.le_of_ble_eq_true rfl⟩ (zg_retI (fun v1 h1 hE => ?_)) (fun E9 q9 h9 hE => ?_)
  · refine zg_cost (kc2 := 2) (ks2 := 12) ⟨rfl, rfl⟩ ?_
    refine zg_i2l ok dX0_nearestZero_7 ?_
    refine zg_last ok dX0_nearestZero_8 hE (fun h2 hE => ?_)
    refine zg_goto (tgt := 18) ok dX0_nearestZero_9 (by decide) ?_
    refine zg_iconst (v := 0) ok dX0_nearestZero_18 (by decide) ?_
    exact zg_iret ok fin dX0_nearestZero_19 ⟨Nat.le_of_ble_eq_true rfl, Nat.le_of_ble_eq_true rfl⟩ hE
  · by_cases c9 : E9 = "java/lang/IllegalStateException"
    · rw [if_pos c9] at hE
      subst c9
      refine zg_catch ok tab ((tableOf [((0 : Nat), (9 : Nat), (12 : Nat), (20 : Nat)), ((0 : Nat), (9 : Nat), (15 : Nat), (15 : Nat))]).take 0) ((tableOf [((0 : Nat), (9 : Nat), (12 : Nat), (20 : Nat)), ((0 : Nat), (9 : Nat), (15 : Nat), (15 : Nat))])[0]) ((tableOf [((0 : Nat), (9 : Nat), (12 : Nat), (20 : Nat)), ((0 : Nat), (9 : Nat), (15 : Nat), (15 : Nat))]).drop 1) rfl (fun z hz => by cases hz) (by decide +kernel) (by decide) q1112 q1126 ?_
      refine zg_astore_nR (L' := [(3, va_rf (some q9)), (0, va_rf a0), (1, .int a1), (2, va_rf a2)]) ok dX0_nearestZero_12 rfl (by decide) 2 rfl rfl rfl ?_
      refine zg_iconst (v := 1) ok dX0_nearestZero_13 (by decide) ?_
      exact zg_iret ok fin dX0_nearestZero_14 ⟨Nat.le_of_ble_eq_true rfl, Nat.le_of_ble_eq_true rfl⟩ hE
    rw [if_neg c9] at hE
    by_cases c9 : E9 = "java/lang/IllegalArgumentException"
    · rw [if_pos c9] at hE
      subst c9
      refine zg_catch ok tab ((tableOf [((0 : Nat), (9 : Nat), (12 : Nat), (20 : Nat)), ((0 : Nat), (9 : Nat), (15 : Nat), (15 : Nat))]).take 1) ((tableOf [((0 : Nat), (9 : Nat), (12 : Nat), (20 : Nat)), ((0 : Nat), (9 : Nat), (15 : Nat), (15 : Nat))])[1]) ((tableOf [((0 : Nat), (9 : Nat), (12 : Nat), (20 : Nat)), ((0 : Nat), (9 : Nat), (15 : Nat), (15 : Nat))]).drop 2) rfl (by
          intro z hz
          cases hz with
          | head => exact Or.inr ⟨by decide, "java/lang/IllegalStateException", q1112, List.mem_of_getElem? (i := 5) rfl⟩
          | tail _ hz =>
            cases hz) (by decide +kernel) (by decide) q354 q652 ?_
      refine zg_astore_nR (L' := [(3, va_rf (some q9)), (0, va_rf a0), (1, .int a1), (2, va_rf a2)]) ok dX0_nearestZero_15 rfl (by decide) 2 rfl rfl rfl ?_
      refine zg_iconst (v := 2) ok dX0_nearestZero_16 (by decide) ?_
      exact zg_iret ok fin dX0_nearestZero_17 ⟨Nat.le_of_ble_eq_true rfl, Nat.le_of_ble_eq_true rfl⟩ hE
    rw [if_neg c9] at hE
    exact hE.elim
set_option maxHeartbeats 8000000 in
theorem mt_X0_pairs {l : Launch} (hl : l.stackTraces = false) {Z : zw_Z} {a0 : Option Nat} {a1 : Int32} {a2 : Option Nat} {h : zw_H} {Q : Int32 → zw_H → Prop} {X : String → Nat → zw_H → Prop} (hE : f_X0_pairs Z.2.2.2 a0 a1 a2 h Q X) : zw_Met l Z yX0_pairs (wsW_ yX0_pairs cX0_pairs 4 (Option.some Jvm.ClassFile.FieldType.int) [((0 : Nat), (9 : Nat), (12 : Nat), (20 : Nat)), ((0 : Nat), (9 : Nat), (15 : Nat), (15 : Nat))]) rm_X0_pairs [zA a0, zI a1, zA a2] h (zq_I Q) X := by
  refine zg_startW (own := "MultipoleLineLaw") (by decide +kernel) rfl (Nat.le_of_ble_eq_true rfl) hl (fun Xc ok tab fin hRm hXl hXZ => ?_)
  subst hXl
  subst hXZ
  unfold f_X0_pairs at hE
  refine zg_aload_n ok dX0_pairs_0 rfl 2 rfl ?_
  refine zg_iconst (v := 0) ok dX0_pairs_1 (by decide) ?_
  refine zg_aload_n ok dX0_pairs_2 rfl 0 rfl ?_
  refine zg_iload_n ok dX0_pairs_3 rfl 1 rfl ?_
  refine zg_callV (vs := [zI a1]) (rest := [.int 0, va_rf a2]) (rm := rm_X1_pairs) ok hRm lk_X0_151 dX0_pairs_4 hE (fun hE => mt_X1_pairs hl hE) rfl (Nat.le_of_ble_eq_true rfl) ⟨⟨Nat.le_of_ble_eq_true rfl, Nat.le_of_ble_eq_true rfl⟩, Nat.le_of_ble_eq_true rfl, Nat.le_of_ble_eq_true rfl⟩ (zg_retI (fun v1 h1 hE => ?_)) (fun E9 q9 h9 hE => ?_)
  · refine zg_cost (kc2 := 2) (ks2 := 12) ⟨rfl, rfl⟩ ?_
    refine zg_i2l ok dX0_pairs_7 ?_
    refine zg_last ok dX0_pairs_8 hE (fun h2 hE => ?_)
    refine zg_goto (tgt := 18) ok dX0_pairs_9 (by decide) ?_
    refine zg_iconst (v := 0) ok dX0_pairs_18 (by decide) ?_
    exact zg_iret ok fin dX0_pairs_19 ⟨Nat.le_of_ble_eq_true rfl, Nat.le_of_ble_eq_true rfl⟩ hE
  · by_cases c9 : E9 = "java/lang/IllegalStateException"
    · rw [if_pos c9] at hE
      subst c9
      refine zg_catch ok tab ((tableOf [((0 : Nat), (9 : Nat), (12 : Nat), (20 : Nat)), ((0 : Nat), (9 : Nat), (15 : Nat), (15 : Nat))]).take 0) ((tableOf [((0 : Nat), (9 : Nat), (12 : Nat), (20 : Nat)), ((0 : Nat), (9 : Nat), (15 : Nat), (15 : Nat))])[0]) ((tableOf [((0 : Nat), (9 : Nat), (12 : Nat), (20 : Nat)), ((0 : Nat), (9 : Nat), (15 : Nat), (15 : Nat))]).drop 1) rfl (fun z hz => by cases hz) (by decide +kernel) (by decide) q1112 q1126 ?_
      refine zg_astore_nR (L' := [(3, va_rf (some q9)), (0, va_rf a0), (1, .int a1), (2, va_rf a2)]) ok dX0_pairs_12 rfl (by decide) 2 rfl rfl rfl ?_
      refine zg_iconst (v := 1) ok dX0_pairs_13 (by decide) ?_
      exact zg_iret ok fin dX0_pairs_14 ⟨Nat.le_of_ble_eq_true rfl, Nat.le_of_ble_eq_true rfl⟩ hE
    rw [if_neg c9] at hE
    by_cases c9 : E9 = "java/lang/IllegalArgumentException"
    · rw [if_pos c9] at hE
      subst c9
      refine zg_catch ok tab ((tableOf [((0 : Nat), (9 : Nat), (12 : Nat), (20 : Nat)), ((0 : Nat), (9 : Nat), (15 : Nat), (15 : Nat))]).take 1) ((tableOf [((0 : Nat), (9 : Nat), (12 : Nat), (20 : Nat)), ((0 : Nat), (9 : Nat), (15 : Nat), (15 : Nat))])[1]) ((tableOf [((0 : Nat), (9 : Nat), (12 : Nat), (20 : Nat)), ((0 : Nat), (9 : Nat), (15 : Nat), (15 : Nat))]).drop 2) rfl (by
          intro z hz
          cases hz with
          | head => exact Or.inr ⟨by decide, "java/lang/IllegalStateException", q1112, List.mem_of_getElem? (i := 5) rfl⟩
          | tail _ hz =>
            cases hz) (by decide +kernel) (by decide) q354 q652 ?_
      refine zg_astore_nR (L' := [(3, va_rf (some q9)), (0, va_rf a0), (1, .int a1), (2, va_rf a2)]) ok dX0_pairs_15 rfl (by decide) 2 rfl rfl rfl ?_
      refine zg_iconst (v := 2) ok dX0_pairs_16 (by decide) ?_
      exact zg_iret ok fin dX0_pairs_17 ⟨Nat.le_of_ble_eq_true rfl, Nat.le_of_ble_eq_true rfl⟩ hE
    rw [if_neg c9] at hE
    exact hE.elim
set_option maxHeartbeats 8000000 in
theorem mt_X0_balance {l : Launch} (hl : l.stackTraces = false) {Z : zw_Z} {a0 : Option Nat} {a1 : Option Nat} {h : zw_H} {Q : Int32 → zw_H → Prop} {X : String → Nat → zw_H → Prop} (hE : f_X0_balance Z.2.2.2 a0 a1 h Q X) : zw_Met l Z yX0_balance (wsW_ yX0_balance cX0_balance 3 (Option.some Jvm.ClassFile.FieldType.int) [((0 : Nat), (8 : Nat), (11 : Nat), (20 : Nat))]) rm_X0_balance [zA a0, zA a1] h (zq_I Q) X := by
  refine zg_startW (own := "MultipoleLineLaw") (by decide +kernel) rfl (Nat.le_of_ble_eq_true rfl) hl (fun Xc ok tab fin hRm hXl hXZ => ?_)
  subst hXl
  subst hXZ
  unfold f_X0_balance at hE
  refine zg_aload_n ok dX0_balance_0 rfl 1 rfl ?_
  refine zg_iconst (v := 0) ok dX0_balance_1 (by decide) ?_
  refine zg_aload_n ok dX0_balance_2 rfl 0 rfl ?_
  refine zg_callV (vs := []) (rest := [.int 0, va_rf a1]) (rm := rm_X1_balance) ok hRm lk_X0_154 dX0_balance_3 hE (fun hE => mt_X1_balance hl hE) rfl (Nat.le_of_ble_eq_true rfl) ⟨⟨Nat.le_of_ble_eq_true rfl, Nat.le_of_ble_eq_true rfl⟩, Nat.le_of_ble_eq_true rfl, Nat.le_of_ble_eq_true rfl⟩ (zg_retF (fun v1 h1 hE => ?_)) (fun E9 q9 h9 hE => ?_)
  · refine zg_cost (kc2 := 1) (ks2 := 6) ⟨rfl, rfl⟩ ?_
    refine zg_f2dE ok dX0_balance_6 hE (fun hE => ?_)
    refine zg_dast ok dX0_balance_7 hE (fun h2 hE => ?_)
    refine zg_goto (tgt := 14) ok dX0_balance_8 (by decide) ?_
    refine zg_iconst (v := 0) ok dX0_balance_14 (by decide) ?_
    exact zg_iret ok fin dX0_balance_15 ⟨Nat.le_of_ble_eq_true rfl, Nat.le_of_ble_eq_true rfl⟩ hE
  · by_cases c9 : E9 = "java/lang/IllegalStateException"
    · rw [if_pos c9] at hE
      subst c9
      refine zg_catch ok tab ((tableOf [((0 : Nat), (8 : Nat), (11 : Nat), (20 : Nat))]).take 0) ((tableOf [((0 : Nat), (8 : Nat), (11 : Nat), (20 : Nat))])[0]) ((tableOf [((0 : Nat), (8 : Nat), (11 : Nat), (20 : Nat))]).drop 1) rfl (fun z hz => by cases hz) (by decide +kernel) (by decide) q1112 q1126 ?_
      refine zg_astore_nR (L' := [(2, va_rf (some q9)), (0, va_rf a0), (1, va_rf a1)]) ok dX0_balance_11 rfl (by decide) 1 rfl rfl rfl ?_
      refine zg_iconst (v := 1) ok dX0_balance_12 (by decide) ?_
      exact zg_iret ok fin dX0_balance_13 ⟨Nat.le_of_ble_eq_true rfl, Nat.le_of_ble_eq_true rfl⟩ hE
    rw [if_neg c9] at hE
    exact hE.elim
set_option maxHeartbeats 8000000 in
theorem mt_X0_balanceBits {l : Launch} (hl : l.stackTraces = false) {Z : zw_Z} {a0 : Option Nat} {a1 : Option Nat} {h : zw_H} {Q : Int32 → zw_H → Prop} {X : String → Nat → zw_H → Prop} (hE : f_X0_balanceBits Z.2.2.2 a0 a1 h Q X) : zw_Met l Z yX0_balanceBits (wsW_ yX0_balanceBits cX0_balanceBits 3 (Option.some Jvm.ClassFile.FieldType.int) [((0 : Nat), (8 : Nat), (11 : Nat), (20 : Nat))]) rm_X0_balanceBits [zA a0, zA a1] h (zq_I Q) X := by
  refine zg_startW (own := "MultipoleLineLaw") (by decide +kernel) rfl (Nat.le_of_ble_eq_true rfl) hl (fun Xc ok tab fin hRm hXl hXZ => ?_)
  subst hXl
  subst hXZ
  unfold f_X0_balanceBits at hE
  refine zg_aload_n ok dX0_balanceBits_0 rfl 1 rfl ?_
  refine zg_iconst (v := 0) ok dX0_balanceBits_1 (by decide) ?_
  refine zg_aload_n ok dX0_balanceBits_2 rfl 0 rfl ?_
  refine zg_callV (vs := []) (rest := [.int 0, va_rf a1]) (rm := rm_X1_balanceBits) ok hRm lk_X0_158 dX0_balanceBits_3 hE (fun hE => mt_X1_balanceBits hl hE) rfl (Nat.le_of_ble_eq_true rfl) ⟨⟨Nat.le_of_ble_eq_true rfl, Nat.le_of_ble_eq_true rfl⟩, Nat.le_of_ble_eq_true rfl, Nat.le_of_ble_eq_true rfl⟩ (zg_retI (fun v1 h1 hE => ?_)) (fun E9 q9 h9 hE => ?_)
  · refine zg_cost (kc2 := 1) (ks2 := 6) ⟨rfl, rfl⟩ ?_
    refine zg_i2l ok dX0_balanceBits_6 ?_
    refine zg_last ok dX0_balanceBits_7 hE (fun h2 hE => ?_)
    refine zg_goto (tgt := 14) ok dX0_balanceBits_8 (by decide) ?_
    refine zg_iconst (v := 0) ok dX0_balanceBits_14 (by decide) ?_
    exact zg_iret ok fin dX0_balanceBits_15 ⟨Nat.le_of_ble_eq_true rfl, Nat.le_of_ble_eq_true rfl⟩ hE
  · by_cases c9 : E9 = "java/lang/IllegalStateException"
    · rw [if_pos c9] at hE
      subst c9
      refine zg_catch ok tab ((tableOf [((0 : Nat), (8 : Nat), (11 : Nat), (20 : Nat))]).take 0) ((tableOf [((0 : Nat), (8 : Nat), (11 : Nat), (20 : Nat))])[0]) ((tableOf [((0 : Nat), (8 : Nat), (11 : Nat), (20 : Nat))]).drop 1) rfl (fun z hz => by cases hz) (by decide +kernel) (by decide) q1112 q1126 ?_
      refine zg_astore_nR (L' := [(2, va_rf (some q9)), (0, va_rf a0), (1, va_rf a1)]) ok dX0_balanceBits_11 rfl (by decide) 1 rfl rfl rfl ?_
      refine zg_iconst (v := 1) ok dX0_balanceBits_12 (by decide) ?_
      exact zg_iret ok fin dX0_balanceBits_13 ⟨Nat.le_of_ble_eq_true rfl, Nat.le_of_ble_eq_true rfl⟩ hE
    rw [if_neg c9] at hE
    exact hE.elim
set_option maxHeartbeats 8000000 in
theorem mt_X0_meanX {l : Launch} (hl : l.stackTraces = false) {Z : zw_Z} {a0 : Option Nat} {a1 : Option Nat} {h : zw_H} {Q : Int32 → zw_H → Prop} {X : String → Nat → zw_H → Prop} (hE : f_X0_meanX Z.2.2.2 a0 a1 h Q X) : zw_Met l Z yX0_meanX (wsW_ yX0_meanX cX0_meanX 3 (Option.some Jvm.ClassFile.FieldType.int) [((0 : Nat), (7 : Nat), (10 : Nat), (20 : Nat))]) rm_X0_meanX [zA a0, zA a1] h (zq_I Q) X := by
  refine zg_startW (own := "MultipoleLineLaw") (by decide +kernel) rfl (Nat.le_of_ble_eq_true rfl) hl (fun Xc ok tab fin hRm hXl hXZ => ?_)
  subst hXl
  subst hXZ
  unfold f_X0_meanX at hE
  refine zg_aload_n ok dX0_meanX_0 rfl 1 rfl ?_
  refine zg_iconst (v := 0) ok dX0_meanX_1 (by decide) ?_
  refine zg_aload_n ok dX0_meanX_2 rfl 0 rfl ?_
  refine zg_callV (vs := []) (rest := [.int 0, va_rf a1]) (rm := rm_X1_meanX) ok hRm lk_X0_161 dX0_meanX_3 hE (fun hE => mt_X1_meanX hl hE) rfl (Nat.le_of_ble_eq_true rfl) ⟨⟨Nat.le_of_ble_eq_true rfl, Nat.le_of_ble_eq_true rfl⟩, Nat.le_of_ble_eq_true rfl, Nat.le_of_ble_eq_true rfl⟩ (zg_retD (fun v1 h1 hE => ?_)) (fun E9 q9 h9 hE => ?_)
  · refine zg_cost (kc2 := 1) (ks2 := 6) ⟨rfl, rfl⟩ ?_
    refine zg_dast ok dX0_meanX_6 hE (fun h2 hE => ?_)
    refine zg_goto (tgt := 13) ok dX0_meanX_7 (by decide) ?_
    refine zg_iconst (v := 0) ok dX0_meanX_13 (by decide) ?_
    exact zg_iret ok fin dX0_meanX_14 ⟨Nat.le_of_ble_eq_true rfl, Nat.le_of_ble_eq_true rfl⟩ hE
  · by_cases c9 : E9 = "java/lang/IllegalStateException"
    · rw [if_pos c9] at hE
      subst c9
      refine zg_catch ok tab ((tableOf [((0 : Nat), (7 : Nat), (10 : Nat), (20 : Nat))]).take 0) ((tableOf [((0 : Nat), (7 : Nat), (10 : Nat), (20 : Nat))])[0]) ((tableOf [((0 : Nat), (7 : Nat), (10 : Nat), (20 : Nat))]).drop 1) rfl (fun z hz => by cases hz) (by decide +kernel) (by decide) q1112 q1126 ?_
      refine zg_astore_nR (L' := [(2, va_rf (some q9)), (0, va_rf a0), (1, va_rf a1)]) ok dX0_meanX_10 rfl (by decide) 1 rfl rfl rfl ?_
      refine zg_iconst (v := 1) ok dX0_meanX_11 (by decide) ?_
      exact zg_iret ok fin dX0_meanX_12 ⟨Nat.le_of_ble_eq_true rfl, Nat.le_of_ble_eq_true rfl⟩ hE
    rw [if_neg c9] at hE
    exact hE.elim
set_option maxHeartbeats 8000000 in
theorem mt_X0_writeLeaves {l : Launch} (hl : l.stackTraces = false) {Z : zw_Z} {a0 : Option Nat} {a1 : Option Nat} {h : zw_H} {Q : Int32 → zw_H → Prop} {X : String → Nat → zw_H → Prop} (hE : f_X0_writeLeaves Z.2.2.2 a0 a1 h Q X) : zw_Met l Z yX0_writeLeaves (wsW_ yX0_writeLeaves cX0_writeLeaves 3 (Option.some Jvm.ClassFile.FieldType.int) [((0 : Nat), (8 : Nat), (11 : Nat), (20 : Nat))]) rm_X0_writeLeaves [zA a0, zA a1] h (zq_I Q) X := by
  refine zg_startW (own := "MultipoleLineLaw") (by decide +kernel) rfl (Nat.le_of_ble_eq_true rfl) hl (fun Xc ok tab fin hRm hXl hXZ => ?_)
  subst hXl
  subst hXZ
  unfold f_X0_writeLeaves at hE
  refine zg_aload_n ok dX0_writeLeaves_0 rfl 1 rfl ?_
  refine zg_iconst (v := 0) ok dX0_writeLeaves_1 (by decide) ?_
  refine zg_aload_n ok dX0_writeLeaves_2 rfl 0 rfl ?_
  refine zg_callV (vs := []) (rest := [.int 0, va_rf a1]) (rm := rm_X1_writeLeaves) ok hRm lk_X0_165 dX0_writeLeaves_3 hE (fun hE => mt_X1_writeLeaves hl hE) rfl (Nat.le_of_ble_eq_true rfl) ⟨⟨Nat.le_of_ble_eq_true rfl, Nat.le_of_ble_eq_true rfl⟩, Nat.le_of_ble_eq_true rfl, Nat.le_of_ble_eq_true rfl⟩ (zg_retI (fun v1 h1 hE => ?_)) (fun E9 q9 h9 hE => ?_)
  · refine zg_cost (kc2 := 35) (ks2 := 19590) ⟨rfl, rfl⟩ ?_
    refine zg_i2l ok dX0_writeLeaves_6 ?_
    refine zg_last ok dX0_writeLeaves_7 hE (fun h2 hE => ?_)
    refine zg_goto (tgt := 14) ok dX0_writeLeaves_8 (by decide) ?_
    refine zg_iconst (v := 0) ok dX0_writeLeaves_14 (by decide) ?_
    exact zg_iret ok fin dX0_writeLeaves_15 ⟨Nat.le_of_ble_eq_true rfl, Nat.le_of_ble_eq_true rfl⟩ hE
  · by_cases c9 : E9 = "java/lang/IllegalStateException"
    · rw [if_pos c9] at hE
      subst c9
      refine zg_catch ok tab ((tableOf [((0 : Nat), (8 : Nat), (11 : Nat), (20 : Nat))]).take 0) ((tableOf [((0 : Nat), (8 : Nat), (11 : Nat), (20 : Nat))])[0]) ((tableOf [((0 : Nat), (8 : Nat), (11 : Nat), (20 : Nat))]).drop 1) rfl (fun z hz => by cases hz) (by decide +kernel) (by decide) q1112 q1126 ?_
      refine zg_astore_nR (L' := [(2, va_rf (some q9)), (0, va_rf a0), (1, va_rf a1)]) ok dX0_writeLeaves_11 rfl (by decide) 1 rfl rfl rfl ?_
      refine zg_iconst (v := 1) ok dX0_writeLeaves_12 (by decide) ?_
      exact zg_iret ok fin dX0_writeLeaves_13 ⟨Nat.le_of_ble_eq_true rfl, Nat.le_of_ble_eq_true rfl⟩ hE
    rw [if_neg c9] at hE
    exact hE.elim
set_option maxHeartbeats 8000000 in
theorem mt_X0_writeBodies {l : Launch} (hl : l.stackTraces = false) {Z : zw_Z} {a0 : Option Nat} {a1 : Option Nat} {h : zw_H} {Q : Int32 → zw_H → Prop} {X : String → Nat → zw_H → Prop} (hE : f_X0_writeBodies Z.2.2.2 a0 a1 h Q X) : zw_Met l Z yX0_writeBodies (wsW_ yX0_writeBodies cX0_writeBodies 3 (Option.some Jvm.ClassFile.FieldType.int) [((0 : Nat), (8 : Nat), (11 : Nat), (20 : Nat))]) rm_X0_writeBodies [zA a0, zA a1] h (zq_I Q) X := by
  refine zg_startW (own := "MultipoleLineLaw") (by decide +kernel) rfl (Nat.le_of_ble_eq_true rfl) hl (fun Xc ok tab fin hRm hXl hXZ => ?_)
  subst hXl
  subst hXZ
  unfold f_X0_writeBodies at hE
  refine zg_aload_n ok dX0_writeBodies_0 rfl 1 rfl ?_
  refine zg_iconst (v := 0) ok dX0_writeBodies_1 (by decide) ?_
  refine zg_aload_n ok dX0_writeBodies_2 rfl 0 rfl ?_
  refine zg_callV (vs := []) (rest := [.int 0, va_rf a1]) (rm := rm_X1_writeBodies) ok hRm lk_X0_168 dX0_writeBodies_3 hE (fun hE => mt_X1_writeBodies hl hE) rfl (Nat.le_of_ble_eq_true rfl) ⟨⟨Nat.le_of_ble_eq_true rfl, Nat.le_of_ble_eq_true rfl⟩, Nat.le_of_ble_eq_true rfl, Nat.le_of_ble_eq_true rfl⟩ (zg_retI (fun v1 h1 hE => ?_)) (fun E9 q9 h9 hE => ?_)
  · refine zg_cost (kc2 := 128) (ks2 := 73158) ⟨rfl, rfl⟩ ?_
    refine zg_i2l ok dX0_writeBodies_6 ?_
    refine zg_last ok dX0_writeBodies_7 hE (fun h2 hE => ?_)
    refine zg_goto (tgt := 14) ok dX0_writeBodies_8 (by decide) ?_
    refine zg_iconst (v := 0) ok dX0_writeBodies_14 (by decide) ?_
    exact zg_iret ok fin dX0_writeBodies_15 ⟨Nat.le_of_ble_eq_true rfl, Nat.le_of_ble_eq_true rfl⟩ hE
  · by_cases c9 : E9 = "java/lang/IllegalStateException"
    · rw [if_pos c9] at hE
      subst c9
      refine zg_catch ok tab ((tableOf [((0 : Nat), (8 : Nat), (11 : Nat), (20 : Nat))]).take 0) ((tableOf [((0 : Nat), (8 : Nat), (11 : Nat), (20 : Nat))])[0]) ((tableOf [((0 : Nat), (8 : Nat), (11 : Nat), (20 : Nat))]).drop 1) rfl (fun z hz => by cases hz) (by decide +kernel) (by decide) q1112 q1126 ?_
      refine zg_astore_nR (L' := [(2, va_rf (some q9)), (0, va_rf a0), (1, va_rf a1)]) ok dX0_writeBodies_11 rfl (by decide) 1 rfl rfl rfl ?_
      refine zg_iconst (v := 1) ok dX0_writeBodies_12 (by decide) ?_
      exact zg_iret ok fin dX0_writeBodies_13 ⟨Nat.le_of_ble_eq_true rfl, Nat.le_of_ble_eq_true rfl⟩ hE
    rw [if_neg c9] at hE
    exact hE.elim
set_option maxHeartbeats 8000000 in
theorem mt_X0_writeLine {l : Launch} (hl : l.stackTraces = false) {Z : zw_Z} {a0 : Option Nat} {a1 : Option Nat} {h : zw_H} {Q : Int32 → zw_H → Prop} {X : String → Nat → zw_H → Prop} (hE : f_X0_writeLine Z.2.2.2 a0 a1 h Q X) : zw_Met l Z yX0_writeLine (wsW_ yX0_writeLine cX0_writeLine 3 (Option.some Jvm.ClassFile.FieldType.int) [((0 : Nat), (8 : Nat), (11 : Nat), (20 : Nat))]) rm_X0_writeLine [zA a0, zA a1] h (zq_I Q) X := by
  refine zg_startW (own := "MultipoleLineLaw") (by decide +kernel) rfl (Nat.le_of_ble_eq_true rfl) hl (fun Xc ok tab fin hRm hXl hXZ => ?_)
  subst hXl
  subst hXZ
  unfold f_X0_writeLine at hE
  refine zg_aload_n ok dX0_writeLine_0 rfl 1 rfl ?_
  refine zg_iconst (v := 0) ok dX0_writeLine_1 (by decide) ?_
  refine zg_aload_n ok dX0_writeLine_2 rfl 0 rfl ?_
  refine zg_callV (vs := []) (rest := [.int 0, va_rf a1]) (rm := rm_X1_writeLine) ok hRm lk_X0_171 dX0_writeLine_3 hE (fun hE => mt_X1_writeLine hl hE) rfl (Nat.le_of_ble_eq_true rfl) ⟨⟨Nat.le_of_ble_eq_true rfl, Nat.le_of_ble_eq_true rfl⟩, Nat.le_of_ble_eq_true rfl, Nat.le_of_ble_eq_true rfl⟩ (zg_retI (fun v1 h1 hE => ?_)) (fun E9 q9 h9 hE => ?_)
  · refine zg_cost (kc2 := 111) (ks2 := 63366) ⟨rfl, rfl⟩ ?_
    refine zg_i2l ok dX0_writeLine_6 ?_
    refine zg_last ok dX0_writeLine_7 hE (fun h2 hE => ?_)
    refine zg_goto (tgt := 14) ok dX0_writeLine_8 (by decide) ?_
    refine zg_iconst (v := 0) ok dX0_writeLine_14 (by decide) ?_
    exact zg_iret ok fin dX0_writeLine_15 ⟨Nat.le_of_ble_eq_true rfl, Nat.le_of_ble_eq_true rfl⟩ hE
  · by_cases c9 : E9 = "java/lang/IllegalStateException"
    · rw [if_pos c9] at hE
      subst c9
      refine zg_catch ok tab ((tableOf [((0 : Nat), (8 : Nat), (11 : Nat), (20 : Nat))]).take 0) ((tableOf [((0 : Nat), (8 : Nat), (11 : Nat), (20 : Nat))])[0]) ((tableOf [((0 : Nat), (8 : Nat), (11 : Nat), (20 : Nat))]).drop 1) rfl (fun z hz => by cases hz) (by decide +kernel) (by decide) q1112 q1126 ?_
      refine zg_astore_nR (L' := [(2, va_rf (some q9)), (0, va_rf a0), (1, va_rf a1)]) ok dX0_writeLine_11 rfl (by decide) 1 rfl rfl rfl ?_
      refine zg_iconst (v := 1) ok dX0_writeLine_12 (by decide) ?_
      exact zg_iret ok fin dX0_writeLine_13 ⟨Nat.le_of_ble_eq_true rfl, Nat.le_of_ble_eq_true rfl⟩ hE
    rw [if_neg c9] at hE
    exact hE.elim
set_option maxHeartbeats 8000000 in
theorem mt_X0_writeFar {l : Launch} (hl : l.stackTraces = false) {Z : zw_Z} {a0 : Option Nat} {a1 : Int32} {a2 : Option Nat} {h : zw_H} {Q : Int32 → zw_H → Prop} {X : String → Nat → zw_H → Prop} (hE : f_X0_writeFar Z.2.2.2 a0 a1 a2 h Q X) : zw_Met l Z yX0_writeFar (wsW_ yX0_writeFar cX0_writeFar 4 (Option.some Jvm.ClassFile.FieldType.int) [((0 : Nat), (9 : Nat), (12 : Nat), (20 : Nat)), ((0 : Nat), (9 : Nat), (15 : Nat), (15 : Nat))]) rm_X0_writeFar [zA a0, zI a1, zA a2] h (zq_I Q) X := by
  refine zg_startW (own := "MultipoleLineLaw") (by decide +kernel) rfl (Nat.le_of_ble_eq_true rfl) hl (fun Xc ok tab fin hRm hXl hXZ => ?_)
  subst hXl
  subst hXZ
  unfold f_X0_writeFar at hE
  refine zg_aload_n ok dX0_writeFar_0 rfl 2 rfl ?_
  refine zg_iconst (v := 0) ok dX0_writeFar_1 (by decide) ?_
  refine zg_aload_n ok dX0_writeFar_2 rfl 0 rfl ?_
  refine zg_iload_n ok dX0_writeFar_3 rfl 1 rfl ?_
  refine zg_callV (vs := [zI a1]) (rest := [.int 0, va_rf a2]) (rm := rm_X1_writeFar) ok hRm lk_X0_174 dX0_writeFar_4 hE (fun hE => mt_X1_writeFar hl hE) rfl (Nat.le_of_ble_eq_true rfl) ⟨⟨Nat.le_of_ble_eq_true rfl, Nat.le_of_ble_eq_true rfl⟩, Nat.le_of_ble_eq_true rfl, Nat.le_of_ble_eq_true rfl⟩ (zg_retI (fun v1 h1 hE => ?_)) (fun E9 q9 h9 hE => ?_)
  · refine zg_cost (kc2 := 104) (ks2 := 58764) ⟨rfl, rfl⟩ ?_
    refine zg_i2l ok dX0_writeFar_7 ?_
    refine zg_last ok dX0_writeFar_8 hE (fun h2 hE => ?_)
    refine zg_goto (tgt := 18) ok dX0_writeFar_9 (by decide) ?_
    refine zg_iconst (v := 0) ok dX0_writeFar_18 (by decide) ?_
    exact zg_iret ok fin dX0_writeFar_19 ⟨Nat.le_of_ble_eq_true rfl, Nat.le_of_ble_eq_true rfl⟩ hE
  · by_cases c9 : E9 = "java/lang/IllegalStateException"
    · rw [if_pos c9] at hE
      subst c9
      refine zg_catch ok tab ((tableOf [((0 : Nat), (9 : Nat), (12 : Nat), (20 : Nat)), ((0 : Nat), (9 : Nat), (15 : Nat), (15 : Nat))]).take 0) ((tableOf [((0 : Nat), (9 : Nat), (12 : Nat), (20 : Nat)), ((0 : Nat), (9 : Nat), (15 : Nat), (15 : Nat))])[0]) ((tableOf [((0 : Nat), (9 : Nat), (12 : Nat), (20 : Nat)), ((0 : Nat), (9 : Nat), (15 : Nat), (15 : Nat))]).drop 1) rfl (fun z hz => by cases hz) (by decide +kernel) (by decide) q1112 q1126 ?_
      refine zg_astore_nR (L' := [(3, va_rf (some q9)), (0, va_rf a0), (1, .int a1), (2, va_rf a2)]) ok dX0_writeFar_12 rfl (by decide) 2 rfl rfl rfl ?_
      refine zg_iconst (v := 1) ok dX0_writeFar_13 (by decide) ?_
      exact zg_iret ok fin dX0_writeFar_14 ⟨Nat.le_of_ble_eq_true rfl, Nat.le_of_ble_eq_true rfl⟩ hE
    rw [if_neg c9] at hE
    by_cases c9 : E9 = "java/lang/IllegalArgumentException"
    · rw [if_pos c9] at hE
      subst c9
      refine zg_catch ok tab ((tableOf [((0 : Nat), (9 : Nat), (12 : Nat), (20 : Nat)), ((0 : Nat), (9 : Nat), (15 : Nat), (15 : Nat))]).take 1) ((tableOf [((0 : Nat), (9 : Nat), (12 : Nat), (20 : Nat)), ((0 : Nat), (9 : Nat), (15 : Nat), (15 : Nat))])[1]) ((tableOf [((0 : Nat), (9 : Nat), (12 : Nat), (20 : Nat)), ((0 : Nat), (9 : Nat), (15 : Nat), (15 : Nat))]).drop 2) rfl (by
          intro z hz
          cases hz with
          | head => exact Or.inr ⟨by decide, "java/lang/IllegalStateException", q1112, List.mem_of_getElem? (i := 5) rfl⟩
          | tail _ hz =>
            cases hz) (by decide +kernel) (by decide) q354 q652 ?_
      refine zg_astore_nR (L' := [(3, va_rf (some q9)), (0, va_rf a0), (1, .int a1), (2, va_rf a2)]) ok dX0_writeFar_15 rfl (by decide) 2 rfl rfl rfl ?_
      refine zg_iconst (v := 2) ok dX0_writeFar_16 (by decide) ?_
      exact zg_iret ok fin dX0_writeFar_17 ⟨Nat.le_of_ble_eq_true rfl, Nat.le_of_ble_eq_true rfl⟩ hE
    rw [if_neg c9] at hE
    exact hE.elim
set_option maxHeartbeats 8000000 in
theorem mt_X0_textByte {l : Launch} (hl : l.stackTraces = false) {Z : zw_Z} {a0 : Option Nat} {a1 : Int32} {a2 : Option Nat} {h : zw_H} {Q : Int32 → zw_H → Prop} {X : String → Nat → zw_H → Prop} (hE : f_X0_textByte Z.2.2.2 a0 a1 a2 h Q X) : zw_Met l Z yX0_textByte (wsW_ yX0_textByte cX0_textByte 4 (Option.some Jvm.ClassFile.FieldType.int) [((0 : Nat), (9 : Nat), (12 : Nat), (13 : Nat))]) rm_X0_textByte [zA a0, zI a1, zA a2] h (zq_I Q) X := by
  refine zg_startW (own := "MultipoleLineLaw") (by decide +kernel) rfl (Nat.le_of_ble_eq_true rfl) hl (fun Xc ok tab fin hRm hXl hXZ => ?_)
  subst hXl
  subst hXZ
  unfold f_X0_textByte at hE
  refine zg_aload_n ok dX0_textByte_0 rfl 2 rfl ?_
  refine zg_iconst (v := 0) ok dX0_textByte_1 (by decide) ?_
  refine zg_aload_n ok dX0_textByte_2 rfl 0 rfl ?_
  refine zg_iload_n ok dX0_textByte_3 rfl 1 rfl ?_
  refine zg_callV (vs := [zI a1]) (rest := [.int 0, va_rf a2]) (rm := rm_X1_textByte) ok hRm lk_X0_177 dX0_textByte_4 hE (fun hE => mt_X1_textByte hl hE) rfl (Nat.le_of_ble_eq_true rfl) ⟨⟨Nat.le_of_ble_eq_true rfl, Nat.le_of_ble_eq_true rfl⟩, Nat.le_of_ble_eq_true rfl, Nat.le_of_ble_eq_true rfl⟩ (zg_retI (fun v1 h1 hE => ?_)) (fun E9 q9 h9 hE => ?_)
  · refine zg_cost (kc2 := 1) (ks2 := 6) ⟨rfl, rfl⟩ ?_
    refine zg_i2l ok dX0_textByte_7 ?_
    refine zg_last ok dX0_textByte_8 hE (fun h2 hE => ?_)
    refine zg_goto (tgt := 15) ok dX0_textByte_9 (by decide) ?_
    refine zg_iconst (v := 0) ok dX0_textByte_15 (by decide) ?_
    exact zg_iret ok fin dX0_textByte_16 ⟨Nat.le_of_ble_eq_true rfl, Nat.le_of_ble_eq_true rfl⟩ hE
  · by_cases c9 : E9 = "java/lang/IndexOutOfBoundsException"
    · rw [if_pos c9] at hE
      subst c9
      refine zg_catch ok tab ((tableOf [((0 : Nat), (9 : Nat), (12 : Nat), (13 : Nat))]).take 0) ((tableOf [((0 : Nat), (9 : Nat), (12 : Nat), (13 : Nat))])[0]) ((tableOf [((0 : Nat), (9 : Nat), (12 : Nat), (13 : Nat))]).drop 1) rfl (fun z hz => by cases hz) (by decide +kernel) (by decide) q274 q368 ?_
      refine zg_astore_nR (L' := [(3, va_rf (some q9)), (0, va_rf a0), (1, .int a1), (2, va_rf a2)]) ok dX0_textByte_12 rfl (by decide) 2 rfl rfl rfl ?_
      refine zg_iconst (v := 1) ok dX0_textByte_13 (by decide) ?_
      exact zg_iret ok fin dX0_textByte_14 ⟨Nat.le_of_ble_eq_true rfl, Nat.le_of_ble_eq_true rfl⟩ hE
    rw [if_neg c9] at hE
    exact hE.elim
set_option maxHeartbeats 8000000 in
theorem mt_X0_add {l : Launch} (hl : l.stackTraces = false) {Z : zw_Z} {a0 : Option Nat} {a1 : Int32} {a2 : Int32} {a3 : Int32} {a4 : Option Nat} {h : zw_H} {Q : Int32 → zw_H → Prop} {X : String → Nat → zw_H → Prop} (hE : f_X0_add Z.2.2.2 a0 a1 a2 a3 a4 h Q X) : zw_Met l Z yX0_add (wsW_ yX0_add cX0_add 6 (Option.some Jvm.ClassFile.FieldType.int) [((0 : Nat), (12 : Nat), (15 : Nat), (20 : Nat)), ((0 : Nat), (12 : Nat), (19 : Nat), (15 : Nat))]) rm_X0_add [zA a0, zI a1, zI a2, zI a3, zA a4] h (zq_I Q) X := by
  refine zg_startW (own := "MultipoleLineLaw") (by decide +kernel) rfl (Nat.le_of_ble_eq_true rfl) hl (fun Xc ok tab fin hRm hXl hXZ => ?_)
  subst hXl
  subst hXZ
  unfold f_X0_add at hE
  refine zg_aload ok dX0_add_0 4 rfl ?_
  refine zg_iconst (v := 0) ok dX0_add_2 (by decide) ?_
  refine zg_aload_n ok dX0_add_3 rfl 0 rfl ?_
  refine zg_iload_n ok dX0_add_4 rfl 1 rfl ?_
  refine zg_iload_n ok dX0_add_5 rfl 2 rfl ?_
  refine zg_iload_n ok dX0_add_6 rfl 3 rfl ?_
  refine zg_callV (vs := [zI a1, zI a2, zI a3]) (rest := [.int 0, va_rf a4]) (rm := rm_X1_add) ok hRm lk_X0_180 dX0_add_7 hE (fun hE => mt_X1_add hl hE) rfl (Nat.le_of_ble_eq_true rfl) ⟨⟨Nat.le_of_ble_eq_true rfl, Nat.le_of_ble_eq_true rfl⟩, Nat.le_of_ble_eq_true rfl, Nat.le_of_ble_eq_true rfl⟩ (zg_retI (fun v1 h1 hE => ?_)) (fun E9 q9 h9 hE => ?_)
  · refine zg_cost (kc2 := 302) (ks2 := 2484) ⟨rfl, rfl⟩ ?_
    refine zg_i2l ok dX0_add_10 ?_
    refine zg_last ok dX0_add_11 hE (fun h2 hE => ?_)
    refine zg_goto (tgt := 23) ok dX0_add_12 (by decide) ?_
    refine zg_iconst (v := 0) ok dX0_add_23 (by decide) ?_
    exact zg_iret ok fin dX0_add_24 ⟨Nat.le_of_ble_eq_true rfl, Nat.le_of_ble_eq_true rfl⟩ hE
  · by_cases c9 : E9 = "java/lang/IllegalStateException"
    · rw [if_pos c9] at hE
      subst c9
      refine zg_catch ok tab ((tableOf [((0 : Nat), (12 : Nat), (15 : Nat), (20 : Nat)), ((0 : Nat), (12 : Nat), (19 : Nat), (15 : Nat))]).take 0) ((tableOf [((0 : Nat), (12 : Nat), (15 : Nat), (20 : Nat)), ((0 : Nat), (12 : Nat), (19 : Nat), (15 : Nat))])[0]) ((tableOf [((0 : Nat), (12 : Nat), (15 : Nat), (20 : Nat)), ((0 : Nat), (12 : Nat), (19 : Nat), (15 : Nat))]).drop 1) rfl (fun z hz => by cases hz) (by decide +kernel) (by decide) q1112 q1126 ?_
      refine zg_astoreR (L' := [(5, va_rf (some q9)), (0, va_rf a0), (1, .int a1), (2, .int a2), (3, .int a3), (4, va_rf a4)]) ok dX0_add_15 (by decide) 4 rfl rfl rfl ?_
      refine zg_iconst (v := 1) ok dX0_add_17 (by decide) ?_
      exact zg_iret ok fin dX0_add_18 ⟨Nat.le_of_ble_eq_true rfl, Nat.le_of_ble_eq_true rfl⟩ hE
    rw [if_neg c9] at hE
    by_cases c9 : E9 = "java/lang/IllegalArgumentException"
    · rw [if_pos c9] at hE
      subst c9
      refine zg_catch ok tab ((tableOf [((0 : Nat), (12 : Nat), (15 : Nat), (20 : Nat)), ((0 : Nat), (12 : Nat), (19 : Nat), (15 : Nat))]).take 1) ((tableOf [((0 : Nat), (12 : Nat), (15 : Nat), (20 : Nat)), ((0 : Nat), (12 : Nat), (19 : Nat), (15 : Nat))])[1]) ((tableOf [((0 : Nat), (12 : Nat), (15 : Nat), (20 : Nat)), ((0 : Nat), (12 : Nat), (19 : Nat), (15 : Nat))]).drop 2) rfl (by
          intro z hz
          cases hz with
          | head => exact Or.inr ⟨by decide, "java/lang/IllegalStateException", q1112, List.mem_of_getElem? (i := 5) rfl⟩
          | tail _ hz =>
            cases hz) (by decide +kernel) (by decide) q354 q652 ?_
      refine zg_astoreR (L' := [(5, va_rf (some q9)), (0, va_rf a0), (1, .int a1), (2, .int a2), (3, .int a3), (4, va_rf a4)]) ok dX0_add_19 (by decide) 4 rfl rfl rfl ?_
      refine zg_iconst (v := 2) ok dX0_add_21 (by decide) ?_
      exact zg_iret ok fin dX0_add_22 ⟨Nat.le_of_ble_eq_true rfl, Nat.le_of_ble_eq_true rfl⟩ hE
    rw [if_neg c9] at hE
    exact hE.elim
set_option maxHeartbeats 8000000 in
theorem mt_X0_move {l : Launch} (hl : l.stackTraces = false) {Z : zw_Z} {a0 : Option Nat} {a1 : Int32} {a2 : Int32} {a3 : Option Nat} {h : zw_H} {Q : Int32 → zw_H → Prop} {X : String → Nat → zw_H → Prop} (hE : f_X0_move Z.2.2.2 a0 a1 a2 a3 h Q X) : zw_Met l Z yX0_move (wsW_ yX0_move cX0_move 5 (Option.some Jvm.ClassFile.FieldType.int) [((0 : Nat), (10 : Nat), (13 : Nat), (20 : Nat)), ((0 : Nat), (10 : Nat), (17 : Nat), (13 : Nat)), ((0 : Nat), (10 : Nat), (21 : Nat), (15 : Nat))]) rm_X0_move [zA a0, zI a1, zI a2, zA a3] h (zq_I Q) X := by
  refine zg_startW (own := "MultipoleLineLaw") (by decide +kernel) rfl (Nat.le_of_ble_eq_true rfl) hl (fun Xc ok tab fin hRm hXl hXZ => ?_)
  subst hXl
  subst hXZ
  unfold f_X0_move at hE
  refine zg_aload_n ok dX0_move_0 rfl 3 rfl ?_
  refine zg_iconst (v := 0) ok dX0_move_1 (by decide) ?_
  refine zg_aload_n ok dX0_move_2 rfl 0 rfl ?_
  refine zg_iload_n ok dX0_move_3 rfl 1 rfl ?_
  refine zg_iload_n ok dX0_move_4 rfl 2 rfl ?_
  refine zg_callV (vs := [zI a1, zI a2]) (rest := [.int 0, va_rf a3]) (rm := rm_X1_move) ok hRm lk_X0_184 dX0_move_5 hE (fun hE => mt_X1_move hl hE) rfl (Nat.le_of_ble_eq_true rfl) ⟨⟨Nat.le_of_ble_eq_true rfl, Nat.le_of_ble_eq_true rfl⟩, Nat.le_of_ble_eq_true rfl, Nat.le_of_ble_eq_true rfl⟩ (zg_retI (fun v1 h1 hE => ?_)) (fun E9 q9 h9 hE => ?_)
  · refine zg_cost (kc2 := 297) (ks2 := 2415) ⟨rfl, rfl⟩ ?_
    refine zg_i2l ok dX0_move_8 ?_
    refine zg_last ok dX0_move_9 hE (fun h2 hE => ?_)
    refine zg_goto (tgt := 25) ok dX0_move_10 (by decide) ?_
    refine zg_iconst (v := 0) ok dX0_move_25 (by decide) ?_
    exact zg_iret ok fin dX0_move_26 ⟨Nat.le_of_ble_eq_true rfl, Nat.le_of_ble_eq_true rfl⟩ hE
  · by_cases c9 : E9 = "java/lang/IllegalStateException"
    · rw [if_pos c9] at hE
      subst c9
      refine zg_catch ok tab ((tableOf [((0 : Nat), (10 : Nat), (13 : Nat), (20 : Nat)), ((0 : Nat), (10 : Nat), (17 : Nat), (13 : Nat)), ((0 : Nat), (10 : Nat), (21 : Nat), (15 : Nat))]).take 0) ((tableOf [((0 : Nat), (10 : Nat), (13 : Nat), (20 : Nat)), ((0 : Nat), (10 : Nat), (17 : Nat), (13 : Nat)), ((0 : Nat), (10 : Nat), (21 : Nat), (15 : Nat))])[0]) ((tableOf [((0 : Nat), (10 : Nat), (13 : Nat), (20 : Nat)), ((0 : Nat), (10 : Nat), (17 : Nat), (13 : Nat)), ((0 : Nat), (10 : Nat), (21 : Nat), (15 : Nat))]).drop 1) rfl (fun z hz => by cases hz) (by decide +kernel) (by decide) q1112 q1126 ?_
      refine zg_astoreR (L' := [(4, va_rf (some q9)), (0, va_rf a0), (1, .int a1), (2, .int a2), (3, va_rf a3)]) ok dX0_move_13 (by decide) 3 rfl rfl rfl ?_
      refine zg_iconst (v := 1) ok dX0_move_15 (by decide) ?_
      exact zg_iret ok fin dX0_move_16 ⟨Nat.le_of_ble_eq_true rfl, Nat.le_of_ble_eq_true rfl⟩ hE
    rw [if_neg c9] at hE
    by_cases c9 : E9 = "java/lang/IndexOutOfBoundsException"
    · rw [if_pos c9] at hE
      subst c9
      refine zg_catch ok tab ((tableOf [((0 : Nat), (10 : Nat), (13 : Nat), (20 : Nat)), ((0 : Nat), (10 : Nat), (17 : Nat), (13 : Nat)), ((0 : Nat), (10 : Nat), (21 : Nat), (15 : Nat))]).take 1) ((tableOf [((0 : Nat), (10 : Nat), (13 : Nat), (20 : Nat)), ((0 : Nat), (10 : Nat), (17 : Nat), (13 : Nat)), ((0 : Nat), (10 : Nat), (21 : Nat), (15 : Nat))])[1]) ((tableOf [((0 : Nat), (10 : Nat), (13 : Nat), (20 : Nat)), ((0 : Nat), (10 : Nat), (17 : Nat), (13 : Nat)), ((0 : Nat), (10 : Nat), (21 : Nat), (15 : Nat))]).drop 2) rfl (by
          intro z hz
          cases hz with
          | head => exact Or.inr ⟨by decide, "java/lang/IllegalStateException", q1112, List.mem_of_getElem? (i := 3) rfl⟩
          | tail _ hz =>
            cases hz) (by decide +kernel) (by decide) q274 q368 ?_
      refine zg_astoreR (L' := [(4, va_rf (some q9)), (0, va_rf a0), (1, .int a1), (2, .int a2), (3, va_rf a3)]) ok dX0_move_17 (by decide) 3 rfl rfl rfl ?_
      refine zg_iconst (v := 2) ok dX0_move_19 (by decide) ?_
      exact zg_iret ok fin dX0_move_20 ⟨Nat.le_of_ble_eq_true rfl, Nat.le_of_ble_eq_true rfl⟩ hE
    rw [if_neg c9] at hE
    by_cases c9 : E9 = "java/lang/IllegalArgumentException"
    · rw [if_pos c9] at hE
      subst c9
      refine zg_catch ok tab ((tableOf [((0 : Nat), (10 : Nat), (13 : Nat), (20 : Nat)), ((0 : Nat), (10 : Nat), (17 : Nat), (13 : Nat)), ((0 : Nat), (10 : Nat), (21 : Nat), (15 : Nat))]).take 2) ((tableOf [((0 : Nat), (10 : Nat), (13 : Nat), (20 : Nat)), ((0 : Nat), (10 : Nat), (17 : Nat), (13 : Nat)), ((0 : Nat), (10 : Nat), (21 : Nat), (15 : Nat))])[2]) ((tableOf [((0 : Nat), (10 : Nat), (13 : Nat), (20 : Nat)), ((0 : Nat), (10 : Nat), (17 : Nat), (13 : Nat)), ((0 : Nat), (10 : Nat), (21 : Nat), (15 : Nat))]).drop 3) rfl (by
          intro z hz
          cases hz with
          | head => exact Or.inr ⟨by decide, "java/lang/IllegalStateException", q1112, List.mem_of_getElem? (i := 5) rfl⟩
          | tail _ hz =>
            cases hz with
            | head => exact Or.inr ⟨by decide, "java/lang/IndexOutOfBoundsException", q274, List.mem_of_getElem? (i := 6) rfl⟩
            | tail _ hz =>
              cases hz) (by decide +kernel) (by decide) q354 q652 ?_
      refine zg_astoreR (L' := [(4, va_rf (some q9)), (0, va_rf a0), (1, .int a1), (2, .int a2), (3, va_rf a3)]) ok dX0_move_21 (by decide) 3 rfl rfl rfl ?_
      refine zg_iconst (v := 3) ok dX0_move_23 (by decide) ?_
      exact zg_iret ok fin dX0_move_24 ⟨Nat.le_of_ble_eq_true rfl, Nat.le_of_ble_eq_true rfl⟩ hE
    rw [if_neg c9] at hE
    exact hE.elim
set_option maxHeartbeats 8000000 in
theorem mt_X0_setCharge {l : Launch} (hl : l.stackTraces = false) {Z : zw_Z} {a0 : Option Nat} {a1 : Int32} {a2 : Int32} {a3 : Option Nat} {h : zw_H} {Q : Int32 → zw_H → Prop} {X : String → Nat → zw_H → Prop} (hE : f_X0_setCharge Z.2.2.2 a0 a1 a2 a3 h Q X) : zw_Met l Z yX0_setCharge (wsW_ yX0_setCharge cX0_setCharge 5 (Option.some Jvm.ClassFile.FieldType.int) [((0 : Nat), (10 : Nat), (13 : Nat), (20 : Nat)), ((0 : Nat), (10 : Nat), (17 : Nat), (13 : Nat)), ((0 : Nat), (10 : Nat), (21 : Nat), (15 : Nat))]) rm_X0_setCharge [zA a0, zI a1, zI a2, zA a3] h (zq_I Q) X := by
  refine zg_startW (own := "MultipoleLineLaw") (by decide +kernel) rfl (Nat.le_of_ble_eq_true rfl) hl (fun Xc ok tab fin hRm hXl hXZ => ?_)
  subst hXl
  subst hXZ
  unfold f_X0_setCharge at hE
  refine zg_aload_n ok dX0_setCharge_0 rfl 3 rfl ?_
  refine zg_iconst (v := 0) ok dX0_setCharge_1 (by decide) ?_
  refine zg_aload_n ok dX0_setCharge_2 rfl 0 rfl ?_
  refine zg_iload_n ok dX0_setCharge_3 rfl 1 rfl ?_
  refine zg_iload_n ok dX0_setCharge_4 rfl 2 rfl ?_
  refine zg_callV (vs := [zI a1, zI a2]) (rest := [.int 0, va_rf a3]) (rm := rm_X1_setCharge) ok hRm lk_X0_187 dX0_setCharge_5 hE (fun hE => mt_X1_setCharge hl hE) rfl (Nat.le_of_ble_eq_true rfl) ⟨⟨Nat.le_of_ble_eq_true rfl, Nat.le_of_ble_eq_true rfl⟩, Nat.le_of_ble_eq_true rfl, Nat.le_of_ble_eq_true rfl⟩ (zg_retI (fun v1 h1 hE => ?_)) (fun E9 q9 h9 hE => ?_)
  · refine zg_cost (kc2 := 297) (ks2 := 2415) ⟨rfl, rfl⟩ ?_
    refine zg_i2l ok dX0_setCharge_8 ?_
    refine zg_last ok dX0_setCharge_9 hE (fun h2 hE => ?_)
    refine zg_goto (tgt := 25) ok dX0_setCharge_10 (by decide) ?_
    refine zg_iconst (v := 0) ok dX0_setCharge_25 (by decide) ?_
    exact zg_iret ok fin dX0_setCharge_26 ⟨Nat.le_of_ble_eq_true rfl, Nat.le_of_ble_eq_true rfl⟩ hE
  · by_cases c9 : E9 = "java/lang/IllegalStateException"
    · rw [if_pos c9] at hE
      subst c9
      refine zg_catch ok tab ((tableOf [((0 : Nat), (10 : Nat), (13 : Nat), (20 : Nat)), ((0 : Nat), (10 : Nat), (17 : Nat), (13 : Nat)), ((0 : Nat), (10 : Nat), (21 : Nat), (15 : Nat))]).take 0) ((tableOf [((0 : Nat), (10 : Nat), (13 : Nat), (20 : Nat)), ((0 : Nat), (10 : Nat), (17 : Nat), (13 : Nat)), ((0 : Nat), (10 : Nat), (21 : Nat), (15 : Nat))])[0]) ((tableOf [((0 : Nat), (10 : Nat), (13 : Nat), (20 : Nat)), ((0 : Nat), (10 : Nat), (17 : Nat), (13 : Nat)), ((0 : Nat), (10 : Nat), (21 : Nat), (15 : Nat))]).drop 1) rfl (fun z hz => by cases hz) (by decide +kernel) (by decide) q1112 q1126 ?_
      refine zg_astoreR (L' := [(4, va_rf (some q9)), (0, va_rf a0), (1, .int a1), (2, .int a2), (3, va_rf a3)]) ok dX0_setCharge_13 (by decide) 3 rfl rfl rfl ?_
      refine zg_iconst (v := 1) ok dX0_setCharge_15 (by decide) ?_
      exact zg_iret ok fin dX0_setCharge_16 ⟨Nat.le_of_ble_eq_true rfl, Nat.le_of_ble_eq_true rfl⟩ hE
    rw [if_neg c9] at hE
    by_cases c9 : E9 = "java/lang/IndexOutOfBoundsException"
    · rw [if_pos c9] at hE
      subst c9
      refine zg_catch ok tab ((tableOf [((0 : Nat), (10 : Nat), (13 : Nat), (20 : Nat)), ((0 : Nat), (10 : Nat), (17 : Nat), (13 : Nat)), ((0 : Nat), (10 : Nat), (21 : Nat), (15 : Nat))]).take 1) ((tableOf [((0 : Nat), (10 : Nat), (13 : Nat), (20 : Nat)), ((0 : Nat), (10 : Nat), (17 : Nat), (13 : Nat)), ((0 : Nat), (10 : Nat), (21 : Nat), (15 : Nat))])[1]) ((tableOf [((0 : Nat), (10 : Nat), (13 : Nat), (20 : Nat)), ((0 : Nat), (10 : Nat), (17 : Nat), (13 : Nat)), ((0 : Nat), (10 : Nat), (21 : Nat), (15 : Nat))]).drop 2) rfl (by
          intro z hz
          cases hz with
          | head => exact Or.inr ⟨by decide, "java/lang/IllegalStateException", q1112, List.mem_of_getElem? (i := 3) rfl⟩
          | tail _ hz =>
            cases hz) (by decide +kernel) (by decide) q274 q368 ?_
      refine zg_astoreR (L' := [(4, va_rf (some q9)), (0, va_rf a0), (1, .int a1), (2, .int a2), (3, va_rf a3)]) ok dX0_setCharge_17 (by decide) 3 rfl rfl rfl ?_
      refine zg_iconst (v := 2) ok dX0_setCharge_19 (by decide) ?_
      exact zg_iret ok fin dX0_setCharge_20 ⟨Nat.le_of_ble_eq_true rfl, Nat.le_of_ble_eq_true rfl⟩ hE
    rw [if_neg c9] at hE
    by_cases c9 : E9 = "java/lang/IllegalArgumentException"
    · rw [if_pos c9] at hE
      subst c9
      refine zg_catch ok tab ((tableOf [((0 : Nat), (10 : Nat), (13 : Nat), (20 : Nat)), ((0 : Nat), (10 : Nat), (17 : Nat), (13 : Nat)), ((0 : Nat), (10 : Nat), (21 : Nat), (15 : Nat))]).take 2) ((tableOf [((0 : Nat), (10 : Nat), (13 : Nat), (20 : Nat)), ((0 : Nat), (10 : Nat), (17 : Nat), (13 : Nat)), ((0 : Nat), (10 : Nat), (21 : Nat), (15 : Nat))])[2]) ((tableOf [((0 : Nat), (10 : Nat), (13 : Nat), (20 : Nat)), ((0 : Nat), (10 : Nat), (17 : Nat), (13 : Nat)), ((0 : Nat), (10 : Nat), (21 : Nat), (15 : Nat))]).drop 3) rfl (by
          intro z hz
          cases hz with
          | head => exact Or.inr ⟨by decide, "java/lang/IllegalStateException", q1112, List.mem_of_getElem? (i := 5) rfl⟩
          | tail _ hz =>
            cases hz with
            | head => exact Or.inr ⟨by decide, "java/lang/IndexOutOfBoundsException", q274, List.mem_of_getElem? (i := 6) rfl⟩
            | tail _ hz =>
              cases hz) (by decide +kernel) (by decide) q354 q652 ?_
      refine zg_astoreR (L' := [(4, va_rf (some q9)), (0, va_rf a0), (1, .int a1), (2, .int a2), (3, va_rf a3)]) ok dX0_setCharge_21 (by decide) 3 rfl rfl rfl ?_
      refine zg_iconst (v := 3) ok dX0_setCharge_23 (by decide) ?_
      exact zg_iret ok fin dX0_setCharge_24 ⟨Nat.le_of_ble_eq_true rfl, Nat.le_of_ble_eq_true rfl⟩ hE
    rw [if_neg c9] at hE
    exact hE.elim
set_option maxHeartbeats 8000000 in
theorem mt_X0_remove {l : Launch} (hl : l.stackTraces = false) {Z : zw_Z} {a0 : Option Nat} {a1 : Int32} {a2 : Option Nat} {h : zw_H} {Q : Int32 → zw_H → Prop} {X : String → Nat → zw_H → Prop} (hE : f_X0_remove Z.2.2.2 a0 a1 a2 h Q X) : zw_Met l Z yX0_remove (wsW_ yX0_remove cX0_remove 4 (Option.some Jvm.ClassFile.FieldType.int) [((0 : Nat), (9 : Nat), (12 : Nat), (20 : Nat)), ((0 : Nat), (9 : Nat), (15 : Nat), (13 : Nat))]) rm_X0_remove [zA a0, zI a1, zA a2] h (zq_I Q) X := by
  refine zg_startW (own := "MultipoleLineLaw") (by decide +kernel) rfl (Nat.le_of_ble_eq_true rfl) hl (fun Xc ok tab fin hRm hXl hXZ => ?_)
  subst hXl
  subst hXZ
  unfold f_X0_remove at hE
  refine zg_aload_n ok dX0_remove_0 rfl 2 rfl ?_
  refine zg_iconst (v := 0) ok dX0_remove_1 (by decide) ?_
  refine zg_aload_n ok dX0_remove_2 rfl 0 rfl ?_
  refine zg_iload_n ok dX0_remove_3 rfl 1 rfl ?_
  refine zg_callV (vs := [zI a1]) (rest := [.int 0, va_rf a2]) (rm := rm_X1_remove) ok hRm lk_X0_190 dX0_remove_4 hE (fun hE => mt_X1_remove hl hE) rfl (Nat.le_of_ble_eq_true rfl) ⟨⟨Nat.le_of_ble_eq_true rfl, Nat.le_of_ble_eq_true rfl⟩, Nat.le_of_ble_eq_true rfl, Nat.le_of_ble_eq_true rfl⟩ (zg_retI (fun v1 h1 hE => ?_)) (fun E9 q9 h9 hE => ?_)
  · refine zg_cost (kc2 := 296) (ks2 := 2409) ⟨rfl, rfl⟩ ?_
    refine zg_i2l ok dX0_remove_7 ?_
    refine zg_last ok dX0_remove_8 hE (fun h2 hE => ?_)
    refine zg_goto (tgt := 18) ok dX0_remove_9 (by decide) ?_
    refine zg_iconst (v := 0) ok dX0_remove_18 (by decide) ?_
    exact zg_iret ok fin dX0_remove_19 ⟨Nat.le_of_ble_eq_true rfl, Nat.le_of_ble_eq_true rfl⟩ hE
  · by_cases c9 : E9 = "java/lang/IllegalStateException"
    · rw [if_pos c9] at hE
      subst c9
      refine zg_catch ok tab ((tableOf [((0 : Nat), (9 : Nat), (12 : Nat), (20 : Nat)), ((0 : Nat), (9 : Nat), (15 : Nat), (13 : Nat))]).take 0) ((tableOf [((0 : Nat), (9 : Nat), (12 : Nat), (20 : Nat)), ((0 : Nat), (9 : Nat), (15 : Nat), (13 : Nat))])[0]) ((tableOf [((0 : Nat), (9 : Nat), (12 : Nat), (20 : Nat)), ((0 : Nat), (9 : Nat), (15 : Nat), (13 : Nat))]).drop 1) rfl (fun z hz => by cases hz) (by decide +kernel) (by decide) q1112 q1126 ?_
      refine zg_astore_nR (L' := [(3, va_rf (some q9)), (0, va_rf a0), (1, .int a1), (2, va_rf a2)]) ok dX0_remove_12 rfl (by decide) 2 rfl rfl rfl ?_
      refine zg_iconst (v := 1) ok dX0_remove_13 (by decide) ?_
      exact zg_iret ok fin dX0_remove_14 ⟨Nat.le_of_ble_eq_true rfl, Nat.le_of_ble_eq_true rfl⟩ hE
    rw [if_neg c9] at hE
    by_cases c9 : E9 = "java/lang/IndexOutOfBoundsException"
    · rw [if_pos c9] at hE
      subst c9
      refine zg_catch ok tab ((tableOf [((0 : Nat), (9 : Nat), (12 : Nat), (20 : Nat)), ((0 : Nat), (9 : Nat), (15 : Nat), (13 : Nat))]).take 1) ((tableOf [((0 : Nat), (9 : Nat), (12 : Nat), (20 : Nat)), ((0 : Nat), (9 : Nat), (15 : Nat), (13 : Nat))])[1]) ((tableOf [((0 : Nat), (9 : Nat), (12 : Nat), (20 : Nat)), ((0 : Nat), (9 : Nat), (15 : Nat), (13 : Nat))]).drop 2) rfl (by
          intro z hz
          cases hz with
          | head => exact Or.inr ⟨by decide, "java/lang/IllegalStateException", q1112, List.mem_of_getElem? (i := 3) rfl⟩
          | tail _ hz =>
            cases hz) (by decide +kernel) (by decide) q274 q368 ?_
      refine zg_astore_nR (L' := [(3, va_rf (some q9)), (0, va_rf a0), (1, .int a1), (2, va_rf a2)]) ok dX0_remove_15 rfl (by decide) 2 rfl rfl rfl ?_
      refine zg_iconst (v := 2) ok dX0_remove_16 (by decide) ?_
      exact zg_iret ok fin dX0_remove_17 ⟨Nat.le_of_ble_eq_true rfl, Nat.le_of_ble_eq_true rfl⟩ hE
    rw [if_neg c9] at hE
    exact hE.elim
set_option maxHeartbeats 8000000 in
theorem mt_X0_step {l : Launch} (hl : l.stackTraces = false) {Z : zw_Z} {a0 : Option Nat} {a1 : Int32} {a2 : Option Nat} {h : zw_H} {Q : Int32 → zw_H → Prop} {X : String → Nat → zw_H → Prop} (hE : f_X0_step Z.2.2.2 a0 a1 a2 h Q X) : zw_Met l Z yX0_step (wsW_ yX0_step cX0_step 4 (Option.some Jvm.ClassFile.FieldType.int) [((0 : Nat), (9 : Nat), (12 : Nat), (20 : Nat)), ((0 : Nat), (9 : Nat), (15 : Nat), (15 : Nat))]) rm_X0_step [zA a0, zI a1, zA a2] h (zq_I Q) X := by
  refine zg_startW (own := "MultipoleLineLaw") (by decide +kernel) rfl (Nat.le_of_ble_eq_true rfl) hl (fun Xc ok tab fin hRm hXl hXZ => ?_)
  subst hXl
  subst hXZ
  unfold f_X0_step at hE
  refine zg_aload_n ok dX0_step_0 rfl 2 rfl ?_
  refine zg_iconst (v := 0) ok dX0_step_1 (by decide) ?_
  refine zg_aload_n ok dX0_step_2 rfl 0 rfl ?_
  refine zg_iload_n ok dX0_step_3 rfl 1 rfl ?_
  refine zg_callV (vs := [zI a1]) (rest := [.int 0, va_rf a2]) (rm := rm_X1_step) ok hRm lk_X0_193 dX0_step_4 hE (fun hE => mt_X1_step hl hE) rfl (Nat.le_of_ble_eq_true rfl) ⟨⟨Nat.le_of_ble_eq_true rfl, Nat.le_of_ble_eq_true rfl⟩, Nat.le_of_ble_eq_true rfl, Nat.le_of_ble_eq_true rfl⟩ (zg_retI (fun v1 h1 hE => ?_)) (fun E9 q9 h9 hE => ?_)
  · refine zg_cost (kc2 := 297) (ks2 := 2415) ⟨rfl, rfl⟩ ?_
    refine zg_i2l ok dX0_step_7 ?_
    refine zg_last ok dX0_step_8 hE (fun h2 hE => ?_)
    refine zg_goto (tgt := 18) ok dX0_step_9 (by decide) ?_
    refine zg_iconst (v := 0) ok dX0_step_18 (by decide) ?_
    exact zg_iret ok fin dX0_step_19 ⟨Nat.le_of_ble_eq_true rfl, Nat.le_of_ble_eq_true rfl⟩ hE
  · by_cases c9 : E9 = "java/lang/IllegalStateException"
    · rw [if_pos c9] at hE
      subst c9
      refine zg_catch ok tab ((tableOf [((0 : Nat), (9 : Nat), (12 : Nat), (20 : Nat)), ((0 : Nat), (9 : Nat), (15 : Nat), (15 : Nat))]).take 0) ((tableOf [((0 : Nat), (9 : Nat), (12 : Nat), (20 : Nat)), ((0 : Nat), (9 : Nat), (15 : Nat), (15 : Nat))])[0]) ((tableOf [((0 : Nat), (9 : Nat), (12 : Nat), (20 : Nat)), ((0 : Nat), (9 : Nat), (15 : Nat), (15 : Nat))]).drop 1) rfl (fun z hz => by cases hz) (by decide +kernel) (by decide) q1112 q1126 ?_
      refine zg_astore_nR (L' := [(3, va_rf (some q9)), (0, va_rf a0), (1, .int a1), (2, va_rf a2)]) ok dX0_step_12 rfl (by decide) 2 rfl rfl rfl ?_
      refine zg_iconst (v := 1) ok dX0_step_13 (by decide) ?_
      exact zg_iret ok fin dX0_step_14 ⟨Nat.le_of_ble_eq_true rfl, Nat.le_of_ble_eq_true rfl⟩ hE
    rw [if_neg c9] at hE
    by_cases c9 : E9 = "java/lang/IllegalArgumentException"
    · rw [if_pos c9] at hE
      subst c9
      refine zg_catch ok tab ((tableOf [((0 : Nat), (9 : Nat), (12 : Nat), (20 : Nat)), ((0 : Nat), (9 : Nat), (15 : Nat), (15 : Nat))]).take 1) ((tableOf [((0 : Nat), (9 : Nat), (12 : Nat), (20 : Nat)), ((0 : Nat), (9 : Nat), (15 : Nat), (15 : Nat))])[1]) ((tableOf [((0 : Nat), (9 : Nat), (12 : Nat), (20 : Nat)), ((0 : Nat), (9 : Nat), (15 : Nat), (15 : Nat))]).drop 2) rfl (by
          intro z hz
          cases hz with
          | head => exact Or.inr ⟨by decide, "java/lang/IllegalStateException", q1112, List.mem_of_getElem? (i := 5) rfl⟩
          | tail _ hz =>
            cases hz) (by decide +kernel) (by decide) q354 q652 ?_
      refine zg_astore_nR (L' := [(3, va_rf (some q9)), (0, va_rf a0), (1, .int a1), (2, va_rf a2)]) ok dX0_step_15 rfl (by decide) 2 rfl rfl rfl ?_
      refine zg_iconst (v := 2) ok dX0_step_16 (by decide) ?_
      exact zg_iret ok fin dX0_step_17 ⟨Nat.le_of_ble_eq_true rfl, Nat.le_of_ble_eq_true rfl⟩ hE
    rw [if_neg c9] at hE
    exact hE.elim
set_option maxHeartbeats 8000000 in
theorem mt_X0_setNumber {l : Launch} (hl : l.stackTraces = false) {Z : zw_Z} {a0 : Option Nat} {a1 : Int32} {a2 : Int32} {a3 : Option Nat} {h : zw_H} {Q : Int32 → zw_H → Prop} {X : String → Nat → zw_H → Prop} (hE : f_X0_setNumber Z.2.2.2 a0 a1 a2 a3 h Q X) : zw_Met l Z yX0_setNumber (wsW_ yX0_setNumber cX0_setNumber 5 (Option.some Jvm.ClassFile.FieldType.int) [((0 : Nat), (10 : Nat), (13 : Nat), (20 : Nat)), ((0 : Nat), (10 : Nat), (17 : Nat), (15 : Nat))]) rm_X0_setNumber [zA a0, zI a1, zI a2, zA a3] h (zq_I Q) X := by
  refine zg_startW (own := "MultipoleLineLaw") (by decide +kernel) rfl (Nat.le_of_ble_eq_true rfl) hl (fun Xc ok tab fin hRm hXl hXZ => ?_)
  subst hXl
  subst hXZ
  unfold f_X0_setNumber at hE
  refine zg_aload_n ok dX0_setNumber_0 rfl 3 rfl ?_
  refine zg_iconst (v := 0) ok dX0_setNumber_1 (by decide) ?_
  refine zg_aload_n ok dX0_setNumber_2 rfl 0 rfl ?_
  refine zg_iload_n ok dX0_setNumber_3 rfl 1 rfl ?_
  refine zg_iload_n ok dX0_setNumber_4 rfl 2 rfl ?_
  refine zg_callV (vs := [zI a1, zI a2]) (rest := [.int 0, va_rf a3]) (rm := rm_X1_setNumber) ok hRm lk_X0_196 dX0_setNumber_5 hE (fun hE => mt_X1_setNumber hl hE) rfl (Nat.le_of_ble_eq_true rfl) ⟨⟨Nat.le_of_ble_eq_true rfl, Nat.le_of_ble_eq_true rfl⟩, Nat.le_of_ble_eq_true rfl, Nat.le_of_ble_eq_true rfl⟩ (zg_retI (fun v1 h1 hE => ?_)) (fun E9 q9 h9 hE => ?_)
  · refine zg_cost (kc2 := 296) (ks2 := 2409) ⟨rfl, rfl⟩ ?_
    refine zg_i2l ok dX0_setNumber_8 ?_
    refine zg_last ok dX0_setNumber_9 hE (fun h2 hE => ?_)
    refine zg_goto (tgt := 21) ok dX0_setNumber_10 (by decide) ?_
    refine zg_iconst (v := 0) ok dX0_setNumber_21 (by decide) ?_
    exact zg_iret ok fin dX0_setNumber_22 ⟨Nat.le_of_ble_eq_true rfl, Nat.le_of_ble_eq_true rfl⟩ hE
  · by_cases c9 : E9 = "java/lang/IllegalStateException"
    · rw [if_pos c9] at hE
      subst c9
      refine zg_catch ok tab ((tableOf [((0 : Nat), (10 : Nat), (13 : Nat), (20 : Nat)), ((0 : Nat), (10 : Nat), (17 : Nat), (15 : Nat))]).take 0) ((tableOf [((0 : Nat), (10 : Nat), (13 : Nat), (20 : Nat)), ((0 : Nat), (10 : Nat), (17 : Nat), (15 : Nat))])[0]) ((tableOf [((0 : Nat), (10 : Nat), (13 : Nat), (20 : Nat)), ((0 : Nat), (10 : Nat), (17 : Nat), (15 : Nat))]).drop 1) rfl (fun z hz => by cases hz) (by decide +kernel) (by decide) q1112 q1126 ?_
      refine zg_astoreR (L' := [(4, va_rf (some q9)), (0, va_rf a0), (1, .int a1), (2, .int a2), (3, va_rf a3)]) ok dX0_setNumber_13 (by decide) 3 rfl rfl rfl ?_
      refine zg_iconst (v := 1) ok dX0_setNumber_15 (by decide) ?_
      exact zg_iret ok fin dX0_setNumber_16 ⟨Nat.le_of_ble_eq_true rfl, Nat.le_of_ble_eq_true rfl⟩ hE
    rw [if_neg c9] at hE
    by_cases c9 : E9 = "java/lang/IllegalArgumentException"
    · rw [if_pos c9] at hE
      subst c9
      refine zg_catch ok tab ((tableOf [((0 : Nat), (10 : Nat), (13 : Nat), (20 : Nat)), ((0 : Nat), (10 : Nat), (17 : Nat), (15 : Nat))]).take 1) ((tableOf [((0 : Nat), (10 : Nat), (13 : Nat), (20 : Nat)), ((0 : Nat), (10 : Nat), (17 : Nat), (15 : Nat))])[1]) ((tableOf [((0 : Nat), (10 : Nat), (13 : Nat), (20 : Nat)), ((0 : Nat), (10 : Nat), (17 : Nat), (15 : Nat))]).drop 2) rfl (by
          intro z hz
          cases hz with
          | head => exact Or.inr ⟨by decide, "java/lang/IllegalStateException", q1112, List.mem_of_getElem? (i := 5) rfl⟩
          | tail _ hz =>
            cases hz) (by decide +kernel) (by decide) q354 q652 ?_
      refine zg_astoreR (L' := [(4, va_rf (some q9)), (0, va_rf a0), (1, .int a1), (2, .int a2), (3, va_rf a3)]) ok dX0_setNumber_17 (by decide) 3 rfl rfl rfl ?_
      refine zg_iconst (v := 2) ok dX0_setNumber_19 (by decide) ?_
      exact zg_iret ok fin dX0_setNumber_20 ⟨Nat.le_of_ble_eq_true rfl, Nat.le_of_ble_eq_true rfl⟩ hE
    rw [if_neg c9] at hE
    exact hE.elim
set_option maxHeartbeats 8000000 in
theorem mt_X0_undo {l : Launch} (hl : l.stackTraces = false) {Z : zw_Z} {a0 : Option Nat} {a1 : Option Nat} {h : zw_H} {Q : Int32 → zw_H → Prop} {X : String → Nat → zw_H → Prop} (hE : f_X0_undo Z.2.2.2 a0 a1 h Q X) : zw_Met l Z yX0_undo (wsW_ yX0_undo cX0_undo 3 (Option.some Jvm.ClassFile.FieldType.int) [((0 : Nat), (8 : Nat), (11 : Nat), (20 : Nat))]) rm_X0_undo [zA a0, zA a1] h (zq_I Q) X := by
  refine zg_startW (own := "MultipoleLineLaw") (by decide +kernel) rfl (Nat.le_of_ble_eq_true rfl) hl (fun Xc ok tab fin hRm hXl hXZ => ?_)
  subst hXl
  subst hXZ
  unfold f_X0_undo at hE
  refine zg_aload_n ok dX0_undo_0 rfl 1 rfl ?_
  refine zg_iconst (v := 0) ok dX0_undo_1 (by decide) ?_
  refine zg_aload_n ok dX0_undo_2 rfl 0 rfl ?_
  refine zg_callV (vs := []) (rest := [.int 0, va_rf a1]) (rm := rm_X1_undo) ok hRm lk_X0_199 dX0_undo_3 hE (fun hE => mt_X1_undo hl hE) rfl (Nat.le_of_ble_eq_true rfl) ⟨⟨Nat.le_of_ble_eq_true rfl, Nat.le_of_ble_eq_true rfl⟩, Nat.le_of_ble_eq_true rfl, Nat.le_of_ble_eq_true rfl⟩ (zg_retI (fun v1 h1 hE => ?_)) (fun E9 q9 h9 hE => ?_)
  · refine zg_cost (kc2 := 1) (ks2 := 6) ⟨rfl, rfl⟩ ?_
    refine zg_i2l ok dX0_undo_6 ?_
    refine zg_last ok dX0_undo_7 hE (fun h2 hE => ?_)
    refine zg_goto (tgt := 14) ok dX0_undo_8 (by decide) ?_
    refine zg_iconst (v := 0) ok dX0_undo_14 (by decide) ?_
    exact zg_iret ok fin dX0_undo_15 ⟨Nat.le_of_ble_eq_true rfl, Nat.le_of_ble_eq_true rfl⟩ hE
  · by_cases c9 : E9 = "java/lang/IllegalStateException"
    · rw [if_pos c9] at hE
      subst c9
      refine zg_catch ok tab ((tableOf [((0 : Nat), (8 : Nat), (11 : Nat), (20 : Nat))]).take 0) ((tableOf [((0 : Nat), (8 : Nat), (11 : Nat), (20 : Nat))])[0]) ((tableOf [((0 : Nat), (8 : Nat), (11 : Nat), (20 : Nat))]).drop 1) rfl (fun z hz => by cases hz) (by decide +kernel) (by decide) q1112 q1126 ?_
      refine zg_astore_nR (L' := [(2, va_rf (some q9)), (0, va_rf a0), (1, va_rf a1)]) ok dX0_undo_11 rfl (by decide) 1 rfl rfl rfl ?_
      refine zg_iconst (v := 1) ok dX0_undo_12 (by decide) ?_
      exact zg_iret ok fin dX0_undo_13 ⟨Nat.le_of_ble_eq_true rfl, Nat.le_of_ble_eq_true rfl⟩ hE
    rw [if_neg c9] at hE
    exact hE.elim
set_option maxHeartbeats 8000000 in
theorem mt_X0_save {l : Launch} (hl : l.stackTraces = false) {Z : zw_Z} {a0 : Option Nat} {a1 : Int32} {a2 : Option Nat} {h : zw_H} {Q : Int32 → zw_H → Prop} {X : String → Nat → zw_H → Prop} (hE : f_X0_save Z.2.2.2 a0 a1 a2 h Q X) : zw_Met l Z yX0_save (wsW_ yX0_save cX0_save 4 (Option.some Jvm.ClassFile.FieldType.int) [((0 : Nat), (9 : Nat), (12 : Nat), (20 : Nat)), ((0 : Nat), (9 : Nat), (15 : Nat), (13 : Nat))]) rm_X0_save [zA a0, zI a1, zA a2] h (zq_I Q) X := by
  refine zg_startW (own := "MultipoleLineLaw") (by decide +kernel) rfl (Nat.le_of_ble_eq_true rfl) hl (fun Xc ok tab fin hRm hXl hXZ => ?_)
  subst hXl
  subst hXZ
  unfold f_X0_save at hE
  refine zg_aload_n ok dX0_save_0 rfl 2 rfl ?_
  refine zg_iconst (v := 0) ok dX0_save_1 (by decide) ?_
  refine zg_aload_n ok dX0_save_2 rfl 0 rfl ?_
  refine zg_iload_n ok dX0_save_3 rfl 1 rfl ?_
  refine zg_callV (vs := [zI a1]) (rest := [.int 0, va_rf a2]) (rm := rm_X1_save) ok hRm lk_X0_202 dX0_save_4 hE (fun hE => mt_X1_save hl hE) rfl (Nat.le_of_ble_eq_true rfl) ⟨⟨Nat.le_of_ble_eq_true rfl, Nat.le_of_ble_eq_true rfl⟩, Nat.le_of_ble_eq_true rfl, Nat.le_of_ble_eq_true rfl⟩ (zg_retI (fun v1 h1 hE => ?_)) (fun E9 q9 h9 hE => ?_)
  · refine zg_cost (kc2 := 295) (ks2 := 2369) ⟨rfl, rfl⟩ ?_
    refine zg_i2l ok dX0_save_7 ?_
    refine zg_last ok dX0_save_8 hE (fun h2 hE => ?_)
    refine zg_goto (tgt := 18) ok dX0_save_9 (by decide) ?_
    refine zg_iconst (v := 0) ok dX0_save_18 (by decide) ?_
    exact zg_iret ok fin dX0_save_19 ⟨Nat.le_of_ble_eq_true rfl, Nat.le_of_ble_eq_true rfl⟩ hE
  · by_cases c9 : E9 = "java/lang/IllegalStateException"
    · rw [if_pos c9] at hE
      subst c9
      refine zg_catch ok tab ((tableOf [((0 : Nat), (9 : Nat), (12 : Nat), (20 : Nat)), ((0 : Nat), (9 : Nat), (15 : Nat), (13 : Nat))]).take 0) ((tableOf [((0 : Nat), (9 : Nat), (12 : Nat), (20 : Nat)), ((0 : Nat), (9 : Nat), (15 : Nat), (13 : Nat))])[0]) ((tableOf [((0 : Nat), (9 : Nat), (12 : Nat), (20 : Nat)), ((0 : Nat), (9 : Nat), (15 : Nat), (13 : Nat))]).drop 1) rfl (fun z hz => by cases hz) (by decide +kernel) (by decide) q1112 q1126 ?_
      refine zg_astore_nR (L' := [(3, va_rf (some q9)), (0, va_rf a0), (1, .int a1), (2, va_rf a2)]) ok dX0_save_12 rfl (by decide) 2 rfl rfl rfl ?_
      refine zg_iconst (v := 1) ok dX0_save_13 (by decide) ?_
      exact zg_iret ok fin dX0_save_14 ⟨Nat.le_of_ble_eq_true rfl, Nat.le_of_ble_eq_true rfl⟩ hE
    rw [if_neg c9] at hE
    by_cases c9 : E9 = "java/lang/IndexOutOfBoundsException"
    · rw [if_pos c9] at hE
      subst c9
      refine zg_catch ok tab ((tableOf [((0 : Nat), (9 : Nat), (12 : Nat), (20 : Nat)), ((0 : Nat), (9 : Nat), (15 : Nat), (13 : Nat))]).take 1) ((tableOf [((0 : Nat), (9 : Nat), (12 : Nat), (20 : Nat)), ((0 : Nat), (9 : Nat), (15 : Nat), (13 : Nat))])[1]) ((tableOf [((0 : Nat), (9 : Nat), (12 : Nat), (20 : Nat)), ((0 : Nat), (9 : Nat), (15 : Nat), (13 : Nat))]).drop 2) rfl (by
          intro z hz
          cases hz with
          | head => exact Or.inr ⟨by decide, "java/lang/IllegalStateException", q1112, List.mem_of_getElem? (i := 3) rfl⟩
          | tail _ hz =>
            cases hz) (by decide +kernel) (by decide) q274 q368 ?_
      refine zg_astore_nR (L' := [(3, va_rf (some q9)), (0, va_rf a0), (1, .int a1), (2, va_rf a2)]) ok dX0_save_15 rfl (by decide) 2 rfl rfl rfl ?_
      refine zg_iconst (v := 2) ok dX0_save_16 (by decide) ?_
      exact zg_iret ok fin dX0_save_17 ⟨Nat.le_of_ble_eq_true rfl, Nat.le_of_ble_eq_true rfl⟩ hE
    rw [if_neg c9] at hE
    exact hE.elim
set_option maxHeartbeats 8000000 in
theorem mt_X0_restore {l : Launch} (hl : l.stackTraces = false) {Z : zw_Z} {a0 : Option Nat} {a1 : Int32} {a2 : Option Nat} {h : zw_H} {Q : Int32 → zw_H → Prop} {X : String → Nat → zw_H → Prop} (hE : f_X0_restore Z.2.2.2 a0 a1 a2 h Q X) : zw_Met l Z yX0_restore (wsW_ yX0_restore cX0_restore 4 (Option.some Jvm.ClassFile.FieldType.int) [((0 : Nat), (9 : Nat), (12 : Nat), (13 : Nat)), ((0 : Nat), (9 : Nat), (15 : Nat), (20 : Nat))]) rm_X0_restore [zA a0, zI a1, zA a2] h (zq_I Q) X := by
  refine zg_startW (own := "MultipoleLineLaw") (by decide +kernel) rfl (Nat.le_of_ble_eq_true rfl) hl (fun Xc ok tab fin hRm hXl hXZ => ?_)
  subst hXl
  subst hXZ
  unfold f_X0_restore at hE
  refine zg_aload_n ok dX0_restore_0 rfl 2 rfl ?_
  refine zg_iconst (v := 0) ok dX0_restore_1 (by decide) ?_
  refine zg_aload_n ok dX0_restore_2 rfl 0 rfl ?_
  refine zg_iload_n ok dX0_restore_3 rfl 1 rfl ?_
  refine zg_callV (vs := [zI a1]) (rest := [.int 0, va_rf a2]) (rm := rm_X1_restore) ok hRm lk_X0_205 dX0_restore_4 hE (fun hE => mt_X1_restore hl hE) rfl (Nat.le_of_ble_eq_true rfl) ⟨⟨Nat.le_of_ble_eq_true rfl, Nat.le_of_ble_eq_true rfl⟩, Nat.le_of_ble_eq_true rfl, Nat.le_of_ble_eq_true rfl⟩ (zg_retI (fun v1 h1 hE => ?_)) (fun E9 q9 h9 hE => ?_)
  · refine zg_cost (kc2 := 295) (ks2 := 2369) ⟨rfl, rfl⟩ ?_
    refine zg_i2l ok dX0_restore_7 ?_
    refine zg_last ok dX0_restore_8 hE (fun h2 hE => ?_)
    refine zg_goto (tgt := 18) ok dX0_restore_9 (by decide) ?_
    refine zg_iconst (v := 0) ok dX0_restore_18 (by decide) ?_
    exact zg_iret ok fin dX0_restore_19 ⟨Nat.le_of_ble_eq_true rfl, Nat.le_of_ble_eq_true rfl⟩ hE
  · by_cases c9 : E9 = "java/lang/IndexOutOfBoundsException"
    · rw [if_pos c9] at hE
      subst c9
      refine zg_catch ok tab ((tableOf [((0 : Nat), (9 : Nat), (12 : Nat), (13 : Nat)), ((0 : Nat), (9 : Nat), (15 : Nat), (20 : Nat))]).take 0) ((tableOf [((0 : Nat), (9 : Nat), (12 : Nat), (13 : Nat)), ((0 : Nat), (9 : Nat), (15 : Nat), (20 : Nat))])[0]) ((tableOf [((0 : Nat), (9 : Nat), (12 : Nat), (13 : Nat)), ((0 : Nat), (9 : Nat), (15 : Nat), (20 : Nat))]).drop 1) rfl (fun z hz => by cases hz) (by decide +kernel) (by decide) q274 q368 ?_
      refine zg_astore_nR (L' := [(3, va_rf (some q9)), (0, va_rf a0), (1, .int a1), (2, va_rf a2)]) ok dX0_restore_12 rfl (by decide) 2 rfl rfl rfl ?_
      refine zg_iconst (v := 1) ok dX0_restore_13 (by decide) ?_
      exact zg_iret ok fin dX0_restore_14 ⟨Nat.le_of_ble_eq_true rfl, Nat.le_of_ble_eq_true rfl⟩ hE
    rw [if_neg c9] at hE
    by_cases c9 : E9 = "java/lang/IllegalStateException"
    · rw [if_pos c9] at hE
      subst c9
      refine zg_catch ok tab ((tableOf [((0 : Nat), (9 : Nat), (12 : Nat), (13 : Nat)), ((0 : Nat), (9 : Nat), (15 : Nat), (20 : Nat))]).take 1) ((tableOf [((0 : Nat), (9 : Nat), (12 : Nat), (13 : Nat)), ((0 : Nat), (9 : Nat), (15 : Nat), (20 : Nat))])[1]) ((tableOf [((0 : Nat), (9 : Nat), (12 : Nat), (13 : Nat)), ((0 : Nat), (9 : Nat), (15 : Nat), (20 : Nat))]).drop 2) rfl (by
          intro z hz
          cases hz with
          | head => exact Or.inr ⟨by decide, "java/lang/IndexOutOfBoundsException", q274, List.mem_of_getElem? (i := 1) rfl⟩
          | tail _ hz =>
            cases hz) (by decide +kernel) (by decide) q1112 q1126 ?_
      refine zg_astore_nR (L' := [(3, va_rf (some q9)), (0, va_rf a0), (1, .int a1), (2, va_rf a2)]) ok dX0_restore_15 rfl (by decide) 2 rfl rfl rfl ?_
      refine zg_iconst (v := 2) ok dX0_restore_16 (by decide) ?_
      exact zg_iret ok fin dX0_restore_17 ⟨Nat.le_of_ble_eq_true rfl, Nat.le_of_ble_eq_true rfl⟩ hE
    rw [if_neg c9] at hE
    exact hE.elim
