set_option maxRecDepth 100000
abbrev rm_X2_init : Room := { frames := 1, cells := 13, slots := 10712, locals := 20 }
def f_X2_init (K : Nat → Option Nat) (a0 : Option Nat) (h : zw_H) (Q : zw_H → Prop) (X : String → Nat → zw_H → Prop) : Prop :=
  (a0 ≠ none ∧ 
  on_I h 0 103 824 (fun v1 h1 =>
  op_V h1 a0 [0] 1 (va_rf (some v1)) (fun h2 =>
  on_I h2 0 103 824 (fun v2 h3 =>
  op_V h3 a0 [0] 2 (va_rf (some v2)) (fun h4 =>
  on_I h4 0 824 824 (fun v3 h5 =>
  op_V h5 a0 [0] 3 (va_rf (some v3)) (fun h6 =>
  on_I h6 0 206 824 (fun v4 h7 =>
  op_V h7 a0 [0] 4 (va_rf (some v4)) (fun h8 =>
  on_I h8 2 2 824 (fun v5 h9 =>
  op_V h9 a0 [0] 5 (va_rf (some v5)) (fun h10 =>
  on_I h10 1 500 824 (fun v6 h11 =>
  op_V h11 a0 [0] 8 (va_rf (some v6)) (fun h12 =>
  op_V h12 a0 [0] 11 (.int (-1)) (fun h13 =>
  on_J h13 3 315 824 (fun v7 h14 =>
  op_V h14 a0 [0] 17 (va_rf (some v7)) (fun h15 =>
  on_I h15 0 30 824 (fun v8 h16 =>
  op_V h16 a0 [0] 18 (va_rf (some v8)) (fun h17 =>
  on_I h17 0 30 824 (fun v9 h18 =>
  op_V h18 a0 [0] 19 (va_rf (some v9)) (fun h19 =>
  on_D h19 4 5 824 (fun v10 h20 =>
  op_V h20 a0 [0] 21 (va_rf (some v10)) (fun h21 =>
  on_D h21 4 5 824 (fun v11 h22 =>
  op_V h22 a0 [0] 22 (va_rf (some v11)) (fun h23 =>
  on_I h23 0 24 824 (fun v12 h24 =>
  op_V h24 a0 [0] 23 (va_rf (some v12)) (fun h25 =>
  on_I h25 1 480 824 (fun v13 h26 =>
  op_V h26 a0 [0] 24 (va_rf (some v13)) (fun h27 =>
  Q h27))))))))))))))))))))))))))))
abbrev rm_X2_thrown : Room := { frames := 0, cells := 0, slots := 0, locals := 0 }
def f_X2_thrown (K : Nat → Option Nat) (a0 : Option Nat) (h : zw_H) (Q : Int32 → zw_H → Prop) (X : String → Nat → zw_H → Prop) : Prop :=
  og_I h a0 [0] 0 (fun v1 =>
  Q v1 h)
abbrev rm_X2_four : Room := { frames := 0, cells := 0, slots := 0, locals := 0 }
def f_X2_four_B2 (K : Nat → Option Nat) (Q : zw_H → Prop) (X : String → Nat → zw_H → Prop)  (k38 : zw_H → Prop) (l0 : Option Nat) (l1 : Int32) (R : Int32 → zw_H → Prop) (l2 : Int32) (h : zw_H) : Prop :=
  if l2 < 0 then
    k38  h
  else
    og_A h l0 [0] 8 (fun v1 =>
    og_I h l0 [0] 9 (fun v2 =>
    os_I h v1 [1] v2 (vp_nar .byte ((l1 >>> (((8 : Int32) * l2) &&& 31)).toInt8.toInt32)) (fun h1 =>
    og_I h1 l0 [0] 9 (fun v3 =>
    op_V h1 l0 [0] 9 (.int (v3 + 1)) (fun h2 =>
    olet (l2 + (-1)) (fun v4 =>
    R v4 h2))))))
def f_X2_four (K : Nat → Option Nat) (a0 : Option Nat) (a1 : Int32) (h : zw_H) (Q : zw_H → Prop) (X : String → Nat → zw_H → Prop) : Prop :=
  zl2 (f_X2_four_B2 K Q X (fun h3 =>
    Q h3) a0 a1) zfu 3 h
abbrev rm_X2_append : Room := { frames := 1, cells := 0, slots := 0, locals := 22 }
def f_X2_append (K : Nat → Option Nat) (a0 : Option Nat) (a1 : Int32) (a2 : Int32) (a3 : Int32) (a4 : Int32) (a5 : Int32) (h : zw_H) (Q : Int32 → zw_H → Prop) (X : String → Nat → zw_H → Prop) : Prop :=
  op_V h a0 [0] 0 (.int 0) (fun h1 =>
  og_I h1 a0 [0] 9 (fun v1 =>
  if v1 ≤ 480 then
    oc_ h1 a0 [0] (f_X2_four K a0 a1 h1 (fun h2 =>
    oc_ h2 a0 [0] (f_X2_four K a0 a2 h2 (fun h3 =>
    oc_ h3 a0 [0] (f_X2_four K a0 a3 h3 (fun h4 =>
    oc_ h4 a0 [0] (f_X2_four K a0 a4 h4 (fun h5 =>
    oc_ h5 a0 [0] (f_X2_four K a0 a5 h5 (fun h6 =>
    og_I h6 a0 [0] 9 (fun v2 =>
    Q v2 h6)) X)) X)) X)) X)) X)
  else
    Q (-1) h1))
abbrev rm_X2_parseError : Room := { frames := 0, cells := 0, slots := 0, locals := 0 }
def f_X2_parseError (K : Nat → Option Nat) (a0 : Option Nat) (h : zw_H) (Q : Int32 → zw_H → Prop) (X : String → Nat → zw_H → Prop) : Prop :=
  op_V h a0 [0] 0 (.int 0) (fun h1 =>
  og_I h1 a0 [0] 10 (fun v1 =>
  Q v1 h1))
abbrev rm_X2_errorPosition : Room := { frames := 0, cells := 0, slots := 0, locals := 0 }
def f_X2_errorPosition (K : Nat → Option Nat) (a0 : Option Nat) (h : zw_H) (Q : Int32 → zw_H → Prop) (X : String → Nat → zw_H → Prop) : Prop :=
  op_V h a0 [0] 0 (.int 0) (fun h1 =>
  og_I h1 a0 [0] 11 (fun v1 =>
  Q v1 h1))
abbrev rm_X2_buffered : Room := { frames := 0, cells := 0, slots := 0, locals := 0 }
def f_X2_buffered (K : Nat → Option Nat) (a0 : Option Nat) (h : zw_H) (Q : Int32 → zw_H → Prop) (X : String → Nat → zw_H → Prop) : Prop :=
  op_V h a0 [0] 0 (.int 0) (fun h1 =>
  og_I h1 a0 [0] 9 (fun v1 =>
  Q v1 h1))
abbrev rm_X2_in : Room := { frames := 0, cells := 0, slots := 0, locals := 0 }
def f_X2_in (K : Nat → Option Nat) (a0 : Int32) (a1 : Int32) (a2 : Int32) (h : zw_H) (Q : Int32 → zw_H → Prop) (X : String → Nat → zw_H → Prop) : Prop :=
  if a0 < a1 then
    Q 0 h
  else
    if a2 < a0 then
      Q 0 h
    else
      Q 1 h
abbrev rm_X2_may : Room := { frames := 0, cells := 0, slots := 0, locals := 0 }
def f_X2_may_J26 (K : Nat → Option Nat) (Q : Int32 → zw_H → Prop) (X : String → Nat → zw_H → Prop)  (l0 : Option Nat) (s0 : Int32) (s1 : Option Nat) (h : zw_H) : Prop :=
  op_V h s1 [0] 0 (.int s0) (fun h1 =>
  og_I h1 l0 [0] 0 (fun v1 =>
  if v1 ≠ 0 then
    Q 0 h1
  else
    Q 1 h1))
def f_X2_may (K : Nat → Option Nat) (a0 : Option Nat) (a1 : Int32) (a2 : Int32) (a3 : Int32) (h : zw_H) (Q : Int32 → zw_H → Prop) (X : String → Nat → zw_H → Prop) : Prop :=
  if a1 ≠ 0 then
    if a2 ≠ 0 then
      if a3 = 0 then
        f_X2_may_J26 K Q X  a0 3 a0 h
      else
        f_X2_may_J26 K Q X  a0 0 a0 h
    else
      f_X2_may_J26 K Q X  a0 2 a0 h
  else
    f_X2_may_J26 K Q X  a0 1 a0 h
abbrev rm_X2_lays : Room := { frames := 0, cells := 0, slots := 0, locals := 0 }
def f_X2_lays_B3 (K : Nat → Option Nat) (Q : zw_H → Prop) (X : String → Nat → zw_H → Prop)  (k28 : zw_H → Prop) (l0 : Option Nat) (l1 : Int32) (l2 : Option Nat) (l3 : Int32) (R : Int32 → zw_H → Prop) (l4 : Int32) (h : zw_H) : Prop :=
  if (103 : Int32) ≤ l4 then
    k28  h
  else
    oa_I h l0 [0, 11] (l1 + l4) (fun v1 =>
    os_I h l2 [0] (l3 + l4) v1 (fun h1 =>
    olet (l4 + 1) (fun v2 =>
    R v2 h1)))
def f_X2_lays (K : Nat → Option Nat) (a0 : Option Nat) (a1 : Int32) (a2 : Option Nat) (a3 : Int32) (h : zw_H) (Q : zw_H → Prop) (X : String → Nat → zw_H → Prop) : Prop :=
  zl2 (f_X2_lays_B3 K Q X (fun h2 =>
    Q h2) a0 a1 a2 a3) zfu 0 h
abbrev rm_X2_isLetter : Room := { frames := 1, cells := 0, slots := 0, locals := 22 }
def f_X2_isLetter (K : Nat → Option Nat) (a0 : Option Nat) (a1 : Int32) (h : zw_H) (Q : Int32 → zw_H → Prop) (X : String → Nat → zw_H → Prop) : Prop :=
  og_I h a0 [0] 12 (fun v1 =>
  if v1 ≤ a1 then
    Q 0 h
  else
    og_A h a0 [0] 8 (fun v2 =>
    oa_I h v2 [1, 10] a1 (fun v3 =>
    (f_X2_in K v3 97 122 h (fun v4 h1 =>
    if v4 = 0 then
      Q 0 h1
    else
      Q 1 h1) X))))
abbrev rm_X2_isDigit : Room := { frames := 1, cells := 0, slots := 0, locals := 22 }
def f_X2_isDigit (K : Nat → Option Nat) (a0 : Option Nat) (a1 : Int32) (h : zw_H) (Q : Int32 → zw_H → Prop) (X : String → Nat → zw_H → Prop) : Prop :=
  og_I h a0 [0] 12 (fun v1 =>
  if v1 ≤ a1 then
    Q 0 h
  else
    og_A h a0 [0] 8 (fun v2 =>
    oa_I h v2 [1, 10] a1 (fun v3 =>
    (f_X2_in K v3 48 57 h (fun v4 h1 =>
    if v4 = 0 then
      Q 0 h1
    else
      Q 1 h1) X))))
abbrev rm_X2_next : Room := { frames := 2, cells := 0, slots := 0, locals := 43 }
def f_X2_next_B8 (K : Nat → Option Nat) (Q : zw_H → Prop) (X : String → Nat → zw_H → Prop)  (k46 : zw_H → Prop) (l0 : Option Nat) (R : zw_H → Prop)  (h : zw_H) : Prop :=
  og_I h l0 [0] 13 (fun v2 =>
  og_I h l0 [0] 12 (fun v3 =>
  if v3 ≤ v2 then
    k46  h
  else
    og_A h l0 [0] 8 (fun v4 =>
    og_I h l0 [0] 13 (fun v5 =>
    oa_I h v4 [1, 10] v5 (fun v6 =>
    if v6 ≠ 32 then
      k46  h
    else
      og_I h l0 [0] 13 (fun v7 =>
      op_V h l0 [0] 13 (.int (v7 + 1)) (fun h1 =>
      R  h1)))))))
def f_X2_next_J261 (K : Nat → Option Nat) (Q : zw_H → Prop) (X : String → Nat → zw_H → Prop)  (l0 : Option Nat)  (h : zw_H) : Prop :=
  og_I h l0 [0] 13 (fun v19 =>
  op_V h l0 [0] 13 (.int (v19 + 1)) (fun h7 =>
  Q h7))
def f_X2_next_J206 (K : Nat → Option Nat) (Q : zw_H → Prop) (X : String → Nat → zw_H → Prop) (R : zw_H → Prop) (k219 : zw_H → Prop) (l0 : Option Nat)  (h : zw_H) : Prop :=
  og_I h l0 [0] 13 (fun v24 =>
  op_V h l0 [0] 13 (.int (v24 + 1)) (fun h11 =>
  R  h11))
def f_X2_next_B158 (K : Nat → Option Nat) (Q : zw_H → Prop) (X : String → Nat → zw_H → Prop)  (k219 : zw_H → Prop) (l0 : Option Nat) (R : zw_H → Prop)  (h : zw_H) : Prop :=
  og_I h l0 [0] 13 (fun v20 =>
  oc_ h l0 [0] (f_X2_isDigit K l0 v20 h (fun v21 h10 =>
  if v21 = 0 then
    k219  h10
  else
    og_I h10 l0 [0] 13 (fun v22 =>
    og_I h10 l0 [0] 14 (fun v23 =>
    if (3 : Int32) ≤ (v22 - v23) then
      f_X2_next_J206 K Q X R k219 l0  h10
    else
      og_I h10 l0 [0] 16 (fun v25 =>
      og_A h10 l0 [0] 8 (fun v26 =>
      og_I h10 l0 [0] 13 (fun v27 =>
      oa_I h10 v26 [1, 10] v27 (fun v28 =>
      op_V h10 l0 [0] 16 (.int ((((10 : Int32) * v25) + v28) - 48)) (fun h12 =>
      f_X2_next_J206 K Q X R k219 l0  h12)))))))) X))
def f_X2_next_B94 (K : Nat → Option Nat) (Q : zw_H → Prop) (X : String → Nat → zw_H → Prop)  (k118 : zw_H → Prop) (l0 : Option Nat) (R : zw_H → Prop)  (h : zw_H) : Prop :=
  og_I h l0 [0] 13 (fun v31 =>
  oc_ h l0 [0] (f_X2_isLetter K l0 v31 h (fun v32 h16 =>
  if v32 = 0 then
    k118  h16
  else
    og_I h16 l0 [0] 13 (fun v33 =>
    op_V h16 l0 [0] 13 (.int (v33 + 1)) (fun h17 =>
    R  h17))) X))
def f_X2_next_J71 (K : Nat → Option Nat) (Q : zw_H → Prop) (X : String → Nat → zw_H → Prop)  (l0 : Option Nat) (s0 : Int32) (s1 : Option Nat) (h : zw_H) : Prop :=
  op_V h s1 [0] 15 (.int s0) (fun h4 =>
  og_I h4 l0 [0] 15 (fun v11 =>
  if v11 ≠ 1 then
    og_I h4 l0 [0] 13 (fun v12 =>
    oc_ h4 l0 [0] (f_X2_isLetter K l0 v12 h4 (fun v13 h5 =>
    if v13 = 0 then
      og_I h5 l0 [0] 13 (fun v14 =>
      oc_ h5 l0 [0] (f_X2_isDigit K l0 v14 h5 (fun v15 h6 =>
      if v15 = 0 then
        og_A h6 l0 [0] 8 (fun v16 =>
        og_I h6 l0 [0] 13 (fun v17 =>
        oa_I h6 v16 [1, 10] v17 (fun v18 =>
        if v18 ≠ 59 then
          f_X2_next_J261 K Q X  l0  h6
        else
          op_V h6 l0 [0] 15 (.int 4) (fun h8 =>
          f_X2_next_J261 K Q X  l0  h8))))
      else
        op_V h6 l0 [0] 16 (.int 0) (fun h9 =>
        zl1 (f_X2_next_B158 K Q X (fun h13 =>
          og_I h13 l0 [0] 13 (fun v29 =>
          og_I h13 l0 [0] 14 (fun v30 =>
          if (3 : Int32) < (v29 - v30) then
            op_V h13 l0 [0] 15 (.int 0) (fun h14 =>
            Q h14)
          else
            op_V h13 l0 [0] 15 (.int 3) (fun h15 =>
            Q h15)))) l0) zfu  h9)) X))
    else
      zl1 (f_X2_next_B94 K Q X (fun h18 =>
        og_I h18 l0 [0] 13 (fun v34 =>
        og_I h18 l0 [0] 14 (fun v35 =>
        if (6 : Int32) < (v34 - v35) then
          op_V h18 l0 [0] 15 (.int 0) (fun h19 =>
          Q h19)
        else
          op_V h18 l0 [0] 15 (.int 2) (fun h20 =>
          Q h20)))) l0) zfu  h5) X))
  else
    Q h4))
def f_X2_next (K : Nat → Option Nat) (a0 : Option Nat) (h : zw_H) (Q : zw_H → Prop) (X : String → Nat → zw_H → Prop) : Prop :=
  og_I h a0 [0] 10 (fun v1 =>
  if v1 ≤ 0 then
    zl1 (f_X2_next_B8 K Q X (fun h2 =>
      og_I h2 a0 [0] 13 (fun v8 =>
      op_V h2 a0 [0] 14 (.int v8) (fun h3 =>
      og_I h3 a0 [0] 13 (fun v9 =>
      og_I h3 a0 [0] 12 (fun v10 =>
      if v9 ≠ v10 then
        f_X2_next_J71 K Q X  a0 0 a0 h3
      else
        f_X2_next_J71 K Q X  a0 1 a0 h3))))) a0) zfu  h
  else
    Q h)
abbrev rm_X2_is : Room := { frames := 0, cells := 0, slots := 0, locals := 0 }
def f_X2_is (K : Nat → Option Nat) (a0 : Option Nat) (a1 : Int32) (h : zw_H) (Q : Int32 → zw_H → Prop) (X : String → Nat → zw_H → Prop) : Prop :=
  og_I h a0 [0] 10 (fun v1 =>
  if v1 ≠ 0 then
    Q 0 h
  else
    og_I h a0 [0] 15 (fun v2 =>
    if v2 ≠ a1 then
      Q 0 h
    else
      Q 1 h))
abbrev rm_J4_coder : Room := { frames := 0, cells := 0, slots := 0, locals := 0 }
def f_J4_coder (K : Nat → Option Nat) (a0 : Option Nat) (h : zw_H) (Q : Int32 → zw_H → Prop) (X : String → Nat → zw_H → Prop) : Prop :=
  if (1 : Int32) = 0 then
    (narrow .byte (.int 1) = .int 1 ∧ Q 1 h)
  else
    og_I h a0 [11, 17] 1 (fun v1 =>
    (narrow .byte (.int v1) = .int v1 ∧ Q v1 h))
abbrev rm_J4_length : Room := { frames := 1, cells := 0, slots := 0, locals := 20 }
def f_J4_length (K : Nat → Option Nat) (a0 : Option Nat) (h : zw_H) (Q : Int32 → zw_H → Prop) (X : String → Nat → zw_H → Prop) : Prop :=
  og_A h a0 [11, 17] 0 (fun v1 =>
  ol_ h v1 (fun v2 =>
  oc_ h a0 [11, 17] (f_J4_coder K a0 h (fun v3 h1 =>
  Q (v2 >>> (v3 &&& 31)) h1) X)))
abbrev rm_J4_isLatin1 : Room := { frames := 0, cells := 0, slots := 0, locals := 0 }
def f_J4_isLatin1 (K : Nat → Option Nat) (a0 : Option Nat) (h : zw_H) (Q : Int32 → zw_H → Prop) (X : String → Nat → zw_H → Prop) : Prop :=
  if (1 : Int32) = 0 then
    Q 0 h
  else
    og_I h a0 [11, 17] 1 (fun v1 =>
    if v1 ≠ 0 then
      Q 0 h
    else
      Q 1 h)
abbrev rm_J17_checkIndex : Room := { frames := 0, cells := 0, slots := 0, locals := 0 }
def f_J17_checkIndex (K : Nat → Option Nat) (a0 : Int32) (a1 : Int32) (a2 : Option Nat) (h : zw_H) (Q : Int32 → zw_H → Prop) (X : String → Nat → zw_H → Prop) : Prop :=
  if a0 < 0 then
    False
  else
    if a0 < a1 then
      Q a0 h
    else
      False
abbrev rm_J4_checkIndex : Room := { frames := 1, cells := 0, slots := 0, locals := 22 }
def f_J4_checkIndex (K : Nat → Option Nat) (a0 : Int32) (a1 : Int32) (h : zw_H) (Q : zw_H → Prop) (X : String → Nat → zw_H → Prop) : Prop :=
  (f_J17_checkIndex K a0 a1 (K 3) h (fun v1 h1 =>
  Q h1) X)
abbrev rm_J16_charAt : Room := { frames := 2, cells := 0, slots := 0, locals := 43 }
def f_J16_charAt (K : Nat → Option Nat) (a0 : Option Nat) (a1 : Int32) (h : zw_H) (Q : Int32 → zw_H → Prop) (X : String → Nat → zw_H → Prop) : Prop :=
  ol_ h a0 (fun v1 =>
  (f_J4_checkIndex K a1 v1 h (fun h1 =>
  oa_I h1 a0 [1, 10] a1 (fun v2 =>
  (narrow .char (.int (((v2 &&& 255).toUInt32 % 65536).toInt32)) = .int (((v2 &&& 255).toUInt32 % 65536).toInt32) ∧ Q (((v2 &&& 255).toUInt32 % 65536).toInt32) h1))) X))
abbrev rm_J5_length : Room := { frames := 0, cells := 0, slots := 0, locals := 0 }
def f_J5_length (K : Nat → Option Nat) (a0 : Option Nat) (h : zw_H) (Q : Int32 → zw_H → Prop) (X : String → Nat → zw_H → Prop) : Prop :=
  ol_ h a0 (fun v1 =>
  Q (v1 >>> (1 &&& 31)) h)
abbrev rm_J5_checkIndex : Room := { frames := 2, cells := 0, slots := 0, locals := 43 }
def f_J5_checkIndex (K : Nat → Option Nat) (a0 : Int32) (a1 : Option Nat) (h : zw_H) (Q : zw_H → Prop) (X : String → Nat → zw_H → Prop) : Prop :=
  (f_J5_length K a1 h (fun v1 h1 =>
  (f_J4_checkIndex K a0 v1 h1 (fun h2 =>
  Q h2) X)) X)
abbrev rm_J5_getChar : Room := { frames := 1, cells := 0, slots := 0, locals := 20 }
def f_J5_getChar_J28 (K : Nat → Option Nat) (Q : Int32 → zw_H → Prop) (X : String → Nat → zw_H → Prop)  (l0 : Option Nat) (l1 : Int32)  (h : zw_H) : Prop :=
  olet (l1 <<< (1 &&& 31) : Int32) (fun v1 =>
  olet (v1 + 1) (fun v2 =>
  oa_I h l0 [1, 10] v1 (fun v3 =>
  oa_I h l0 [1, 10] v2 (fun v4 =>
  (narrow .char (.int (((((v3 &&& 255) <<< (0 &&& 31)) ||| ((v4 &&& 255) <<< (8 &&& 31))).toUInt32 % 65536).toInt32)) = .int (((((v3 &&& 255) <<< (0 &&& 31)) ||| ((v4 &&& 255) <<< (8 &&& 31))).toUInt32 % 65536).toInt32) ∧ Q (((((v3 &&& 255) <<< (0 &&& 31)) ||| ((v4 &&& 255) <<< (8 &&& 31))).toUInt32 % 65536).toInt32) h)))))
def f_J5_getChar (K : Nat → Option Nat) (a0 : Option Nat) (a1 : Int32) (h : zw_H) (Q : Int32 → zw_H → Prop) (X : String → Nat → zw_H → Prop) : Prop :=
  if (1 : Int32) ≠ 0 then
    f_J5_getChar_J28 K Q X  a0 a1  h
  else
    if a1 < 0 then
      False
    else
      (f_J5_length K a0 h (fun v5 h1 =>
      if a1 < v5 then
        f_J5_getChar_J28 K Q X  a0 a1  h1
      else
        False) X)
abbrev rm_J5_charAt : Room := { frames := 3, cells := 0, slots := 0, locals := 64 }
def f_J5_charAt (K : Nat → Option Nat) (a0 : Option Nat) (a1 : Int32) (h : zw_H) (Q : Int32 → zw_H → Prop) (X : String → Nat → zw_H → Prop) : Prop :=
  (f_J5_checkIndex K a1 a0 h (fun h1 =>
  (f_J5_getChar K a0 a1 h1 (fun v1 h2 =>
  (narrow .char (.int v1) = .int v1 ∧ Q v1 h2)) X)) X)
abbrev rm_J4_charAt : Room := { frames := 4, cells := 0, slots := 0, locals := 85 }
def f_J4_charAt (K : Nat → Option Nat) (a0 : Option Nat) (a1 : Int32) (h : zw_H) (Q : Int32 → zw_H → Prop) (X : String → Nat → zw_H → Prop) : Prop :=
  oc_ h a0 [11, 17] (f_J4_isLatin1 K a0 h (fun v1 h1 =>
  if v1 = 0 then
    og_A h1 a0 [11, 17] 0 (fun v2 =>
    (f_J5_charAt K v2 a1 h1 (fun v3 h2 =>
    (narrow .char (.int v3) = .int v3 ∧ Q v3 h2)) X))
  else
    og_A h1 a0 [11, 17] 0 (fun v4 =>
    (f_J16_charAt K v4 a1 h1 (fun v5 h3 =>
    (narrow .char (.int v5) = .int v5 ∧ Q v5 h3)) X))) X)
abbrev rm_X2_isWord : Room := { frames := 5, cells := 0, slots := 0, locals := 106 }
def f_X2_isWord_B28 (K : Nat → Option Nat) (Q : Int32 → zw_H → Prop) (X : String → Nat → zw_H → Prop)  (k55 : zw_H → Prop) (k63 : zw_H → Prop) (l0 : Option Nat) (l1 : Option Nat) (R : Int32 → zw_H → Prop) (l2 : Int32) (h : zw_H) : Prop :=
  oc_ h l1 [11, 17] (f_J4_length K l1 h (fun v5 h3 =>
  if v5 ≤ l2 then
    k63  h3
  else
    og_A h3 l0 [0] 8 (fun v6 =>
    og_I h3 l0 [0] 14 (fun v7 =>
    oa_I h3 v6 [1, 10] (v7 + l2) (fun v8 =>
    oc_ h3 l1 [11, 17] (f_J4_charAt K l1 l2 h3 (fun v9 h4 =>
    if v8 = v9 then
      olet (l2 + 1) (fun v10 =>
      R v10 h4)
    else
      k55  h4) X))))) X)
def f_X2_isWord (K : Nat → Option Nat) (a0 : Option Nat) (a1 : Option Nat) (h : zw_H) (Q : Int32 → zw_H → Prop) (X : String → Nat → zw_H → Prop) : Prop :=
  oc_ h a0 [0] (f_X2_is K a0 2 h (fun v1 h1 =>
  if v1 = 0 then
    Q 0 h1
  else
    og_I h1 a0 [0] 13 (fun v2 =>
    og_I h1 a0 [0] 14 (fun v3 =>
    oc_ h1 a1 [11, 17] (f_J4_length K a1 h1 (fun v4 h2 =>
    if (v2 - v3) = v4 then
      zl2 (f_X2_isWord_B28 K Q X (fun h5 =>
        Q 0 h5) (fun h6 =>
        Q 1 h6) a0 a1) zfu 0 h2
    else
      Q 0 h2) X)))) X)
abbrev rm_X2_faults : Room := { frames := 0, cells := 0, slots := 0, locals := 0 }
def f_X2_faults (K : Nat → Option Nat) (a0 : Option Nat) (a1 : Int32) (h : zw_H) (Q : zw_H → Prop) (X : String → Nat → zw_H → Prop) : Prop :=
  og_I h a0 [0] 10 (fun v1 =>
  if v1 ≤ 0 then
    op_V h a0 [0] 10 (.int a1) (fun h1 =>
    og_I h1 a0 [0] 14 (fun v2 =>
    op_V h1 a0 [0] 11 (.int v2) (fun h2 =>
    Q h2)))
  else
    Q h)
abbrev rm_X2_numberHere : Room := { frames := 1, cells := 0, slots := 0, locals := 22 }
def f_X2_numberHere_J33 (K : Nat → Option Nat) (Q : Int32 → zw_H → Prop) (X : String → Nat → zw_H → Prop)  (l0 : Option Nat) (l1 : Int32)  (h : zw_H) : Prop :=
  og_I h l0 [0] 10 (fun v4 =>
  if v4 ≤ 0 then
    og_I h l0 [0] 16 (fun v5 =>
    Q v5 h)
  else
    Q l1 h)
def f_X2_numberHere (K : Nat → Option Nat) (a0 : Option Nat) (a1 : Int32) (a2 : Int32) (h : zw_H) (Q : Int32 → zw_H → Prop) (X : String → Nat → zw_H → Prop) : Prop :=
  oc_ h a0 [0] (f_X2_is K a0 3 h (fun v1 h1 =>
  if v1 ≠ 0 then
    og_I h1 a0 [0] 16 (fun v2 =>
    (f_X2_in K v2 a1 a2 h1 (fun v3 h2 =>
    if v3 ≠ 0 then
      f_X2_numberHere_J33 K Q X  a0 a1  h2
    else
      oc_ h2 a0 [0] (f_X2_faults K a0 2 h2 (fun h3 =>
      f_X2_numberHere_J33 K Q X  a0 a1  h3) X)) X))
  else
    oc_ h1 a0 [0] (f_X2_faults K a0 1 h1 (fun h4 =>
    f_X2_numberHere_J33 K Q X  a0 a1  h4) X)) X)
abbrev rm_X2_number : Room := { frames := 3, cells := 0, slots := 0, locals := 63 }
def f_X2_number (K : Nat → Option Nat) (a0 : Option Nat) (a1 : Int32) (a2 : Int32) (h : zw_H) (Q : Int32 → zw_H → Prop) (X : String → Nat → zw_H → Prop) : Prop :=
  oc_ h a0 [0] (f_X2_numberHere K a0 a1 a2 h (fun v1 h1 =>
  oc_ h1 a0 [0] (f_X2_next K a0 h1 (fun h2 =>
  Q v1 h2) X)) X)
abbrev rm_X2_of : Room := { frames := 0, cells := 0, slots := 0, locals := 0 }
def f_X2_of (K : Nat → Option Nat) (a0 : Option Nat) (a1 : Int32) (a2 : Int32) (h : zw_H) (Q : Int32 → zw_H → Prop) (X : String → Nat → zw_H → Prop) : Prop :=
  og_A h a0 [0] 1 (fun v1 =>
  oa_I h v1 [0, 11] (((7 : Int32) + ((4 : Int32) * a1)) + a2) (fun v2 =>
  Q v2 h))
abbrev rm_X2_isFixedAt : Room := { frames := 1, cells := 0, slots := 0, locals := 22 }
def f_X2_isFixedAt_J34 (K : Nat → Option Nat) (Q : Int32 → zw_H → Prop) (X : String → Nat → zw_H → Prop) (R : Int32 → zw_H → Prop) (k32 : zw_H → Prop) (k40 : zw_H → Prop) (l0 : Option Nat) (l1 : Int32) (l2 : Int32)  (h : zw_H) : Prop :=
  olet (l2 + 1) (fun v4 =>
  R v4 h)
def f_X2_isFixedAt_B2 (K : Nat → Option Nat) (Q : Int32 → zw_H → Prop) (X : String → Nat → zw_H → Prop)  (k32 : zw_H → Prop) (k40 : zw_H → Prop) (l0 : Option Nat) (l1 : Int32) (R : Int32 → zw_H → Prop) (l2 : Int32) (h : zw_H) : Prop :=
  og_A h l0 [0] 1 (fun v1 =>
  oa_I h v1 [0, 11] 0 (fun v2 =>
  if v2 ≤ l2 then
    k40  h
  else
    oc_ h l0 [0] (f_X2_of K l0 l2 2 h (fun v3 h1 =>
    if v3 ≠ 1 then
      f_X2_isFixedAt_J34 K Q X R k32 k40 l0 l1 l2  h1
    else
      oc_ h1 l0 [0] (f_X2_of K l0 l2 0 h1 (fun v5 h2 =>
      if v5 ≠ l1 then
        f_X2_isFixedAt_J34 K Q X R k32 k40 l0 l1 l2  h2
      else
        k32  h2) X)) X)))
def f_X2_isFixedAt (K : Nat → Option Nat) (a0 : Option Nat) (a1 : Int32) (h : zw_H) (Q : Int32 → zw_H → Prop) (X : String → Nat → zw_H → Prop) : Prop :=
  zl2 (f_X2_isFixedAt_B2 K Q X (fun h3 =>
    Q 1 h3) (fun h4 =>
    Q 0 h4) a0 a1) zfu 0 h
abbrev rm_X2_puts : Room := { frames := 0, cells := 0, slots := 0, locals := 0 }
def f_X2_puts (K : Nat → Option Nat) (a0 : Option Nat) (a1 : Int32) (a2 : Int32) (a3 : Int32) (h : zw_H) (Q : zw_H → Prop) (X : String → Nat → zw_H → Prop) : Prop :=
  og_A h a0 [0] 1 (fun v1 =>
  os_I h v1 [0] (((7 : Int32) + ((4 : Int32) * a1)) + a2) a3 (fun h1 =>
  Q h1))
abbrev rm_X2_one : Room := { frames := 0, cells := 0, slots := 0, locals := 0 }
def f_X2_one (K : Nat → Option Nat) (a0 : Int32) (h : zw_H) (Q : Int32 → zw_H → Prop) (X : String → Nat → zw_H → Prop) : Prop :=
  if a0 = 0 then
    Q 0 h
  else
    Q 1 h
abbrev rm_X2_addsBody : Room := { frames := 1, cells := 0, slots := 0, locals := 23 }
def f_X2_addsBody (K : Nat → Option Nat) (a0 : Option Nat) (a1 : Int32) (a2 : Int32) (a3 : Int32) (h : zw_H) (Q : zw_H → Prop) (X : String → Nat → zw_H → Prop) : Prop :=
  og_A h a0 [0] 1 (fun v1 =>
  oa_I h v1 [0, 11] 0 (fun v2 =>
  og_A h a0 [0] 1 (fun v3 =>
  oa_I h v3 [0, 11] 0 (fun v4 =>
  os_I h v3 [0] 0 (v4 + 1) (fun h1 =>
  oc_ h1 a0 [0] (f_X2_puts K a0 v2 0 a2 h1 (fun h2 =>
  oc_ h2 a0 [0] (f_X2_puts K a0 v2 1 a3 h2 (fun h3 =>
  (f_X2_one K a1 h3 (fun v5 h4 =>
  oc_ h4 a0 [0] (f_X2_puts K a0 v2 2 v5 h4 (fun h5 =>
  oc_ h5 a0 [0] (f_X2_puts K a0 v2 3 0 h5 (fun h6 =>
  Q h6) X)) X)) X)) X)) X))))))
abbrev rm_X2_readsBody : Room := { frames := 6, cells := 0, slots := 0, locals := 128 }
def f_X2_readsBody_J103 (K : Nat → Option Nat) (Q : zw_H → Prop) (X : String → Nat → zw_H → Prop)   (s0 : Int32) (s1 : Int32) (s2 : Int32) (s3 : Option Nat) (h : zw_H) : Prop :=
  oc_ h s3 [0] (f_X2_addsBody K s3 s2 s1 s0 h (fun h6 =>
  Q h6) X)
def f_X2_readsBody_J72 (K : Nat → Option Nat) (Q : zw_H → Prop) (X : String → Nat → zw_H → Prop)  (l0 : Option Nat) (l1 : Int32) (l2 : Int32) (l3 : Int32)  (h : zw_H) : Prop :=
  oc_ h l0 [0] (f_X2_number K l0 1 99 h (fun v6 h5 =>
  og_I h5 l0 [0] 10 (fun v7 =>
  if v7 ≠ 0 then
    Q h5
  else
    if l3 = 0 then
      f_X2_readsBody_J103 K Q X   v6 l2 l1 l0 h5
    else
      f_X2_readsBody_J103 K Q X   (-v6) l2 l1 l0 h5)) X)
def f_X2_readsBody_J53 (K : Nat → Option Nat) (Q : zw_H → Prop) (X : String → Nat → zw_H → Prop)  (l0 : Option Nat) (l1 : Int32) (l2 : Int32)  (h : zw_H) : Prop :=
  oc_ h l0 [0] (f_X2_next K l0 h (fun h3 =>
  oc_ h3 l0 [0] (f_X2_isWord K l0 (K 19) h3 (fun v5 h4 =>
  if v5 = 0 then
    f_X2_readsBody_J72 K Q X  l0 l1 l2 v5  h4
  else
    oc_ h4 l0 [0] (f_X2_next K l0 h4 (fun h7 =>
    f_X2_readsBody_J72 K Q X  l0 l1 l2 v5  h7) X)) X)) X)
def f_X2_readsBody_J16 (K : Nat → Option Nat) (Q : zw_H → Prop) (X : String → Nat → zw_H → Prop)  (l0 : Option Nat) (l1 : Int32)  (h : zw_H) : Prop :=
  oc_ h l0 [0] (f_X2_next K l0 h (fun h1 =>
  oc_ h1 l0 [0] (f_X2_numberHere K l0 0 255 h1 (fun v3 h2 =>
  og_I h2 l0 [0] 10 (fun v4 =>
  if v4 ≠ 0 then
    f_X2_readsBody_J53 K Q X  l0 l1 v3  h2
  else
    if l1 = 0 then
      f_X2_readsBody_J53 K Q X  l0 l1 v3  h2
    else
      oc_ h2 l0 [0] (f_X2_isFixedAt K l0 v3 h2 (fun v8 h8 =>
      if v8 = 0 then
        f_X2_readsBody_J53 K Q X  l0 l1 v3  h8
      else
        oc_ h8 l0 [0] (f_X2_faults K l0 3 h8 (fun h9 =>
        f_X2_readsBody_J53 K Q X  l0 l1 v3  h9) X)) X))) X)) X)
def f_X2_readsBody (K : Nat → Option Nat) (a0 : Option Nat) (a1 : Int32) (h : zw_H) (Q : zw_H → Prop) (X : String → Nat → zw_H → Prop) : Prop :=
  og_A h a0 [0] 1 (fun v1 =>
  oa_I h v1 [0, 11] 0 (fun v2 =>
  if v2 ≠ 24 then
    f_X2_readsBody_J16 K Q X  a0 a1  h
  else
    oc_ h a0 [0] (f_X2_faults K a0 4 h (fun h10 =>
    f_X2_readsBody_J16 K Q X  a0 a1  h10) X)))
abbrev rm_X2_readsText : Room := { frames := 7, cells := 0, slots := 0, locals := 152 }
def f_X2_readsText_J105 (K : Nat → Option Nat) (Q : zw_H → Prop) (X : String → Nat → zw_H → Prop) (R : zw_H → Prop) (k108 : zw_H → Prop) (l0 : Option Nat)  (h : zw_H) : Prop :=
  R  h
def f_X2_readsText_J92 (K : Nat → Option Nat) (Q : zw_H → Prop) (X : String → Nat → zw_H → Prop) (R : zw_H → Prop) (k108 : zw_H → Prop) (l0 : Option Nat) (l1 : Int32)  (h : zw_H) : Prop :=
  oc_ h l0 [0] (f_X2_readsBody K l0 l1 h (fun h13 =>
  f_X2_readsText_J105 K Q X R k108 l0  h13) X)
def f_X2_readsText_B60 (K : Nat → Option Nat) (Q : zw_H → Prop) (X : String → Nat → zw_H → Prop)  (k108 : zw_H → Prop) (l0 : Option Nat) (R : zw_H → Prop)  (h : zw_H) : Prop :=
  oc_ h l0 [0] (f_X2_is K l0 4 h (fun v8 h10 =>
  if v8 = 0 then
    k108  h10
  else
    oc_ h10 l0 [0] (f_X2_next K l0 h10 (fun h11 =>
    oc_ h11 l0 [0] (f_X2_isWord K l0 (K 17) h11 (fun v9 h12 =>
    if v9 ≠ 0 then
      f_X2_readsText_J92 K Q X R k108 l0 v9  h12
    else
      oc_ h12 l0 [0] (f_X2_isWord K l0 (K 18) h12 (fun v10 h14 =>
      if v10 = 0 then
        oc_ h14 l0 [0] (f_X2_faults K l0 1 h14 (fun h15 =>
        f_X2_readsText_J105 K Q X R k108 l0  h15) X)
      else
        f_X2_readsText_J92 K Q X R k108 l0 v9  h14) X)) X)) X)) X)
def f_X2_readsText_J121 (K : Nat → Option Nat) (Q : zw_H → Prop) (X : String → Nat → zw_H → Prop)  (l0 : Option Nat)  (h : zw_H) : Prop :=
  og_A h l0 [0] 1 (fun v12 =>
  oa_I h v12 [0, 11] 0 (fun v13 =>
  if v13 ≠ 0 then
    Q h
  else
    oc_ h l0 [0] (f_X2_faults K l0 5 h (fun h18 =>
    Q h18) X)))
def f_X2_readsText_J18 (K : Nat → Option Nat) (Q : zw_H → Prop) (X : String → Nat → zw_H → Prop)  (l0 : Option Nat)  (h : zw_H) : Prop :=
  oc_ h l0 [0] (f_X2_next K l0 h (fun h3 =>
  og_A h3 l0 [0] 1 (fun v2 =>
  oc_ h3 l0 [0] (f_X2_number K l0 2 5 h3 (fun v3 h4 =>
  os_I h4 v2 [0] 3 v3 (fun h5 =>
  og_A h5 l0 [0] 1 (fun v4 =>
  oc_ h5 l0 [0] (f_X2_number K l0 0 4 h5 (fun v5 h6 =>
  os_I h6 v4 [0] 4 v5 (fun h7 =>
  og_A h7 l0 [0] 1 (fun v6 =>
  oc_ h7 l0 [0] (f_X2_number K l0 0 999 h7 (fun v7 h8 =>
  os_I h8 v6 [0] 5 v7 (fun h9 =>
  zl1 (f_X2_readsText_B60 K Q X (fun h16 =>
    oc_ h16 l0 [0] (f_X2_is K l0 1 h16 (fun v11 h17 =>
    if v11 ≠ 0 then
      f_X2_readsText_J121 K Q X  l0  h17
    else
      oc_ h17 l0 [0] (f_X2_faults K l0 1 h17 (fun h19 =>
      f_X2_readsText_J121 K Q X  l0  h19) X)) X)) l0) zfu  h9)) X)))) X)))) X))) X)
def f_X2_readsText (K : Nat → Option Nat) (a0 : Option Nat) (h : zw_H) (Q : zw_H → Prop) (X : String → Nat → zw_H → Prop) : Prop :=
  oc_ h a0 [0] (f_X2_next K a0 h (fun h1 =>
  oc_ h1 a0 [0] (f_X2_isWord K a0 (K 16) h1 (fun v1 h2 =>
  if v1 ≠ 0 then
    f_X2_readsText_J18 K Q X  a0  h2
  else
    oc_ h2 a0 [0] (f_X2_faults K a0 1 h2 (fun h20 =>
    f_X2_readsText_J18 K Q X  a0  h20) X)) X)) X)
abbrev rm_X2_load : Room := { frames := 8, cells := 0, slots := 0, locals := 173 }
def f_X2_load_B60 (K : Nat → Option Nat) (Q : Int32 → zw_H → Prop) (X : String → Nat → zw_H → Prop)  (k79 : zw_H → Prop) (l0 : Option Nat) (R : Int32 → zw_H → Prop) (l2 : Int32) (h : zw_H) : Prop :=
  if (103 : Int32) ≤ l2 then
    k79  h
  else
    og_A h l0 [0] 1 (fun v6 =>
    os_I h v6 [0] l2 0 (fun h9 =>
    olet (l2 + 1) (fun v7 =>
    R v7 h9)))
def f_X2_load (K : Nat → Option Nat) (a0 : Option Nat) (a1 : Int32) (h : zw_H) (Q : Int32 → zw_H → Prop) (X : String → Nat → zw_H → Prop) : Prop :=
  og_I h a0 [0] 9 (fun v1 =>
  (f_X2_in K a1 0 v1 h (fun v2 h1 =>
  oc_ h1 a0 [0] (f_X2_may K a0 v2 1 1 h1 (fun v3 h2 =>
  if v3 ≠ 0 then
    op_V h2 a0 [0] 12 (.int a1) (fun h3 =>
    op_V h3 a0 [0] 13 (.int 0) (fun h4 =>
    op_V h4 a0 [0] 9 (.int 0) (fun h5 =>
    op_V h5 a0 [0] 10 (.int 0) (fun h6 =>
    op_V h6 a0 [0] 11 (.int (-1)) (fun h7 =>
    og_A h7 a0 [0] 1 (fun v4 =>
    og_A h7 a0 [0] 2 (fun v5 =>
    (f_X2_lays K v4 0 v5 0 h7 (fun h8 =>
    zl2 (f_X2_load_B60 K Q X (fun h10 =>
      oc_ h10 a0 [0] (f_X2_readsText K a0 h10 (fun h11 =>
      og_I h11 a0 [0] 10 (fun v8 =>
      if v8 ≤ 0 then
        op_V h11 a0 [0] 6 (.int 1) (fun h12 =>
        op_V h12 a0 [0] 7 (.int 0) (fun h13 =>
        og_A h13 a0 [0] 5 (fun v9 =>
        os_I h13 v9 [2] 0 (vp_nar .boolean 0) (fun h14 =>
        og_A h14 a0 [0] 5 (fun v10 =>
        os_I h14 v10 [2] 1 (vp_nar .boolean 0) (fun h15 =>
        og_A h15 a0 [0] 1 (fun v11 =>
        oa_I h15 v11 [0, 11] 0 (fun v12 =>
        Q v12 h15))))))))
      else
        og_A h11 a0 [0] 2 (fun v13 =>
        og_A h11 a0 [0] 1 (fun v14 =>
        (f_X2_lays K v13 0 v14 0 h11 (fun h16 =>
        op_V h16 a0 [0] 0 (.int 2) (fun h17 =>
        Q 0 h17)) X))))) X)) a0) zfu 0 h8) X))))))))
  else
    Q 0 h2) X)) X))
abbrev rm_X2_mayTwo : Room := { frames := 1, cells := 0, slots := 0, locals := 23 }
def f_X2_mayTwo (K : Nat → Option Nat) (a0 : Option Nat) (a1 : Int32) (a2 : Int32) (h : zw_H) (Q : Int32 → zw_H → Prop) (X : String → Nat → zw_H → Prop) : Prop :=
  oc_ h a0 [0] (f_X2_may K a0 a1 a2 1 h (fun v1 h1 =>
  ((v1 = 0 ∨ v1 = 1) ∧ Q v1 h1)) X)
abbrev rm_X2_fixedMany : Room := { frames := 1, cells := 0, slots := 0, locals := 22 }
def f_X2_fixedMany_B4 (K : Nat → Option Nat) (Q : Int32 → zw_H → Prop) (X : String → Nat → zw_H → Prop)  (k29 : Int32 → zw_H → Prop) (l0 : Option Nat) (R : Int32 → Int32 → zw_H → Prop) (l1 : Int32) (l2 : Int32) (h : zw_H) : Prop :=
  og_A h l0 [0] 1 (fun v1 =>
  oa_I h v1 [0, 11] 0 (fun v2 =>
  if v2 ≤ l2 then
    k29 l1 h
  else
    oc_ h l0 [0] (f_X2_of K l0 l2 2 h (fun v3 h1 =>
    olet (l1 + v3 : Int32) (fun v4 =>
    olet (l2 + 1) (fun v5 =>
    R v4 v5 h1))) X)))
def f_X2_fixedMany (K : Nat → Option Nat) (a0 : Option Nat) (h : zw_H) (Q : Int32 → zw_H → Prop) (X : String → Nat → zw_H → Prop) : Prop :=
  zl3 (f_X2_fixedMany_B4 K Q X (fun v6 h2 =>
    Q v6 h2) a0) zfu 0 0 h
abbrev rm_X2_wide : Room := { frames := 0, cells := 0, slots := 0, locals := 0 }
def f_X2_wide (K : Nat → Option Nat) (a0 : Int32) (h : zw_H) (Q : Int32 → zw_H → Prop) (X : String → Nat → zw_H → Prop) : Prop :=
  Q ((256 : Int32) >>> (a0 &&& 31)) h
abbrev rm_X2_boxOf : Room := { frames := 1, cells := 0, slots := 0, locals := 20 }
def f_X2_boxOf (K : Nat → Option Nat) (a0 : Int32) (a1 : Int32) (h : zw_H) (Q : Int32 → zw_H → Prop) (X : String → Nat → zw_H → Prop) : Prop :=
  (f_X2_wide K a0 h (fun v1 h1 =>
  ((v1 : Int32) ≠ 0 ∧ 
  Q (a1 / v1) h1)) X)
abbrev rm_X2_isIn : Room := { frames := 2, cells := 0, slots := 0, locals := 41 }
def f_X2_isIn (K : Nat → Option Nat) (a0 : Option Nat) (a1 : Int32) (a2 : Int32) (a3 : Int32) (h : zw_H) (Q : Int32 → zw_H → Prop) (X : String → Nat → zw_H → Prop) : Prop :=
  oc_ h a0 [0] (f_X2_of K a0 a1 0 h (fun v1 h1 =>
  (f_X2_boxOf K a2 v1 h1 (fun v2 h2 =>
  if v2 ≠ a3 then
    Q 0 h2
  else
    Q 1 h2) X)) X)
abbrev rm_X2_far : Room := { frames := 0, cells := 0, slots := 0, locals := 0 }
def f_X2_far (K : Nat → Option Nat) (a0 : Int32) (a1 : Int32) (h : zw_H) (Q : Int32 → zw_H → Prop) (X : String → Nat → zw_H → Prop) : Prop :=
  if a1 ≤ a0 then
    Q (a0 - a1) h
  else
    Q (a1 - a0) h
abbrev rm_X2_charge : Room := { frames := 3, cells := 0, slots := 0, locals := 64 }
def f_X2_charge_J61 (K : Nat → Option Nat) (Q : Int32 → zw_H → Prop) (X : String → Nat → zw_H → Prop) (R : Int32 → Int32 → zw_H → Prop) (k67 : Int32 → zw_H → Prop) (l0 : Option Nat) (l1 : Int32) (l2 : Int32) (l3 : Int32) (l4 : Int32) (l5 : Int32)  (h : zw_H) : Prop :=
  olet (l5 + 1) (fun v6 =>
  R l4 v6 h)
def f_X2_charge_J58 (K : Nat → Option Nat) (Q : Int32 → zw_H → Prop) (X : String → Nat → zw_H → Prop) (R : Int32 → Int32 → zw_H → Prop) (k67 : Int32 → zw_H → Prop) (l0 : Option Nat) (l1 : Int32) (l2 : Int32) (l3 : Int32) (l5 : Int32) (s0 : Int32) (s1 : Int32) (h : zw_H) : Prop :=
  olet (s1 + s0 : Int32) (fun v5 =>
  f_X2_charge_J61 K Q X R k67 l0 l1 l2 l3 v5 l5  h)
def f_X2_charge_B6 (K : Nat → Option Nat) (Q : Int32 → zw_H → Prop) (X : String → Nat → zw_H → Prop)  (k67 : Int32 → zw_H → Prop) (l0 : Option Nat) (l1 : Int32) (l2 : Int32) (l3 : Int32) (R : Int32 → Int32 → zw_H → Prop) (l4 : Int32) (l5 : Int32) (h : zw_H) : Prop :=
  og_A h l0 [0] 1 (fun v1 =>
  oa_I h v1 [0, 11] 0 (fun v2 =>
  if v2 ≤ l5 then
    k67 l4 h
  else
    oc_ h l0 [0] (f_X2_isIn K l0 l5 l1 l2 h (fun v3 h1 =>
    if v3 ≠ 0 then
      if l3 = 0 then
        oc_ h1 l0 [0] (f_X2_of K l0 l5 1 h1 (fun v4 h2 =>
        f_X2_charge_J58 K Q X R k67 l0 l1 l2 l3 l5 v4 l4 h2) X)
      else
        oc_ h1 l0 [0] (f_X2_of K l0 l5 1 h1 (fun v7 h3 =>
        (f_X2_far K v7 0 h3 (fun v8 h4 =>
        f_X2_charge_J58 K Q X R k67 l0 l1 l2 l3 l5 v8 l4 h4) X)) X)
    else
      f_X2_charge_J61 K Q X R k67 l0 l1 l2 l3 l4 l5  h1) X)))
def f_X2_charge (K : Nat → Option Nat) (a0 : Option Nat) (a1 : Int32) (a2 : Int32) (a3 : Int32) (h : zw_H) (Q : Int32 → zw_H → Prop) (X : String → Nat → zw_H → Prop) : Prop :=
  zl3 (f_X2_charge_B6 K Q X (fun v9 h5 =>
    Q v9 h5) a0 a1 a2 a3) zfu 0 0 h
abbrev rm_X2_bodiesIn : Room := { frames := 3, cells := 0, slots := 0, locals := 64 }
def f_X2_bodiesIn_B5 (K : Nat → Option Nat) (Q : Int32 → zw_H → Prop) (X : String → Nat → zw_H → Prop)  (k36 : Int32 → zw_H → Prop) (l0 : Option Nat) (l1 : Int32) (l2 : Int32) (R : Int32 → Int32 → zw_H → Prop) (l3 : Int32) (l4 : Int32) (h : zw_H) : Prop :=
  og_A h l0 [0] 1 (fun v1 =>
  oa_I h v1 [0, 11] 0 (fun v2 =>
  if v2 ≤ l4 then
    k36 l3 h
  else
    oc_ h l0 [0] (f_X2_isIn K l0 l4 l1 l2 h (fun v3 h1 =>
    (f_X2_one K v3 h1 (fun v4 h2 =>
    olet (l3 + v4 : Int32) (fun v5 =>
    olet (l4 + 1) (fun v6 =>
    R v5 v6 h2))) X)) X)))
def f_X2_bodiesIn (K : Nat → Option Nat) (a0 : Option Nat) (a1 : Int32) (a2 : Int32) (h : zw_H) (Q : Int32 → zw_H → Prop) (X : String → Nat → zw_H → Prop) : Prop :=
  zl3 (f_X2_bodiesIn_B5 K Q X (fun v7 h3 =>
    Q v7 h3) a0 a1 a2) zfu 0 0 h
abbrev rm_X2_full : Room := { frames := 4, cells := 0, slots := 0, locals := 88 }
def f_X2_full_J36 (K : Nat → Option Nat) (Q : Int32 → zw_H → Prop) (X : String → Nat → zw_H → Prop) (R : Int32 → Int32 → zw_H → Prop) (k47 : Int32 → zw_H → Prop) (l0 : Option Nat) (l2 : Int32) (s0 : Int32) (s1 : Int32) (h : zw_H) : Prop :=
  (f_X2_one K s0 h (fun v6 h2 =>
  olet (s1 + v6 : Int32) (fun v7 =>
  olet (l2 + 1) (fun v8 =>
  R v7 v8 h2))) X)
def f_X2_full_B4 (K : Nat → Option Nat) (Q : Int32 → zw_H → Prop) (X : String → Nat → zw_H → Prop)  (k47 : Int32 → zw_H → Prop) (l0 : Option Nat) (R : Int32 → Int32 → zw_H → Prop) (l1 : Int32) (l2 : Int32) (h : zw_H) : Prop :=
  og_A h l0 [0] 1 (fun v1 =>
  oa_I h v1 [0, 11] 3 (fun v2 =>
  if ((1 : Int32) <<< (v2 &&& 31)) ≤ l2 then
    k47 l1 h
  else
    og_A h l0 [0] 1 (fun v3 =>
    oa_I h v3 [0, 11] 3 (fun v4 =>
    oc_ h l0 [0] (f_X2_bodiesIn K l0 v4 l2 h (fun v5 h1 =>
    if v5 ≤ 0 then
      f_X2_full_J36 K Q X R k47 l0 l2 0 l1 h1
    else
      f_X2_full_J36 K Q X R k47 l0 l2 1 l1 h1) X)))))
def f_X2_full (K : Nat → Option Nat) (a0 : Option Nat) (h : zw_H) (Q : Int32 → zw_H → Prop) (X : String → Nat → zw_H → Prop) : Prop :=
  zl3 (f_X2_full_B4 K Q X (fun v9 h3 =>
    Q v9 h3) a0) zfu 0 0 h
abbrev rm_X2_end : Room := { frames := 1, cells := 0, slots := 0, locals := 22 }
def f_X2_end_J53 (K : Nat → Option Nat) (Q : Int32 → zw_H → Prop) (X : String → Nat → zw_H → Prop) (R : Int32 → Int32 → zw_H → Prop) (k59 : Int32 → zw_H → Prop) (l0 : Option Nat) (l1 : Int32) (l2 : Int32) (l3 : Int32)  (h : zw_H) : Prop :=
  olet (l3 + 1) (fun v4 =>
  R l2 v4 h)
def f_X2_end_J46 (K : Nat → Option Nat) (Q : Int32 → zw_H → Prop) (X : String → Nat → zw_H → Prop) (R : Int32 → Int32 → zw_H → Prop) (k59 : Int32 → zw_H → Prop) (l0 : Option Nat) (l1 : Int32) (l3 : Int32)  (h : zw_H) : Prop :=
  oc_ h l0 [0] (f_X2_of K l0 l3 0 h (fun v3 h1 =>
  f_X2_end_J53 K Q X R k59 l0 l1 v3 l3  h1) X)
def f_X2_end_B4 (K : Nat → Option Nat) (Q : Int32 → zw_H → Prop) (X : String → Nat → zw_H → Prop)  (k59 : Int32 → zw_H → Prop) (l0 : Option Nat) (l1 : Int32) (R : Int32 → Int32 → zw_H → Prop) (l2 : Int32) (l3 : Int32) (h : zw_H) : Prop :=
  og_A h l0 [0] 1 (fun v1 =>
  oa_I h v1 [0, 11] 0 (fun v2 =>
  if v2 ≤ l3 then
    k59 l2 h
  else
    if l2 = (-1) then
      f_X2_end_J46 K Q X R k59 l0 l1 l3  h
    else
      if l1 = 0 then
        oc_ h l0 [0] (f_X2_of K l0 l3 0 h (fun v5 h2 =>
        if l2 ≤ v5 then
          f_X2_end_J53 K Q X R k59 l0 l1 l2 l3  h2
        else
          f_X2_end_J46 K Q X R k59 l0 l1 l3  h2) X)
      else
        oc_ h l0 [0] (f_X2_of K l0 l3 0 h (fun v6 h3 =>
        if v6 ≤ l2 then
          f_X2_end_J53 K Q X R k59 l0 l1 l2 l3  h3
        else
          f_X2_end_J46 K Q X R k59 l0 l1 l3  h3) X)))
def f_X2_end (K : Nat → Option Nat) (a0 : Option Nat) (a1 : Int32) (h : zw_H) (Q : Int32 → zw_H → Prop) (X : String → Nat → zw_H → Prop) : Prop :=
  zl3 (f_X2_end_B4 K Q X (fun v7 h4 =>
    Q v7 h4) a0 a1) zfu (-1) 0 h
abbrev rm_X2_count : Room := { frames := 5, cells := 0, slots := 0, locals := 110 }
def f_X2_count (K : Nat → Option Nat) (a0 : Option Nat) (a1 : Int32) (h : zw_H) (Q : Int32 → zw_H → Prop) (X : String → Nat → zw_H → Prop) : Prop :=
  og_I h a0 [0] 6 (fun v1 =>
  (f_X2_in K a1 0 13 h (fun v2 h1 =>
  oc_ h1 a0 [0] (f_X2_mayTwo K a0 v1 v2 h1 (fun v3 h2 =>
  if v3 ≠ 0 then
    if a1 = 0 then
      og_A h2 a0 [0] 1 (fun v4 =>
      oa_I h2 v4 [0, 11] 0 (fun v5 =>
      Q v5 h2))
    else if a1 = 1 then
      og_A h2 a0 [0] 1 (fun v6 =>
      oa_I h2 v6 [0, 11] 0 (fun v7 =>
      oc_ h2 a0 [0] (f_X2_fixedMany K a0 h2 (fun v8 h3 =>
      Q (v7 - v8) h3) X)))
    else if a1 = 2 then
      oc_ h2 a0 [0] (f_X2_fixedMany K a0 h2 (fun v9 h4 =>
      Q v9 h4) X)
    else if a1 = 3 then
      og_A h2 a0 [0] 1 (fun v10 =>
      oa_I h2 v10 [0, 11] a1 (fun v11 =>
      Q v11 h2))
    else if a1 = 4 then
      og_A h2 a0 [0] 1 (fun v12 =>
      oa_I h2 v12 [0, 11] a1 (fun v13 =>
      Q v13 h2))
    else if a1 = 5 then
      og_A h2 a0 [0] 1 (fun v14 =>
      oa_I h2 v14 [0, 11] a1 (fun v15 =>
      Q v15 h2))
    else if a1 = 6 then
      og_A h2 a0 [0] 1 (fun v16 =>
      oa_I h2 v16 [0, 11] a1 (fun v17 =>
      Q v17 h2))
    else if a1 = 7 then
      oc_ h2 a0 [0] (f_X2_charge K a0 0 0 0 h2 (fun v18 h5 =>
      Q v18 h5) X)
    else if a1 = 8 then
      oc_ h2 a0 [0] (f_X2_charge K a0 0 0 1 h2 (fun v19 h6 =>
      Q v19 h6) X)
    else if a1 = 9 then
      oc_ h2 a0 [0] (f_X2_full K a0 h2 (fun v20 h7 =>
      Q v20 h7) X)
    else if a1 = 10 then
      og_A h2 a0 [0] 1 (fun v21 =>
      oa_I h2 v21 [0, 11] 1 (fun v22 =>
      Q v22 h2))
    else if a1 = 11 then
      oc_ h2 a0 [0] (f_X2_end K a0 0 h2 (fun v23 h8 =>
      Q v23 h8) X)
    else if a1 = 12 then
      oc_ h2 a0 [0] (f_X2_end K a0 1 h2 (fun v24 h9 =>
      Q v24 h9) X)
    else if a1 = 13 then
      og_A h2 a0 [0] 1 (fun v25 =>
      oa_I h2 v25 [0, 11] 3 (fun v26 =>
      (f_X2_wide K v26 h2 (fun v27 h10 =>
      Q v27 h10) X)))
    else ((a1.toInt < 0 ∨ 13 < a1.toInt) ∧
      og_A h2 a0 [0] 1 (fun v28 =>
      oa_I h2 v28 [0, 11] a1 (fun v29 =>
      Q v29 h2)))
  else
    Q 0 h2) X)) X))
abbrev rm_X2_isBody : Room := { frames := 1, cells := 0, slots := 0, locals := 22 }
def f_X2_isBody (K : Nat → Option Nat) (a0 : Option Nat) (a1 : Int32) (h : zw_H) (Q : Int32 → zw_H → Prop) (X : String → Nat → zw_H → Prop) : Prop :=
  og_A h a0 [0] 1 (fun v1 =>
  oa_I h v1 [0, 11] 0 (fun v2 =>
  (f_X2_in K a1 0 (v2 - 1) h (fun v3 h1 =>
  ((v3 = 0 ∨ v3 = 1) ∧ Q v3 h1)) X)))
abbrev rm_X2_body : Room := { frames := 2, cells := 0, slots := 0, locals := 43 }
def f_X2_body (K : Nat → Option Nat) (a0 : Option Nat) (a1 : Int32) (a2 : Int32) (h : zw_H) (Q : Int32 → zw_H → Prop) (X : String → Nat → zw_H → Prop) : Prop :=
  og_I h a0 [0] 6 (fun v1 =>
  oc_ h a0 [0] (f_X2_isBody K a0 a1 h (fun v2 h1 =>
  (f_X2_in K a2 0 4 h1 (fun v3 h2 =>
  oc_ h2 a0 [0] (f_X2_may K a0 v1 v2 v3 h2 (fun v4 h3 =>
  if v4 ≠ 0 then
    if (3 : Int32) ≤ a2 then
      if a2 ≠ 3 then
        oc_ h3 a0 [0] (f_X2_of K a0 a1 3 h3 (fun v5 h4 =>
        Q v5 h4) X)
      else
        og_A h3 a0 [0] 1 (fun v6 =>
        oa_I h3 v6 [0, 11] 3 (fun v7 =>
        oc_ h3 a0 [0] (f_X2_of K a0 a1 0 h3 (fun v8 h5 =>
        (f_X2_boxOf K v7 v8 h5 (fun v9 h6 =>
        Q v9 h6) X)) X)))
    else
      oc_ h3 a0 [0] (f_X2_of K a0 a1 a2 h3 (fun v10 h7 =>
      Q v10 h7) X)
  else
    Q 0 h3) X)) X)) X))
abbrev rm_X2_isPoint : Room := { frames := 1, cells := 0, slots := 0, locals := 22 }
def f_X2_isPoint (K : Nat → Option Nat) (a0 : Int32) (h : zw_H) (Q : Int32 → zw_H → Prop) (X : String → Nat → zw_H → Prop) : Prop :=
  (f_X2_in K a0 0 255 h (fun v1 h1 =>
  ((v1 = 0 ∨ v1 = 1) ∧ Q v1 h1)) X)
abbrev rm_X2_mayPoint : Room := { frames := 2, cells := 0, slots := 0, locals := 45 }
def f_X2_mayPoint (K : Nat → Option Nat) (a0 : Option Nat) (a1 : Int32) (h : zw_H) (Q : Int32 → zw_H → Prop) (X : String → Nat → zw_H → Prop) : Prop :=
  og_I h a0 [0] 6 (fun v1 =>
  (f_X2_isPoint K a1 h (fun v2 h1 =>
  oc_ h1 a0 [0] (f_X2_mayTwo K a0 v1 v2 h1 (fun v3 h2 =>
  ((v3 = 0 ∨ v3 = 1) ∧ Q v3 h2)) X)) X))
abbrev rm_X2_firstAt : Room := { frames := 1, cells := 0, slots := 0, locals := 22 }
def f_X2_firstAt_B2 (K : Nat → Option Nat) (Q : Int32 → zw_H → Prop) (X : String → Nat → zw_H → Prop)  (k22 : Int32 → zw_H → Prop) (k30 : zw_H → Prop) (l0 : Option Nat) (l1 : Int32) (R : Int32 → zw_H → Prop) (l2 : Int32) (h : zw_H) : Prop :=
  og_A h l0 [0] 1 (fun v1 =>
  oa_I h v1 [0, 11] 0 (fun v2 =>
  if v2 ≤ l2 then
    k30  h
  else
    oc_ h l0 [0] (f_X2_of K l0 l2 0 h (fun v3 h1 =>
    if v3 ≠ l1 then
      olet (l2 + 1) (fun v4 =>
      R v4 h1)
    else
      k22 l2 h1) X)))
def f_X2_firstAt (K : Nat → Option Nat) (a0 : Option Nat) (a1 : Int32) (h : zw_H) (Q : Int32 → zw_H → Prop) (X : String → Nat → zw_H → Prop) : Prop :=
  zl2 (f_X2_firstAt_B2 K Q X (fun v5 h2 =>
    Q v5 h2) (fun h3 =>
    Q (-1) h3) a0 a1) zfu 0 h
abbrev rm_X2_bodyAt : Room := { frames := 3, cells := 0, slots := 0, locals := 66 }
def f_X2_bodyAt (K : Nat → Option Nat) (a0 : Option Nat) (a1 : Int32) (h : zw_H) (Q : Int32 → zw_H → Prop) (X : String → Nat → zw_H → Prop) : Prop :=
  oc_ h a0 [0] (f_X2_mayPoint K a0 a1 h (fun v1 h1 =>
  if v1 = 0 then
    Q 0 h1
  else
    oc_ h1 a0 [0] (f_X2_firstAt K a0 a1 h1 (fun v2 h2 =>
    Q v2 h2) X)) X)
abbrev rm_X2_isLevel : Room := { frames := 1, cells := 0, slots := 0, locals := 22 }
def f_X2_isLevel (K : Nat → Option Nat) (a0 : Option Nat) (a1 : Int32) (h : zw_H) (Q : Int32 → zw_H → Prop) (X : String → Nat → zw_H → Prop) : Prop :=
  og_A h a0 [0] 1 (fun v1 =>
  oa_I h v1 [0, 11] 3 (fun v2 =>
  (f_X2_in K a1 0 v2 h (fun v3 h1 =>
  ((v3 = 0 ∨ v3 = 1) ∧ Q v3 h1)) X)))
abbrev rm_X2_isBox : Room := { frames := 2, cells := 0, slots := 0, locals := 43 }
def f_X2_isBox (K : Nat → Option Nat) (a0 : Option Nat) (a1 : Int32) (a2 : Int32) (h : zw_H) (Q : Int32 → zw_H → Prop) (X : String → Nat → zw_H → Prop) : Prop :=
  oc_ h a0 [0] (f_X2_isLevel K a0 a1 h (fun v1 h1 =>
  if v1 = 0 then
    Q 0 h1
  else
    (f_X2_in K a2 0 (((1 : Int32) <<< (a1 &&& 31)) - 1) h1 (fun v2 h2 =>
    if v2 = 0 then
      Q 0 h2
    else
      Q 1 h2) X)) X)
abbrev rm_X2_centre : Room := { frames := 1, cells := 0, slots := 0, locals := 20 }
def f_X2_centre (K : Nat → Option Nat) (a0 : Int32) (a1 : Int32) (h : zw_H) (Q : Int32 → zw_H → Prop) (X : String → Nat → zw_H → Prop) : Prop :=
  (f_X2_wide K a0 h (fun v1 h1 =>
  (f_X2_wide K a0 h1 (fun v2 h2 =>
  ((2 : Int32) ≠ 0 ∧ 
  Q ((a1 * v1) + (v2 / 2)) h2)) X)) X)
abbrev rm_X2_box : Room := { frames := 4, cells := 0, slots := 0, locals := 89 }
def f_X2_box_J94 (K : Nat → Option Nat) (Q : Int32 → zw_H → Prop) (X : String → Nat → zw_H → Prop)   (s0 : Int32) (s1 : Int32) (s2 : Int32) (s3 : Option Nat) (h : zw_H) : Prop :=
  oc_ h s3 [0] (f_X2_charge K s3 s2 s1 s0 h (fun v9 h8 =>
  Q v9 h8) X)
def f_X2_box (K : Nat → Option Nat) (a0 : Option Nat) (a1 : Int32) (a2 : Int32) (a3 : Int32) (h : zw_H) (Q : Int32 → zw_H → Prop) (X : String → Nat → zw_H → Prop) : Prop :=
  og_I h a0 [0] 6 (fun v1 =>
  oc_ h a0 [0] (f_X2_isBox K a0 a1 a2 h (fun v2 h1 =>
  (f_X2_in K a3 0 5 h1 (fun v3 h2 =>
  oc_ h2 a0 [0] (f_X2_may K a0 v1 v2 v3 h2 (fun v4 h3 =>
  if v4 ≠ 0 then
    if a3 = 0 then
      (f_X2_wide K a1 h3 (fun v5 h4 =>
      Q (a2 * v5) h4) X)
    else if a3 = 1 then
      (f_X2_wide K a1 h3 (fun v6 h5 =>
      Q v6 h5) X)
    else if a3 = 2 then
      (f_X2_centre K a1 a2 h3 (fun v7 h6 =>
      Q v7 h6) X)
    else if a3 = 3 then
      oc_ h3 a0 [0] (f_X2_bodiesIn K a0 a1 a2 h3 (fun v8 h7 =>
      Q v8 h7) X)
    else ((a3.toInt < 0 ∨ 3 < a3.toInt) ∧
      if a3 ≠ 5 then
        f_X2_box_J94 K Q X   0 a2 a1 a0 h3
      else
        f_X2_box_J94 K Q X   1 a2 a1 a0 h3)
  else
    Q 0 h3) X)) X)) X))
abbrev rm_X2_boxAt : Room := { frames := 2, cells := 0, slots := 0, locals := 43 }
def f_X2_boxAt (K : Nat → Option Nat) (a0 : Option Nat) (a1 : Int32) (a2 : Int32) (h : zw_H) (Q : Int32 → zw_H → Prop) (X : String → Nat → zw_H → Prop) : Prop :=
  og_I h a0 [0] 6 (fun v1 =>
  oc_ h a0 [0] (f_X2_isLevel K a0 a1 h (fun v2 h1 =>
  (f_X2_isPoint K a2 h1 (fun v3 h2 =>
  oc_ h2 a0 [0] (f_X2_may K a0 v1 v2 v3 h2 (fun v4 h3 =>
  if v4 = 0 then
    Q 0 h3
  else
    (f_X2_boxOf K a1 a2 h3 (fun v5 h4 =>
    Q v5 h4) X)) X)) X)) X))
abbrev rm_X2_mayAsk : Room := { frames := 1, cells := 0, slots := 0, locals := 23 }
def f_X2_mayAsk (K : Nat → Option Nat) (a0 : Option Nat) (h : zw_H) (Q : Int32 → zw_H → Prop) (X : String → Nat → zw_H → Prop) : Prop :=
  og_I h a0 [0] 6 (fun v1 =>
  oc_ h a0 [0] (f_X2_may K a0 v1 1 1 h (fun v2 h1 =>
  ((v2 = 0 ∨ v2 = 1) ∧ Q v2 h1)) X))
abbrev rm_X2_firstEmpty : Room := { frames := 4, cells := 0, slots := 0, locals := 88 }
def f_X2_firstEmpty_B11 (K : Nat → Option Nat) (Q : Int32 → zw_H → Prop) (X : String → Nat → zw_H → Prop)  (k37 : Int32 → zw_H → Prop) (k45 : zw_H → Prop) (l0 : Option Nat) (R : Int32 → zw_H → Prop) (l1 : Int32) (h : zw_H) : Prop :=
  og_A h l0 [0] 1 (fun v2 =>
  oa_I h v2 [0, 11] 3 (fun v3 =>
  if ((1 : Int32) <<< (v3 &&& 31)) ≤ l1 then
    k45  h
  else
    og_A h l0 [0] 1 (fun v4 =>
    oa_I h v4 [0, 11] 3 (fun v5 =>
    oc_ h l0 [0] (f_X2_bodiesIn K l0 v5 l1 h (fun v6 h2 =>
    if v6 ≠ 0 then
      olet (l1 + 1) (fun v7 =>
      R v7 h2)
    else
      k37 l1 h2) X)))))
def f_X2_firstEmpty (K : Nat → Option Nat) (a0 : Option Nat) (h : zw_H) (Q : Int32 → zw_H → Prop) (X : String → Nat → zw_H → Prop) : Prop :=
  oc_ h a0 [0] (f_X2_mayAsk K a0 h (fun v1 h1 =>
  if v1 ≠ 0 then
    zl2 (f_X2_firstEmpty_B11 K Q X (fun v8 h3 =>
      Q v8 h3) (fun h4 =>
      Q (-1) h4) a0) zfu 0 h1
  else
    Q 0 h1) X)
abbrev rm_X2_densest : Room := { frames := 4, cells := 0, slots := 0, locals := 88 }
def f_X2_densest_J54 (K : Nat → Option Nat) (Q : Int32 → zw_H → Prop) (X : String → Nat → zw_H → Prop) (R : Int32 → Int32 → Int32 → zw_H → Prop) (k60 : Int32 → zw_H → Prop) (l0 : Option Nat) (l1 : Int32) (l2 : Int32) (l3 : Int32)  (h : zw_H) : Prop :=
  olet (l3 + 1) (fun v7 =>
  R l1 l2 v7 h)
def f_X2_densest_B15 (K : Nat → Option Nat) (Q : Int32 → zw_H → Prop) (X : String → Nat → zw_H → Prop)  (k60 : Int32 → zw_H → Prop) (l0 : Option Nat) (R : Int32 → Int32 → Int32 → zw_H → Prop) (l1 : Int32) (l2 : Int32) (l3 : Int32) (h : zw_H) : Prop :=
  og_A h l0 [0] 1 (fun v2 =>
  oa_I h v2 [0, 11] 3 (fun v3 =>
  if ((1 : Int32) <<< (v3 &&& 31)) ≤ l3 then
    k60 l1 h
  else
    og_A h l0 [0] 1 (fun v4 =>
    oa_I h v4 [0, 11] 3 (fun v5 =>
    oc_ h l0 [0] (f_X2_bodiesIn K l0 v5 l3 h (fun v6 h2 =>
    if l2 < v6 then
      f_X2_densest_J54 K Q X R k60 l0 l3 v6 l3  h2
    else
      f_X2_densest_J54 K Q X R k60 l0 l1 l2 l3  h2) X)))))
def f_X2_densest (K : Nat → Option Nat) (a0 : Option Nat) (h : zw_H) (Q : Int32 → zw_H → Prop) (X : String → Nat → zw_H → Prop) : Prop :=
  oc_ h a0 [0] (f_X2_mayAsk K a0 h (fun v1 h1 =>
  if v1 ≠ 0 then
    zl4 (f_X2_densest_B15 K Q X (fun v8 h3 =>
      Q v8 h3) a0) zfu (-1) 0 0 h1
  else
    Q 0 h1) X)
abbrev rm_X2_isMoment : Room := { frames := 1, cells := 0, slots := 0, locals := 22 }
def f_X2_isMoment (K : Nat → Option Nat) (a0 : Int32) (h : zw_H) (Q : Int32 → zw_H → Prop) (X : String → Nat → zw_H → Prop) : Prop :=
  (f_X2_in K a0 0 4 h (fun v1 h1 =>
  ((v1 = 0 ∨ v1 = 1) ∧ Q v1 h1)) X)
abbrev rm_X2_mayMoment : Room := { frames := 3, cells := 0, slots := 0, locals := 65 }
def f_X2_mayMoment (K : Nat → Option Nat) (a0 : Option Nat) (a1 : Int32) (a2 : Int32) (a3 : Int32) (h : zw_H) (Q : Int32 → zw_H → Prop) (X : String → Nat → zw_H → Prop) : Prop :=
  og_I h a0 [0] 6 (fun v1 =>
  oc_ h a0 [0] (f_X2_isBox K a0 a1 a2 h (fun v2 h1 =>
  (f_X2_isMoment K a3 h1 (fun v3 h2 =>
  oc_ h2 a0 [0] (f_X2_may K a0 v1 v2 v3 h2 (fun v4 h3 =>
  ((v4 = 0 ∨ v4 = 1) ∧ Q v4 h3)) X)) X)) X))
abbrev rm_X2_power : Room := { frames := 0, cells := 0, slots := 0, locals := 0 }
def f_X2_power_B5 (K : Nat → Option Nat) (Q : Int64 → zw_H → Prop) (X : String → Nat → zw_H → Prop)  (k21 : Int64 → zw_H → Prop) (l0 : Int64) (l2 : Int32) (R : Int64 → Int32 → zw_H → Prop) (l3 : Int64) (l5 : Int32) (h : zw_H) : Prop :=
  if l2 ≤ l5 then
    k21 l3 h
  else
    olet (l3 * l0 : Int64) (fun v1 =>
    olet (l5 + 1) (fun v2 =>
    R v1 v2 h))
def f_X2_power (K : Nat → Option Nat) (a0 : Int64) (a1 : Int32) (h : zw_H) (Q : Int64 → zw_H → Prop) (X : String → Nat → zw_H → Prop) : Prop :=
  zl3 (f_X2_power_B5 K Q X (fun v3 h1 =>
    Q v3 h1) a0 a1) zfu 1 0 h
abbrev rm_X2_momentOf : Room := { frames := 3, cells := 0, slots := 0, locals := 64 }
def f_X2_momentOf_J60 (K : Nat → Option Nat) (Q : Int64 → zw_H → Prop) (X : String → Nat → zw_H → Prop) (R : Int64 → Int32 → zw_H → Prop) (k66 : Int64 → zw_H → Prop) (l0 : Option Nat) (l1 : Int32) (l2 : Int32) (l3 : Int32) (l4 : Int64) (l6 : Int32)  (h : zw_H) : Prop :=
  olet (l6 + 1) (fun v4 =>
  R l4 v4 h)
def f_X2_momentOf_B6 (K : Nat → Option Nat) (Q : Int64 → zw_H → Prop) (X : String → Nat → zw_H → Prop)  (k66 : Int64 → zw_H → Prop) (l0 : Option Nat) (l1 : Int32) (l2 : Int32) (l3 : Int32) (R : Int64 → Int32 → zw_H → Prop) (l4 : Int64) (l6 : Int32) (h : zw_H) : Prop :=
  og_A h l0 [0] 1 (fun v1 =>
  oa_I h v1 [0, 11] 0 (fun v2 =>
  if v2 ≤ l6 then
    k66 l4 h
  else
    oc_ h l0 [0] (f_X2_isIn K l0 l6 l1 l2 h (fun v3 h1 =>
    if v3 = 0 then
      f_X2_momentOf_J60 K Q X R k66 l0 l1 l2 l3 l4 l6  h1
    else
      oc_ h1 l0 [0] (f_X2_of K l0 l6 1 h1 (fun v5 h2 =>
      oc_ h2 l0 [0] (f_X2_of K l0 l6 0 h2 (fun v6 h3 =>
      (f_X2_centre K l1 l2 h3 (fun v7 h4 =>
      (f_X2_power K ((v6 - v7).toInt64) l3 h4 (fun v8 h5 =>
      olet (l4 + (v5.toInt64 * v8) : Int64) (fun v9 =>
      f_X2_momentOf_J60 K Q X R k66 l0 l1 l2 l3 v9 l6  h5)) X)) X)) X)) X)) X)))
def f_X2_momentOf (K : Nat → Option Nat) (a0 : Option Nat) (a1 : Int32) (a2 : Int32) (a3 : Int32) (h : zw_H) (Q : Int64 → zw_H → Prop) (X : String → Nat → zw_H → Prop) : Prop :=
  zl3 (f_X2_momentOf_B6 K Q X (fun v10 h6 =>
    Q v10 h6) a0 a1 a2 a3) zfu 0 0 h
abbrev rm_X2_moment : Room := { frames := 4, cells := 0, slots := 0, locals := 90 }
def f_X2_moment (K : Nat → Option Nat) (a0 : Option Nat) (a1 : Int32) (a2 : Int32) (a3 : Int32) (h : zw_H) (Q : Int64 → zw_H → Prop) (X : String → Nat → zw_H → Prop) : Prop :=
  oc_ h a0 [0] (f_X2_mayMoment K a0 a1 a2 a3 h (fun v1 h1 =>
  if v1 = 0 then
    Q 0 h1
  else
    oc_ h1 a0 [0] (f_X2_momentOf K a0 a1 a2 a3 h1 (fun v2 h2 =>
    Q v2 h2) X)) X)
abbrev rm_X2_laidAt : Room := { frames := 0, cells := 0, slots := 0, locals := 0 }
def f_X2_laidAt (K : Nat → Option Nat) (a0 : Int32) (a1 : Int32) (h : zw_H) (Q : Int32 → zw_H → Prop) (X : String → Nat → zw_H → Prop) : Prop :=
  Q ((5 : Int32) * ((((1 : Int32) <<< (a0 &&& 31)) - 1) + a1)) h
abbrev rm_X2_laysLeaf : Room := { frames := 4, cells := 0, slots := 0, locals := 90 }
def f_X2_laysLeaf_B2 (K : Nat → Option Nat) (Q : zw_H → Prop) (X : String → Nat → zw_H → Prop)  (k42 : zw_H → Prop) (l0 : Option Nat) (l1 : Int32) (R : Int32 → zw_H → Prop) (l2 : Int32) (h : zw_H) : Prop :=
  if (4 : Int32) < l2 then
    k42  h
  else
    og_A h l0 [0] 17 (fun v1 =>
    og_A h l0 [0] 1 (fun v2 =>
    oa_I h v2 [0, 11] 3 (fun v3 =>
    (f_X2_laidAt K v3 l1 h (fun v4 h1 =>
    og_A h1 l0 [0] 1 (fun v5 =>
    oa_I h1 v5 [0, 11] 3 (fun v6 =>
    oc_ h1 l0 [0] (f_X2_momentOf K l0 v6 l1 l2 h1 (fun v7 h2 =>
    os_J h2 v1 [3] (v4 + l2) v7 (fun h3 =>
    olet (l2 + 1) (fun v8 =>
    R v8 h3))) X)))) X))))
def f_X2_laysLeaf (K : Nat → Option Nat) (a0 : Option Nat) (a1 : Int32) (h : zw_H) (Q : zw_H → Prop) (X : String → Nat → zw_H → Prop) : Prop :=
  zl2 (f_X2_laysLeaf_B2 K Q X (fun h4 =>
    Q h4) a0 a1) zfu 0 h
abbrev rm_X2_choose : Room := { frames := 0, cells := 0, slots := 0, locals := 0 }
def f_X2_choose_B4 (K : Nat → Option Nat) (Q : Int32 → zw_H → Prop) (X : String → Nat → zw_H → Prop)  (k25 : Int32 → zw_H → Prop) (l0 : Int32) (l1 : Int32) (R : Int32 → Int32 → zw_H → Prop) (l2 : Int32) (l3 : Int32) (h : zw_H) : Prop :=
  if l1 < l3 then
    k25 l2 h
  else
    ((l3 : Int32) ≠ 0 ∧ 
    olet ((l2 * ((l0 - l1) + l3)) / l3 : Int32) (fun v1 =>
    olet (l3 + 1) (fun v2 =>
    R v1 v2 h)))
def f_X2_choose (K : Nat → Option Nat) (a0 : Int32) (a1 : Int32) (h : zw_H) (Q : Int32 → zw_H → Prop) (X : String → Nat → zw_H → Prop) : Prop :=
  zl3 (f_X2_choose_B4 K Q X (fun v3 h1 =>
    Q v3 h1) a0 a1) zfu 1 1 h
abbrev rm_X2_shiftOf : Room := { frames := 2, cells := 0, slots := 0, locals := 41 }
def f_X2_shiftOf_B21 (K : Nat → Option Nat) (Q : Int64 → zw_H → Prop) (X : String → Nat → zw_H → Prop)  (k75 : Int64 → zw_H → Prop) (l0 : Option Nat) (l1 : Int32) (l3 : Int32) (l4 : Int32) (l7 : Int32) (R : Int64 → Int32 → zw_H → Prop) (l5 : Int64) (l8 : Int32) (h : zw_H) : Prop :=
  if l4 < l8 then
    k75 l5 h
  else
    (f_X2_choose K l4 l8 h (fun v4 h3 =>
    og_A h3 l0 [0] 17 (fun v5 =>
    (f_X2_laidAt K (l1 + 1) l3 h3 (fun v6 h4 =>
    oa_J h4 v5 [3] (v6 + l8) (fun v7 =>
    (f_X2_power K l7.toInt64 (l4 - l8) h4 (fun v8 h5 =>
    olet (l5 + ((v4.toInt64 * v7) * v8) : Int64) (fun v9 =>
    olet (l8 + 1) (fun v10 =>
    R v9 v10 h5))) X))) X))) X)
def f_X2_shiftOf (K : Nat → Option Nat) (a0 : Option Nat) (a1 : Int32) (a2 : Int32) (a3 : Int32) (a4 : Int32) (h : zw_H) (Q : Int64 → zw_H → Prop) (X : String → Nat → zw_H → Prop) : Prop :=
  (f_X2_centre K (a1 + 1) a3 h (fun v1 h1 =>
  (f_X2_centre K a1 a2 h1 (fun v2 h2 =>
  olet (v1 - v2 : Int32) (fun v3 =>
  zl3 (f_X2_shiftOf_B21 K Q X (fun v11 h6 =>
    Q v11 h6) a0 a1 a3 a4 v3) zfu 0 0 h2)) X)) X)
abbrev rm_X2_laysMoments : Room := { frames := 5, cells := 0, slots := 0, locals := 112 }
def f_X2_laysMoments_B2 (K : Nat → Option Nat) (Q : zw_H → Prop) (X : String → Nat → zw_H → Prop)  (k25 : zw_H → Prop) (l0 : Option Nat) (R : Int32 → zw_H → Prop) (l1 : Int32) (h : zw_H) : Prop :=
  og_A h l0 [0] 1 (fun v1 =>
  oa_I h v1 [0, 11] 3 (fun v2 =>
  if ((1 : Int32) <<< (v2 &&& 31)) ≤ l1 then
    k25  h
  else
    oc_ h l0 [0] (f_X2_laysLeaf K l0 l1 h (fun h1 =>
    olet (l1 + 1) (fun v3 =>
    R v3 h1)) X)))
def f_X2_laysMoments_B49 (K : Nat → Option Nat) (Q : zw_H → Prop) (X : String → Nat → zw_H → Prop)  (k95 : zw_H → Prop) (l0 : Option Nat) (l1 : Int32) (l2 : Int32) (R : Int32 → zw_H → Prop) (l3 : Int32) (h : zw_H) : Prop :=
  if (4 : Int32) < l3 then
    k95  h
  else
    og_A h l0 [0] 17 (fun v7 =>
    (f_X2_laidAt K l1 l2 h (fun v8 h3 =>
    oc_ h3 l0 [0] (f_X2_shiftOf K l0 l1 l2 ((2 : Int32) * l2) l3 h3 (fun v9 h4 =>
    oc_ h4 l0 [0] (f_X2_shiftOf K l0 l1 l2 (((2 : Int32) * l2) + 1) l3 h4 (fun v10 h5 =>
    os_J h5 v7 [3] (v8 + l3) (v9 + v10) (fun h6 =>
    olet (l3 + 1) (fun v11 =>
    R v11 h6))) X)) X)) X))
def f_X2_laysMoments_B40 (K : Nat → Option Nat) (Q : zw_H → Prop) (X : String → Nat → zw_H → Prop)  (k101 : zw_H → Prop) (l0 : Option Nat) (l1 : Int32) (R : Int32 → zw_H → Prop) (l2 : Int32) (h : zw_H) : Prop :=
  if ((1 : Int32) <<< (l1 &&& 31)) ≤ l2 then
    k101  h
  else
    zl2 (f_X2_laysMoments_B49 K Q X (fun h7 =>
      olet (l2 + 1) (fun v12 =>
      R v12 h7)) l0 l1 l2) zfu 0 h
def f_X2_laysMoments_B34 (K : Nat → Option Nat) (Q : zw_H → Prop) (X : String → Nat → zw_H → Prop)  (k107 : zw_H → Prop) (l0 : Option Nat) (R : Int32 → zw_H → Prop) (l1 : Int32) (h : zw_H) : Prop :=
  if l1 < 0 then
    k107  h
  else
    zl2 (f_X2_laysMoments_B40 K Q X (fun h8 =>
      olet (l1 + (-1)) (fun v13 =>
      R v13 h8)) l0 l1) zfu 0 h
def f_X2_laysMoments (K : Nat → Option Nat) (a0 : Option Nat) (h : zw_H) (Q : zw_H → Prop) (X : String → Nat → zw_H → Prop) : Prop :=
  zl2 (f_X2_laysMoments_B2 K Q X (fun h2 =>
    og_A h2 a0 [0] 1 (fun v4 =>
    oa_I h2 v4 [0, 11] 3 (fun v5 =>
    olet (v5 - 1 : Int32) (fun v6 =>
    zl2 (f_X2_laysMoments_B34 K Q X (fun h9 =>
      Q h9) a0) zfu v6 h2)))) a0) zfu 0 h
abbrev rm_X2_shifted : Room := { frames := 6, cells := 0, slots := 0, locals := 135 }
def f_X2_shifted (K : Nat → Option Nat) (a0 : Option Nat) (a1 : Int32) (a2 : Int32) (a3 : Int32) (h : zw_H) (Q : Int64 → zw_H → Prop) (X : String → Nat → zw_H → Prop) : Prop :=
  oc_ h a0 [0] (f_X2_mayMoment K a0 a1 a2 a3 h (fun v1 h1 =>
  if v1 ≠ 0 then
    oc_ h1 a0 [0] (f_X2_laysMoments K a0 h1 (fun h2 =>
    og_A h2 a0 [0] 17 (fun v2 =>
    (f_X2_laidAt K a1 a2 h2 (fun v3 h3 =>
    oa_J h3 v2 [3] (v3 + a3) (fun v4 =>
    Q v4 h3)) X))) X)
  else
    Q 0 h1) X)
abbrev rm_X2_momentGap : Room := { frames := 6, cells := 0, slots := 0, locals := 135 }
def f_X2_momentGap_J89 (K : Nat → Option Nat) (Q : Int64 → zw_H → Prop) (X : String → Nat → zw_H → Prop) (R : Int64 → Int32 → zw_H → Prop) (k97 : Int64 → zw_H → Prop) (l0 : Option Nat) (l3 : Int32) (l4 : Int32) (l5 : Int32) (s0 : Int64) (s1 : Int64) (h : zw_H) : Prop :=
  olet (s1 + s0 : Int64) (fun v9 =>
  olet (l5 + 1) (fun v10 =>
  R v9 v10 h))
def f_X2_momentGap_B41 (K : Nat → Option Nat) (Q : Int64 → zw_H → Prop) (X : String → Nat → zw_H → Prop)  (k97 : Int64 → zw_H → Prop) (l0 : Option Nat) (l3 : Int32) (l4 : Int32) (R : Int64 → Int32 → zw_H → Prop) (l1 : Int64) (l5 : Int32) (h : zw_H) : Prop :=
  if (4 : Int32) < l5 then
    k97 l1 h
  else
    oc_ h l0 [0] (f_X2_momentOf K l0 l3 l4 l5 h (fun v4 h3 =>
    og_A h3 l0 [0] 17 (fun v5 =>
    (f_X2_laidAt K l3 l4 h3 (fun v6 h4 =>
    oa_J h4 v5 [3] (v6 + l5) (fun v7 =>
    olet (v4 - v7 : Int64) (fun v8 =>
    if (0 : Int32) ≤ (lg_cmp v8 0) then
      f_X2_momentGap_J89 K Q X R k97 l0 l3 l4 l5 v8 l1 h4
    else
      f_X2_momentGap_J89 K Q X R k97 l0 l3 l4 l5 (-v8) l1 h4))) X))) X)
def f_X2_momentGap_B30 (K : Nat → Option Nat) (Q : Int64 → zw_H → Prop) (X : String → Nat → zw_H → Prop)  (k103 : Int64 → zw_H → Prop) (l0 : Option Nat) (l3 : Int32) (R : Int64 → Int32 → zw_H → Prop) (l1 : Int64) (l4 : Int32) (h : zw_H) : Prop :=
  if ((1 : Int32) <<< (l3 &&& 31)) ≤ l4 then
    k103 l1 h
  else
    zl3 (f_X2_momentGap_B41 K Q X (fun v11 h5 =>
      olet (l4 + 1) (fun v12 =>
      R v11 v12 h5)) l0 l3 l4) zfu l1 0 h
def f_X2_momentGap_B17 (K : Nat → Option Nat) (Q : Int64 → zw_H → Prop) (X : String → Nat → zw_H → Prop)  (k109 : Int64 → zw_H → Prop) (l0 : Option Nat) (R : Int64 → Int32 → zw_H → Prop) (l1 : Int64) (l3 : Int32) (h : zw_H) : Prop :=
  og_A h l0 [0] 1 (fun v2 =>
  oa_I h v2 [0, 11] 3 (fun v3 =>
  if v3 < l3 then
    k109 l1 h
  else
    zl3 (f_X2_momentGap_B30 K Q X (fun v13 h6 =>
      olet (l3 + 1) (fun v14 =>
      R v13 v14 h6)) l0 l3) zfu l1 0 h))
def f_X2_momentGap (K : Nat → Option Nat) (a0 : Option Nat) (h : zw_H) (Q : Int64 → zw_H → Prop) (X : String → Nat → zw_H → Prop) : Prop :=
  oc_ h a0 [0] (f_X2_mayAsk K a0 h (fun v1 h1 =>
  if v1 ≠ 0 then
    oc_ h1 a0 [0] (f_X2_laysMoments K a0 h1 (fun h2 =>
    zl3 (f_X2_momentGap_B17 K Q X (fun v15 h7 =>
      Q v15 h7) a0) zfu 0 0 h2) X)
  else
    Q 0 h1) X)
abbrev rm_X2_isNear : Room := { frames := 2, cells := 0, slots := 0, locals := 41 }
def f_X2_isNear (K : Nat → Option Nat) (a0 : Option Nat) (a1 : Int32) (a2 : Int32) (h : zw_H) (Q : Int32 → zw_H → Prop) (X : String → Nat → zw_H → Prop) : Prop :=
  og_A h a0 [0] 1 (fun v1 =>
  oa_I h v1 [0, 11] 3 (fun v2 =>
  oc_ h a0 [0] (f_X2_of K a0 a1 0 h (fun v3 h1 =>
  (f_X2_boxOf K v2 v3 h1 (fun v4 h2 =>
  og_A h2 a0 [0] 1 (fun v5 =>
  oa_I h2 v5 [0, 11] 3 (fun v6 =>
  (f_X2_boxOf K v6 a2 h2 (fun v7 h3 =>
  (f_X2_far K v4 v7 h3 (fun v8 h4 =>
  if (1 : Int32) < v8 then
    Q 0 h4
  else
    Q 1 h4) X)) X)))) X)) X)))
abbrev rm_X2_nearAll : Room := { frames := 3, cells := 0, slots := 0, locals := 63 }
def f_X2_nearAll_B4 (K : Nat → Option Nat) (Q : Int32 → zw_H → Prop) (X : String → Nat → zw_H → Prop)  (k32 : Int32 → zw_H → Prop) (l0 : Option Nat) (l1 : Int32) (R : Int32 → Int32 → zw_H → Prop) (l2 : Int32) (l3 : Int32) (h : zw_H) : Prop :=
  og_A h l0 [0] 1 (fun v1 =>
  oa_I h v1 [0, 11] 0 (fun v2 =>
  if v2 ≤ l3 then
    k32 l2 h
  else
    oc_ h l0 [0] (f_X2_isNear K l0 l3 l1 h (fun v3 h1 =>
    (f_X2_one K v3 h1 (fun v4 h2 =>
    olet (l2 + v4 : Int32) (fun v5 =>
    olet (l3 + 1) (fun v6 =>
    R v5 v6 h2))) X)) X)))
def f_X2_nearAll (K : Nat → Option Nat) (a0 : Option Nat) (a1 : Int32) (h : zw_H) (Q : Int32 → zw_H → Prop) (X : String → Nat → zw_H → Prop) : Prop :=
  zl3 (f_X2_nearAll_B4 K Q X (fun v7 h3 =>
    Q v7 h3) a0 a1) zfu 0 0 h
abbrev rm_X2_nearMany : Room := { frames := 4, cells := 0, slots := 0, locals := 86 }
def f_X2_nearMany (K : Nat → Option Nat) (a0 : Option Nat) (a1 : Int32) (h : zw_H) (Q : Int32 → zw_H → Prop) (X : String → Nat → zw_H → Prop) : Prop :=
  oc_ h a0 [0] (f_X2_mayPoint K a0 a1 h (fun v1 h1 =>
  if v1 = 0 then
    Q 0 h1
  else
    oc_ h1 a0 [0] (f_X2_nearAll K a0 a1 h1 (fun v2 h2 =>
    Q v2 h2) X)) X)
abbrev rm_X2_nearBody : Room := { frames := 3, cells := 0, slots := 0, locals := 66 }
def f_X2_nearBody_J50 (K : Nat → Option Nat) (Q : Int32 → zw_H → Prop) (X : String → Nat → zw_H → Prop) (R : Int32 → Int32 → zw_H → Prop) (k44 : Int32 → zw_H → Prop) (k56 : zw_H → Prop) (l0 : Option Nat) (l1 : Int32) (l2 : Int32) (l3 : Int32) (l4 : Int32)  (h : zw_H) : Prop :=
  olet (l4 + 1) (fun v6 =>
  R l3 v6 h)
def f_X2_nearBody_B15 (K : Nat → Option Nat) (Q : Int32 → zw_H → Prop) (X : String → Nat → zw_H → Prop)  (k44 : Int32 → zw_H → Prop) (k56 : zw_H → Prop) (l0 : Option Nat) (l1 : Int32) (l2 : Int32) (R : Int32 → Int32 → zw_H → Prop) (l3 : Int32) (l4 : Int32) (h : zw_H) : Prop :=
  og_A h l0 [0] 1 (fun v2 =>
  oa_I h v2 [0, 11] 0 (fun v3 =>
  if v3 ≤ l4 then
    k56  h
  else
    oc_ h l0 [0] (f_X2_isNear K l0 l4 l1 h (fun v4 h2 =>
    if v4 ≠ 0 then
      if l3 ≠ l2 then
        olet (l3 + 1) (fun v5 =>
        f_X2_nearBody_J50 K Q X R k44 k56 l0 l1 l2 v5 l4  h2)
      else
        k44 l4 h2
    else
      f_X2_nearBody_J50 K Q X R k44 k56 l0 l1 l2 l3 l4  h2) X)))
def f_X2_nearBody (K : Nat → Option Nat) (a0 : Option Nat) (a1 : Int32) (a2 : Int32) (h : zw_H) (Q : Int32 → zw_H → Prop) (X : String → Nat → zw_H → Prop) : Prop :=
  oc_ h a0 [0] (f_X2_mayPoint K a0 a1 h (fun v1 h1 =>
  if v1 ≠ 0 then
    zl3 (f_X2_nearBody_B15 K Q X (fun v7 h3 =>
      Q v7 h3) (fun h4 =>
      Q (-1) h4) a0 a1 a2) zfu 0 0 h1
  else
    Q 0 h1) X)
abbrev rm_X2_isFar : Room := { frames := 4, cells := 0, slots := 0, locals := 88 }
def f_X2_isFar (K : Nat → Option Nat) (a0 : Option Nat) (a1 : Int32) (a2 : Int32) (a3 : Int32) (h : zw_H) (Q : Int32 → zw_H → Prop) (X : String → Nat → zw_H → Prop) : Prop :=
  (f_X2_far K a2 a3 h (fun v1 h1 =>
  if v1 ≤ 1 then
    Q 0 h1
  else
    ((2 : Int32) ≠ 0 ∧ 
    ((2 : Int32) ≠ 0 ∧ 
    (f_X2_far K (a2 / 2) (a3 / 2) h1 (fun v2 h2 =>
    if (1 : Int32) < v2 then
      Q 0 h2
    else
      oc_ h2 a0 [0] (f_X2_bodiesIn K a0 a1 a2 h2 (fun v3 h3 =>
      if v3 ≤ 0 then
        Q 0 h3
      else
        Q 1 h3) X)) X)))) X)
abbrev rm_X2_laysFar : Room := { frames := 5, cells := 0, slots := 0, locals := 111 }
def f_X2_laysFar_J73 (K : Nat → Option Nat) (Q : zw_H → Prop) (X : String → Nat → zw_H → Prop) (R : Int32 → zw_H → Prop) (k79 : zw_H → Prop) (l0 : Option Nat) (l1 : Int32) (l2 : Int32) (l3 : Int32)  (h : zw_H) : Prop :=
  olet (l3 + 1) (fun v10 =>
  R v10 h)
def f_X2_laysFar_B19 (K : Nat → Option Nat) (Q : zw_H → Prop) (X : String → Nat → zw_H → Prop)  (k79 : zw_H → Prop) (l0 : Option Nat) (l1 : Int32) (l2 : Int32) (R : Int32 → zw_H → Prop) (l3 : Int32) (h : zw_H) : Prop :=
  if ((1 : Int32) <<< (l2 &&& 31)) ≤ l3 then
    k79  h
  else
    (f_X2_boxOf K l2 l1 h (fun v3 h2 =>
    oc_ h2 l0 [0] (f_X2_isFar K l0 l2 l3 v3 h2 (fun v4 h3 =>
    if v4 ≠ 0 then
      og_A h3 l0 [0] 18 (fun v5 =>
      og_I h3 l0 [0] 20 (fun v6 =>
      os_I h3 v5 [0] v6 l2 (fun h4 =>
      og_A h4 l0 [0] 19 (fun v7 =>
      og_I h4 l0 [0] 20 (fun v8 =>
      os_I h4 v7 [0] v8 l3 (fun h5 =>
      og_I h5 l0 [0] 20 (fun v9 =>
      op_V h5 l0 [0] 20 (.int (v9 + 1)) (fun h6 =>
      f_X2_laysFar_J73 K Q X R k79 l0 l1 l2 l3  h6))))))))
    else
      f_X2_laysFar_J73 K Q X R k79 l0 l1 l2 l3  h3) X)) X)
def f_X2_laysFar_B7 (K : Nat → Option Nat) (Q : zw_H → Prop) (X : String → Nat → zw_H → Prop)  (k85 : zw_H → Prop) (l0 : Option Nat) (l1 : Int32) (R : Int32 → zw_H → Prop) (l2 : Int32) (h : zw_H) : Prop :=
  og_A h l0 [0] 1 (fun v1 =>
  oa_I h v1 [0, 11] 3 (fun v2 =>
  if v2 < l2 then
    k85  h
  else
    zl2 (f_X2_laysFar_B19 K Q X (fun h7 =>
      olet (l2 + 1) (fun v11 =>
      R v11 h7)) l0 l1 l2) zfu 0 h))
def f_X2_laysFar (K : Nat → Option Nat) (a0 : Option Nat) (a1 : Int32) (h : zw_H) (Q : zw_H → Prop) (X : String → Nat → zw_H → Prop) : Prop :=
  op_V h a0 [0] 20 (.int 0) (fun h1 =>
  zl2 (f_X2_laysFar_B7 K Q X (fun h8 =>
    Q h8) a0 a1) zfu 2 h1)
abbrev rm_X2_farMany : Room := { frames := 6, cells := 0, slots := 0, locals := 134 }
def f_X2_farMany (K : Nat → Option Nat) (a0 : Option Nat) (a1 : Int32) (h : zw_H) (Q : Int32 → zw_H → Prop) (X : String → Nat → zw_H → Prop) : Prop :=
  oc_ h a0 [0] (f_X2_mayPoint K a0 a1 h (fun v1 h1 =>
  if v1 ≠ 0 then
    oc_ h1 a0 [0] (f_X2_laysFar K a0 a1 h1 (fun h2 =>
    og_I h2 a0 [0] 20 (fun v2 =>
    Q v2 h2)) X)
  else
    Q 0 h1) X)
abbrev rm_X2_farBox : Room := { frames := 6, cells := 0, slots := 0, locals := 134 }
def f_X2_farBox (K : Nat → Option Nat) (a0 : Option Nat) (a1 : Int32) (a2 : Int32) (h : zw_H) (Q : Int32 → zw_H → Prop) (X : String → Nat → zw_H → Prop) : Prop :=
  oc_ h a0 [0] (f_X2_mayPoint K a0 a1 h (fun v1 h1 =>
  if v1 ≠ 0 then
    oc_ h1 a0 [0] (f_X2_laysFar K a0 a1 h1 (fun h2 =>
    og_I h2 a0 [0] 20 (fun v2 =>
    (f_X2_in K a2 0 (v2 - 1) h2 (fun v3 h3 =>
    if v3 = 0 then
      Q (-1) h3
    else
      og_A h3 a0 [0] 18 (fun v4 =>
      oa_I h3 v4 [0, 11] a2 (fun v5 =>
      og_A h3 a0 [0] 19 (fun v6 =>
      oa_I h3 v6 [0, 11] a2 (fun v7 =>
      Q (((100 : Int32) * v5) + v7) h3))))) X))) X)
  else
    Q 0 h1) X)
abbrev rm_X2_farBodies : Room := { frames := 6, cells := 0, slots := 0, locals := 134 }
def f_X2_farBodies_B19 (K : Nat → Option Nat) (Q : Int32 → zw_H → Prop) (X : String → Nat → zw_H → Prop)  (k52 : Int32 → zw_H → Prop) (l0 : Option Nat) (R : Int32 → Int32 → zw_H → Prop) (l2 : Int32) (l3 : Int32) (h : zw_H) : Prop :=
  og_I h l0 [0] 20 (fun v2 =>
  if v2 ≤ l3 then
    k52 l2 h
  else
    og_A h l0 [0] 18 (fun v3 =>
    oa_I h v3 [0, 11] l3 (fun v4 =>
    og_A h l0 [0] 19 (fun v5 =>
    oa_I h v5 [0, 11] l3 (fun v6 =>
    oc_ h l0 [0] (f_X2_bodiesIn K l0 v4 v6 h (fun v7 h3 =>
    olet (l2 + v7 : Int32) (fun v8 =>
    olet (l3 + 1) (fun v9 =>
    R v8 v9 h3))) X))))))
def f_X2_farBodies (K : Nat → Option Nat) (a0 : Option Nat) (a1 : Int32) (h : zw_H) (Q : Int32 → zw_H → Prop) (X : String → Nat → zw_H → Prop) : Prop :=
  oc_ h a0 [0] (f_X2_mayPoint K a0 a1 h (fun v1 h1 =>
  if v1 ≠ 0 then
    oc_ h1 a0 [0] (f_X2_laysFar K a0 a1 h1 (fun h2 =>
    zl3 (f_X2_farBodies_B19 K Q X (fun v10 h4 =>
      Q v10 h4) a0) zfu 0 0 h2) X)
  else
    Q 0 h1) X)
abbrev rm_X2_isPair : Room := { frames := 3, cells := 0, slots := 0, locals := 63 }
def f_X2_isPair_J67 (K : Nat → Option Nat) (Q : Int32 → zw_H → Prop) (X : String → Nat → zw_H → Prop)   (s0 : Int32) (s1 : Int32) (h : zw_H) : Prop :=
  if s1 ≠ s0 then
    Q 0 h
  else
    Q 1 h
def f_X2_isPair_J58 (K : Nat → Option Nat) (Q : Int32 → zw_H → Prop) (X : String → Nat → zw_H → Prop)  (l3 : Int32) (s0 : Int32) (h : zw_H) : Prop :=
  if l3 ≠ 0 then
    f_X2_isPair_J67 K Q X   0 s0 h
  else
    f_X2_isPair_J67 K Q X   1 s0 h
def f_X2_isPair_J50 (K : Nat → Option Nat) (Q : Int32 → zw_H → Prop) (X : String → Nat → zw_H → Prop)  (l3 : Int32) (s0 : Int32) (s1 : Int32) (h : zw_H) : Prop :=
  if s1 ≠ s0 then
    f_X2_isPair_J58 K Q X  l3 0 h
  else
    f_X2_isPair_J58 K Q X  l3 1 h
def f_X2_isPair_J36 (K : Nat → Option Nat) (Q : Int32 → zw_H → Prop) (X : String → Nat → zw_H → Prop)  (l0 : Option Nat) (l2 : Int32) (l3 : Int32) (s0 : Int32) (h : zw_H) : Prop :=
  oc_ h l0 [0] (f_X2_of K l0 l2 1 h (fun v14 h10 =>
  if v14 ≤ 0 then
    f_X2_isPair_J50 K Q X  l3 0 s0 h10
  else
    f_X2_isPair_J50 K Q X  l3 1 s0 h10) X)
def f_X2_isPair (K : Nat → Option Nat) (a0 : Option Nat) (a1 : Int32) (a2 : Int32) (a3 : Int32) (h : zw_H) (Q : Int32 → zw_H → Prop) (X : String → Nat → zw_H → Prop) : Prop :=
  oc_ h a0 [0] (f_X2_of K a0 a1 0 h (fun v1 h1 =>
  oc_ h1 a0 [0] (f_X2_of K a0 a2 0 h1 (fun v2 h2 =>
  if v1 ≠ v2 then
    if (2 : Int32) ≤ a3 then
      if a3 ≠ 2 then
        og_A h2 a0 [0] 1 (fun v3 =>
        oa_I h2 v3 [0, 11] 3 (fun v4 =>
        oc_ h2 a0 [0] (f_X2_of K a0 a1 0 h2 (fun v5 h3 =>
        (f_X2_boxOf K v4 v5 h3 (fun v6 h4 =>
        og_A h4 a0 [0] 1 (fun v7 =>
        oa_I h4 v7 [0, 11] 3 (fun v8 =>
        oc_ h4 a0 [0] (f_X2_of K a0 a2 0 h4 (fun v9 h5 =>
        (f_X2_boxOf K v8 v9 h5 (fun v10 h6 =>
        if v6 ≠ v10 then
          Q 0 h6
        else
          Q 1 h6) X)) X)))) X)) X)))
      else
        oc_ h2 a0 [0] (f_X2_of K a0 a2 0 h2 (fun v11 h7 =>
        oc_ h7 a0 [0] (f_X2_isNear K a0 a1 v11 h7 (fun v12 h8 =>
        ((v12 = 0 ∨ v12 = 1) ∧ Q v12 h8)) X)) X)
    else
      oc_ h2 a0 [0] (f_X2_of K a0 a1 1 h2 (fun v13 h9 =>
      if v13 ≤ 0 then
        f_X2_isPair_J36 K Q X  a0 a2 a3 0 h9
      else
        f_X2_isPair_J36 K Q X  a0 a2 a3 1 h9) X)
  else
    Q 0 h2) X)) X)
abbrev rm_X2_pairs : Room := { frames := 4, cells := 0, slots := 0, locals := 86 }
def f_X2_pairs_B38 (K : Nat → Option Nat) (Q : Int32 → zw_H → Prop) (X : String → Nat → zw_H → Prop)  (k69 : Int32 → zw_H → Prop) (l0 : Option Nat) (l1 : Int32) (l3 : Int32) (R : Int32 → Int32 → zw_H → Prop) (l2 : Int32) (l4 : Int32) (h : zw_H) : Prop :=
  og_A h l0 [0] 1 (fun v7 =>
  oa_I h v7 [0, 11] 0 (fun v8 =>
  if v8 ≤ l4 then
    k69 l2 h
  else
    oc_ h l0 [0] (f_X2_isPair K l0 l3 l4 l1 h (fun v9 h3 =>
    (f_X2_one K v9 h3 (fun v10 h4 =>
    olet (l2 + v10 : Int32) (fun v11 =>
    olet (l4 + 1) (fun v12 =>
    R v11 v12 h4))) X)) X)))
def f_X2_pairs_B23 (K : Nat → Option Nat) (Q : Int32 → zw_H → Prop) (X : String → Nat → zw_H → Prop)  (k75 : Int32 → zw_H → Prop) (l0 : Option Nat) (l1 : Int32) (R : Int32 → Int32 → zw_H → Prop) (l2 : Int32) (l3 : Int32) (h : zw_H) : Prop :=
  og_A h l0 [0] 1 (fun v4 =>
  oa_I h v4 [0, 11] 0 (fun v5 =>
  if v5 ≤ l3 then
    k75 l2 h
  else
    olet (l3 + 1 : Int32) (fun v6 =>
    zl3 (f_X2_pairs_B38 K Q X (fun v13 h5 =>
      olet (l3 + 1) (fun v14 =>
      R v13 v14 h5)) l0 l1 l3) zfu l2 v6 h)))
def f_X2_pairs (K : Nat → Option Nat) (a0 : Option Nat) (a1 : Int32) (h : zw_H) (Q : Int32 → zw_H → Prop) (X : String → Nat → zw_H → Prop) : Prop :=
  og_I h a0 [0] 6 (fun v1 =>
  (f_X2_in K a1 0 3 h (fun v2 h1 =>
  oc_ h1 a0 [0] (f_X2_mayTwo K a0 v1 v2 h1 (fun v3 h2 =>
  if v3 ≠ 0 then
    zl3 (f_X2_pairs_B23 K Q X (fun v15 h6 =>
      Q v15 h6) a0 a1) zfu 0 0 h2
  else
    Q 0 h2) X)) X))
abbrev rm_X2_costOf : Room := { frames := 6, cells := 0, slots := 0, locals := 134 }
def f_X2_costOf_J47 (K : Nat → Option Nat) (Q : Int32 → zw_H → Prop) (X : String → Nat → zw_H → Prop) (R : Int32 → Int32 → zw_H → Prop) (k58 : Int32 → zw_H → Prop) (l0 : Option Nat) (l1 : Int32) (l2 : Int32) (l4 : Int32) (s0 : Int32) (s1 : Int32) (h : zw_H) : Prop :=
  (f_X2_one K s0 h (fun v4 h2 =>
  olet (s1 + v4 : Int32) (fun v5 =>
  olet (l4 + 1) (fun v6 =>
  R v5 v6 h2))) X)
def f_X2_costOf_J46 (K : Nat → Option Nat) (Q : Int32 → zw_H → Prop) (X : String → Nat → zw_H → Prop) (R : Int32 → Int32 → zw_H → Prop) (k58 : Int32 → zw_H → Prop) (l0 : Option Nat) (l1 : Int32) (l2 : Int32) (l4 : Int32) (s0 : Int32) (h : zw_H) : Prop :=
  f_X2_costOf_J47 K Q X R k58 l0 l1 l2 l4 0 s0 h
def f_X2_costOf_J42 (K : Nat → Option Nat) (Q : Int32 → zw_H → Prop) (X : String → Nat → zw_H → Prop) (R : Int32 → Int32 → zw_H → Prop) (k58 : Int32 → zw_H → Prop) (l0 : Option Nat) (l1 : Int32) (l2 : Int32) (l4 : Int32) (s0 : Int32) (h : zw_H) : Prop :=
  f_X2_costOf_J47 K Q X R k58 l0 l1 l2 l4 1 s0 h
def f_X2_costOf_B5 (K : Nat → Option Nat) (Q : Int32 → zw_H → Prop) (X : String → Nat → zw_H → Prop)  (k58 : Int32 → zw_H → Prop) (l0 : Option Nat) (l1 : Int32) (l2 : Int32) (R : Int32 → Int32 → zw_H → Prop) (l3 : Int32) (l4 : Int32) (h : zw_H) : Prop :=
  og_A h l0 [0] 1 (fun v1 =>
  oa_I h v1 [0, 11] 0 (fun v2 =>
  if v2 ≤ l4 then
    k58 l3 h
  else
    oc_ h l0 [0] (f_X2_of K l0 l4 0 h (fun v3 h1 =>
    if v3 = l1 then
      f_X2_costOf_J46 K Q X R k58 l0 l1 l2 l4 l3 h1
    else
      if l2 ≠ 0 then
        f_X2_costOf_J42 K Q X R k58 l0 l1 l2 l4 l3 h1
      else
        oc_ h1 l0 [0] (f_X2_isNear K l0 l4 l1 h1 (fun v7 h3 =>
        if v7 = 0 then
          f_X2_costOf_J46 K Q X R k58 l0 l1 l2 l4 l3 h3
        else
          f_X2_costOf_J42 K Q X R k58 l0 l1 l2 l4 l3 h3) X)) X)))
def f_X2_costOf (K : Nat → Option Nat) (a0 : Option Nat) (a1 : Int32) (a2 : Int32) (h : zw_H) (Q : Int32 → zw_H → Prop) (X : String → Nat → zw_H → Prop) : Prop :=
  zl3 (f_X2_costOf_B5 K Q X (fun v8 h4 =>
    oc_ h4 a0 [0] (f_X2_laysFar K a0 a1 h4 (fun h5 =>
    if a2 = 0 then
      og_A h5 a0 [0] 1 (fun v9 =>
      oa_I h5 v9 [0, 11] 4 (fun v10 =>
      og_I h5 a0 [0] 20 (fun v11 =>
      Q (v8 + ((v10 + 1) * v11)) h5)))
    else
      Q v8 h5) X)) a0 a1 a2) zfu 0 0 h
abbrev rm_X2_cost : Room := { frames := 7, cells := 0, slots := 0, locals := 158 }
def f_X2_cost (K : Nat → Option Nat) (a0 : Option Nat) (a1 : Int32) (a2 : Int32) (h : zw_H) (Q : Int32 → zw_H → Prop) (X : String → Nat → zw_H → Prop) : Prop :=
  oc_ h a0 [0] (f_X2_mayPoint K a0 a1 h (fun v1 h1 =>
  if v1 = 0 then
    Q 0 h1
  else
    oc_ h1 a0 [0] (f_X2_costOf K a0 a1 a2 h1 (fun v2 h2 =>
    Q v2 h2) X)) X)
abbrev rm_X2_sumOf : Room := { frames := 3, cells := 0, slots := 0, locals := 63 }
def f_X2_sumOf_J77 (K : Nat → Option Nat) (Q : UInt64 → zw_H → Prop) (X : String → Nat → zw_H → Prop) (R : UInt64 → Int32 → zw_H → Prop) (k83 : UInt64 → zw_H → Prop) (l0 : Option Nat) (l1 : Int32) (l2 : Int32) (l3 : Int32) (l4 : UInt64) (l6 : Int32)  (h : zw_H) : Prop :=
  olet (l6 + 1) (fun v3 =>
  R l4 v3 h)
def f_X2_sumOf_J51 (K : Nat → Option Nat) (Q : UInt64 → zw_H → Prop) (X : String → Nat → zw_H → Prop) (R : UInt64 → Int32 → zw_H → Prop) (k83 : UInt64 → zw_H → Prop) (l0 : Option Nat) (l1 : Int32) (l2 : Int32) (l3 : Int32) (l4 : UInt64) (l6 : Int32)  (h : zw_H) : Prop :=
  oc_ h l0 [0] (f_X2_of K l0 l6 1 h (fun v5 h2 =>
  oc_ h2 l0 [0] (f_X2_of K l0 l6 0 h2 (fun v6 h3 =>
  (f_X2_far K v6 l1 h3 (fun v7 h4 =>
  (vf_n64 (FP.ddiv (FP.i2d v5) (FP.i2d v7)) ∧ 
  olet (FP.ddiv (FP.i2d v5) (FP.i2d v7) : UInt64) (fun v8 =>
  (vf_n64 (FP.dadd l4 v8) ∧ 
  olet (FP.dadd l4 v8 : UInt64) (fun v9 =>
  f_X2_sumOf_J77 K Q X R k83 l0 l1 l2 l3 v9 l6  h4))))) X)) X)) X)
def f_X2_sumOf_B6 (K : Nat → Option Nat) (Q : UInt64 → zw_H → Prop) (X : String → Nat → zw_H → Prop)  (k83 : UInt64 → zw_H → Prop) (l0 : Option Nat) (l1 : Int32) (l2 : Int32) (l3 : Int32) (R : UInt64 → Int32 → zw_H → Prop) (l4 : UInt64) (l6 : Int32) (h : zw_H) : Prop :=
  og_A h l0 [0] 1 (fun v1 =>
  oa_I h v1 [0, 11] 0 (fun v2 =>
  if v2 ≤ l6 then
    k83 l4 h
  else
    if l6 = l3 then
      f_X2_sumOf_J77 K Q X R k83 l0 l1 l2 l3 l4 l6  h
    else
      oc_ h l0 [0] (f_X2_of K l0 l6 0 h (fun v4 h1 =>
      if v4 = l1 then
        f_X2_sumOf_J77 K Q X R k83 l0 l1 l2 l3 l4 l6  h1
      else
        if l2 ≠ 0 then
          f_X2_sumOf_J51 K Q X R k83 l0 l1 l2 l3 l4 l6  h1
        else
          oc_ h1 l0 [0] (f_X2_isNear K l0 l6 l1 h1 (fun v10 h5 =>
          if v10 ≠ 0 then
            f_X2_sumOf_J51 K Q X R k83 l0 l1 l2 l3 l4 l6  h5
          else
            f_X2_sumOf_J77 K Q X R k83 l0 l1 l2 l3 l4 l6  h5) X)) X)))
def f_X2_sumOf (K : Nat → Option Nat) (a0 : Option Nat) (a1 : Int32) (a2 : Int32) (a3 : Int32) (h : zw_H) (Q : UInt64 → zw_H → Prop) (X : String → Nat → zw_H → Prop) : Prop :=
  zl3 (f_X2_sumOf_B6 K Q X (fun v11 h6 =>
    Q v11 h6) a0 a1 a2 a3) zfu FP.dconst0 0 h
abbrev rm_X2_plain : Room := { frames := 4, cells := 0, slots := 0, locals := 89 }
def f_X2_plain (K : Nat → Option Nat) (a0 : Option Nat) (a1 : Int32) (h : zw_H) (Q : UInt64 → zw_H → Prop) (X : String → Nat → zw_H → Prop) : Prop :=
  oc_ h a0 [0] (f_X2_mayPoint K a0 a1 h (fun v1 h1 =>
  if v1 = 0 then
    Q FP.dconst0 h1
  else
    oc_ h1 a0 [0] (f_X2_sumOf K a0 a1 1 (-1) h1 (fun v2 h2 =>
    Q v2 h2) X)) X)
abbrev rm_X2_nearSum : Room := { frames := 4, cells := 0, slots := 0, locals := 89 }
def f_X2_nearSum (K : Nat → Option Nat) (a0 : Option Nat) (a1 : Int32) (h : zw_H) (Q : UInt64 → zw_H → Prop) (X : String → Nat → zw_H → Prop) : Prop :=
  oc_ h a0 [0] (f_X2_mayPoint K a0 a1 h (fun v1 h1 =>
  if v1 = 0 then
    Q FP.dconst0 h1
  else
    oc_ h1 a0 [0] (f_X2_sumOf K a0 a1 0 (-1) h1 (fun v2 h2 =>
    Q v2 h2) X)) X)
abbrev rm_X2_valueOf : Room := { frames := 4, cells := 0, slots := 0, locals := 90 }
def f_X2_valueOf_B20 (K : Nat → Option Nat) (Q : UInt64 → zw_H → Prop) (X : String → Nat → zw_H → Prop)  (k62 : UInt64 → zw_H → Prop) (l0 : Option Nat) (l1 : Int32) (l2 : Int32) (l4 : Int32) (R : UInt64 → UInt64 → Int32 → zw_H → Prop) (l5 : UInt64) (l7 : UInt64) (l9 : Int32) (h : zw_H) : Prop :=
  og_A h l0 [0] 1 (fun v4 =>
  oa_I h v4 [0, 11] 4 (fun v5 =>
  if v5 < l9 then
    k62 l5 h
  else
    oc_ h l0 [0] (f_X2_momentOf K l0 l1 l2 l9 h (fun v6 h2 =>
    (vf_n64 (FP.ddiv (FP.l2d v6) l7) ∧ 
    olet (FP.ddiv (FP.l2d v6) l7 : UInt64) (fun v7 =>
    (vf_n64 (FP.dadd l5 v7) ∧ 
    olet (FP.dadd l5 v7 : UInt64) (fun v8 =>
    (vf_n64 (FP.dmul l7 (FP.i2d l4)) ∧ 
    olet (FP.dmul l7 (FP.i2d l4) : UInt64) (fun v9 =>
    olet (l9 + 1) (fun v10 =>
    R v8 v9 v10 h2)))))))) X)))
def f_X2_valueOf (K : Nat → Option Nat) (a0 : Option Nat) (a1 : Int32) (a2 : Int32) (a3 : Int32) (h : zw_H) (Q : UInt64 → zw_H → Prop) (X : String → Nat → zw_H → Prop) : Prop :=
  (f_X2_centre K a1 a2 h (fun v1 h1 =>
  olet (a3 - v1 : Int32) (fun v2 =>
  olet (FP.i2d v2 : UInt64) (fun v3 =>
  zl4 (f_X2_valueOf_B20 K Q X (fun v11 h3 =>
    if (0 : Int32) ≤ v2 then
      Q v11 h3
    else
      (vf_n64 (FP.dsub FP.dconst0 v11) ∧ 
      olet (FP.dsub FP.dconst0 v11 : UInt64) (fun v12 =>
      Q v12 h3))) a0 a1 a2 v2) zfu FP.dconst0 v3 0 h1))) X)
abbrev rm_X2_farOf : Room := { frames := 6, cells := 0, slots := 0, locals := 134 }
def f_X2_farOf_B10 (K : Nat → Option Nat) (Q : UInt64 → zw_H → Prop) (X : String → Nat → zw_H → Prop)  (k47 : UInt64 → zw_H → Prop) (l0 : Option Nat) (l1 : Int32) (R : UInt64 → Int32 → zw_H → Prop) (l2 : UInt64) (l4 : Int32) (h : zw_H) : Prop :=
  og_I h l0 [0] 20 (fun v1 =>
  if v1 ≤ l4 then
    k47 l2 h
  else
    og_A h l0 [0] 18 (fun v2 =>
    oa_I h v2 [0, 11] l4 (fun v3 =>
    og_A h l0 [0] 19 (fun v4 =>
    oa_I h v4 [0, 11] l4 (fun v5 =>
    oc_ h l0 [0] (f_X2_valueOf K l0 v3 v5 l1 h (fun v6 h2 =>
    (vf_n64 (FP.dadd l2 v6) ∧ 
    olet (FP.dadd l2 v6 : UInt64) (fun v7 =>
    olet (l4 + 1) (fun v8 =>
    R v7 v8 h2)))) X))))))
def f_X2_farOf (K : Nat → Option Nat) (a0 : Option Nat) (a1 : Int32) (h : zw_H) (Q : UInt64 → zw_H → Prop) (X : String → Nat → zw_H → Prop) : Prop :=
  oc_ h a0 [0] (f_X2_laysFar K a0 a1 h (fun h1 =>
  zl3 (f_X2_farOf_B10 K Q X (fun v9 h3 =>
    Q v9 h3) a0 a1) zfu FP.dconst0 0 h1) X)
abbrev rm_X2_farSum : Room := { frames := 7, cells := 0, slots := 0, locals := 158 }
def f_X2_farSum (K : Nat → Option Nat) (a0 : Option Nat) (a1 : Int32) (h : zw_H) (Q : UInt64 → zw_H → Prop) (X : String → Nat → zw_H → Prop) : Prop :=
  oc_ h a0 [0] (f_X2_mayPoint K a0 a1 h (fun v1 h1 =>
  if v1 = 0 then
    Q FP.dconst0 h1
  else
    oc_ h1 a0 [0] (f_X2_farOf K a0 a1 h1 (fun v2 h2 =>
    Q v2 h2) X)) X)
abbrev rm_J34_isNaN : Room := { frames := 0, cells := 0, slots := 0, locals := 0 }
def f_J34_isNaN (K : Nat → Option Nat) (a0 : UInt64) (h : zw_H) (Q : Int32 → zw_H → Prop) (X : String → Nat → zw_H → Prop) : Prop :=
  if (Op.cmpValue (FP.dcmp a0 a0) .l) = 0 then
    Q 0 h
  else
    Q 1 h
abbrev rm_J34_doubleToLongBits : Room := { frames := 2, cells := 0, slots := 0, locals := 100 }
def f_J34_doubleToLongBits (K : Nat → Option Nat) (a0 : UInt64) (h : zw_H) (Q : Int64 → zw_H → Prop) (X : String → Nat → zw_H → Prop) : Prop :=
  (f_J34_isNaN K a0 h (fun v1 h1 =>
  if v1 ≠ 0 then
    Q (9221120237041090560 : Int64) h1
  else
    Q a0.toInt64 h1) X)
abbrev rm_X2_farBits : Room := { frames := 7, cells := 0, slots := 0, locals := 158 }
def f_X2_farBits (K : Nat → Option Nat) (a0 : Option Nat) (a1 : Int32) (h : zw_H) (Q : Int64 → zw_H → Prop) (X : String → Nat → zw_H → Prop) : Prop :=
  oc_ h a0 [0] (f_X2_mayPoint K a0 a1 h (fun v1 h1 =>
  if v1 = 0 then
    Q 0 h1
  else
    oc_ h1 a0 [0] (f_X2_farOf K a0 a1 h1 (fun v2 h2 =>
    (f_J34_doubleToLongBits K v2 h2 (fun v3 h3 =>
    Q v3 h3) X)) X)) X)
abbrev rm_X2_value : Room := { frames := 5, cells := 0, slots := 0, locals := 119 }
def f_X2_value_J56 (K : Nat → Option Nat) (Q : UInt64 → zw_H → Prop) (X : String → Nat → zw_H → Prop)  (l0 : Option Nat) (l1 : Int32) (l2 : Int32) (l3 : Int32) (l4 : Int32) (s0 : Int32) (h : zw_H) : Prop :=
  og_I h l0 [0] 6 (fun v2 =>
  oc_ h l0 [0] (f_X2_may K l0 v2 l4 s0 h (fun v3 h1 =>
  if v3 = 0 then
    Q FP.dconst0 h1
  else
    oc_ h1 l0 [0] (f_X2_valueOf K l0 l1 l2 l3 h1 (fun v4 h2 =>
    Q v4 h2) X)) X))
def f_X2_value_J55 (K : Nat → Option Nat) (Q : UInt64 → zw_H → Prop) (X : String → Nat → zw_H → Prop)  (l0 : Option Nat) (l1 : Int32) (l2 : Int32) (l3 : Int32) (l4 : Int32)  (h : zw_H) : Prop :=
  f_X2_value_J56 K Q X  l0 l1 l2 l3 l4 0 h
def f_X2_value_J21 (K : Nat → Option Nat) (Q : UInt64 → zw_H → Prop) (X : String → Nat → zw_H → Prop)  (l0 : Option Nat) (l1 : Int32) (l2 : Int32) (l3 : Int32) (s0 : Int32) (h : zw_H) : Prop :=
  if s0 = 0 then
    f_X2_value_J55 K Q X  l0 l1 l2 l3 s0  h
  else
    (f_X2_isPoint K l3 h (fun v5 h3 =>
    if v5 = 0 then
      f_X2_value_J55 K Q X  l0 l1 l2 l3 s0  h3
    else
      (f_X2_centre K l1 l2 h3 (fun v6 h4 =>
      (f_X2_far K l3 v6 h4 (fun v7 h5 =>
      (f_X2_wide K l1 h5 (fun v8 h6 =>
      if v7 < v8 then
        f_X2_value_J55 K Q X  l0 l1 l2 l3 s0  h6
      else
        f_X2_value_J56 K Q X  l0 l1 l2 l3 s0 1 h6) X)) X)) X)) X)
def f_X2_value_J20 (K : Nat → Option Nat) (Q : UInt64 → zw_H → Prop) (X : String → Nat → zw_H → Prop)  (l0 : Option Nat) (l1 : Int32) (l2 : Int32) (l3 : Int32)  (h : zw_H) : Prop :=
  f_X2_value_J21 K Q X  l0 l1 l2 l3 0 h
def f_X2_value (K : Nat → Option Nat) (a0 : Option Nat) (a1 : Int32) (a2 : Int32) (a3 : Int32) (h : zw_H) (Q : UInt64 → zw_H → Prop) (X : String → Nat → zw_H → Prop) : Prop :=
  og_I h a0 [0] 6 (fun v1 =>
  if v1 = 0 then
    f_X2_value_J20 K Q X  a0 a1 a2 a3  h
  else
    oc_ h a0 [0] (f_X2_isBox K a0 a1 a2 h (fun v9 h7 =>
    if v9 = 0 then
      f_X2_value_J20 K Q X  a0 a1 a2 a3  h7
    else
      f_X2_value_J21 K Q X  a0 a1 a2 a3 1 h7) X))
abbrev rm_X2_boundOf : Room := { frames := 6, cells := 0, slots := 0, locals := 134 }
def f_X2_boundOf_B71 (K : Nat → Option Nat) (Q : UInt64 → zw_H → Prop) (X : String → Nat → zw_H → Prop)  (k90 : UInt64 → zw_H → Prop) (l0 : Option Nat) (l1 : Int32) (l2 : Int32) (l3 : UInt64) (l5 : Int32) (l6 : Int32) (l7 : Int32) (l8 : UInt64) (R : UInt64 → Int32 → zw_H → Prop) (l10 : UInt64) (l12 : Int32) (h : zw_H) : Prop :=
  if l2 < l12 then
    k90 l10 h
  else
    (vf_n64 (FP.dmul l10 l8) ∧ 
    olet (FP.dmul l10 l8 : UInt64) (fun v13 =>
    olet (l12 + 1) (fun v14 =>
    R v13 v14 h)))
def f_X2_boundOf_B10 (K : Nat → Option Nat) (Q : UInt64 → zw_H → Prop) (X : String → Nat → zw_H → Prop)  (k129 : UInt64 → zw_H → Prop) (l0 : Option Nat) (l1 : Int32) (l2 : Int32) (R : UInt64 → Int32 → zw_H → Prop) (l3 : UInt64) (l5 : Int32) (h : zw_H) : Prop :=
  og_I h l0 [0] 20 (fun v1 =>
  if v1 ≤ l5 then
    k129 l3 h
  else
    og_A h l0 [0] 18 (fun v2 =>
    oa_I h v2 [0, 11] l5 (fun v3 =>
    og_A h l0 [0] 19 (fun v4 =>
    oa_I h v4 [0, 11] l5 (fun v5 =>
    (f_X2_centre K v3 v5 h (fun v6 h2 =>
    (f_X2_far K l1 v6 h2 (fun v7 h3 =>
    og_A h3 l0 [0] 18 (fun v8 =>
    oa_I h3 v8 [0, 11] l5 (fun v9 =>
    (f_X2_wide K v9 h3 (fun v10 h4 =>
    ((2 : Int32) ≠ 0 ∧ 
    olet (v10 / 2 : Int32) (fun v11 =>
    (vf_n64 (FP.ddiv (FP.i2d v11) (FP.i2d v7)) ∧ 
    olet (FP.ddiv (FP.i2d v11) (FP.i2d v7) : UInt64) (fun v12 =>
    zl3 (f_X2_boundOf_B71 K Q X (fun v15 h5 =>
      og_A h5 l0 [0] 18 (fun v16 =>
      oa_I h5 v16 [0, 11] l5 (fun v17 =>
      og_A h5 l0 [0] 19 (fun v18 =>
      oa_I h5 v18 [0, 11] l5 (fun v19 =>
      oc_ h5 l0 [0] (f_X2_charge K l0 v17 v19 1 h5 (fun v20 h6 =>
      (vf_n64 (FP.dmul (FP.i2d v20) v15) ∧ 
      olet (FP.dmul (FP.i2d v20) v15 : UInt64) (fun v21 =>
      (vf_n64 (FP.ddiv v21 (FP.i2d (v7 - v11))) ∧ 
      olet (FP.ddiv v21 (FP.i2d (v7 - v11)) : UInt64) (fun v22 =>
      (vf_n64 (FP.dadd l3 v22) ∧ 
      olet (FP.dadd l3 v22 : UInt64) (fun v23 =>
      olet (l5 + 1) (fun v24 =>
      R v23 v24 h6)))))))) X)))))) l0 l1 l2 l3 l5 v7 v11 v12) zfu FP.dconst1 0 h4))))) X)))) X)) X))))))
def f_X2_boundOf (K : Nat → Option Nat) (a0 : Option Nat) (a1 : Int32) (a2 : Int32) (h : zw_H) (Q : UInt64 → zw_H → Prop) (X : String → Nat → zw_H → Prop) : Prop :=
  oc_ h a0 [0] (f_X2_laysFar K a0 a1 h (fun h1 =>
  zl3 (f_X2_boundOf_B10 K Q X (fun v25 h7 =>
    Q v25 h7) a0 a1 a2) zfu FP.dconst0 0 h1) X)
abbrev rm_X2_bound : Room := { frames := 7, cells := 0, slots := 0, locals := 166 }
def f_X2_bound (K : Nat → Option Nat) (a0 : Option Nat) (a1 : Int32) (h : zw_H) (Q : UInt64 → zw_H → Prop) (X : String → Nat → zw_H → Prop) : Prop :=
  oc_ h a0 [0] (f_X2_mayPoint K a0 a1 h (fun v1 h1 =>
  if v1 = 0 then
    Q FP.dconst0 h1
  else
    og_A h1 a0 [0] 1 (fun v2 =>
    oa_I h1 v2 [0, 11] 4 (fun v3 =>
    oc_ h1 a0 [0] (f_X2_boundOf K a0 a1 v3 h1 (fun v4 h2 =>
    Q v4 h2) X)))) X)
abbrev rm_X2_energy : Room := { frames := 7, cells := 0, slots := 0, locals := 158 }
def f_X2_energy_J64 (K : Nat → Option Nat) (Q : UInt64 → zw_H → Prop) (X : String → Nat → zw_H → Prop) (R : UInt64 → Int32 → zw_H → Prop) (k86 : UInt64 → zw_H → Prop) (l0 : Option Nat) (l1 : Int32) (l2 : UInt64) (l4 : Int32) (s0 : UInt64) (h : zw_H) : Prop :=
  oc_ h l0 [0] (f_X2_of K l0 l4 1 h (fun v6 h4 =>
  (vf_n64 (FP.dmul (FP.i2d v6) s0) ∧ 
  olet (FP.dmul (FP.i2d v6) s0 : UInt64) (fun v7 =>
  (vf_n64 (FP.dadd l2 v7) ∧ 
  olet (FP.dadd l2 v7 : UInt64) (fun v8 =>
  olet (l4 + 1) (fun v9 =>
  R v8 v9 h4)))))) X)
def f_X2_energy_B14 (K : Nat → Option Nat) (Q : UInt64 → zw_H → Prop) (X : String → Nat → zw_H → Prop)  (k86 : UInt64 → zw_H → Prop) (l0 : Option Nat) (l1 : Int32) (R : UInt64 → Int32 → zw_H → Prop) (l2 : UInt64) (l4 : Int32) (h : zw_H) : Prop :=
  og_A h l0 [0] 1 (fun v2 =>
  oa_I h v2 [0, 11] 0 (fun v3 =>
  if v3 ≤ l4 then
    k86 l2 h
  else
    oc_ h l0 [0] (f_X2_of K l0 l4 0 h (fun v4 h2 =>
    if l1 = 0 then
      oc_ h2 l0 [0] (f_X2_sumOf K l0 v4 1 (-1) h2 (fun v5 h3 =>
      f_X2_energy_J64 K Q X R k86 l0 l1 l2 l4 v5 h3) X)
    else
      oc_ h2 l0 [0] (f_X2_sumOf K l0 v4 0 (-1) h2 (fun v10 h5 =>
      oc_ h5 l0 [0] (f_X2_farOf K l0 v4 h5 (fun v11 h6 =>
      (vf_n64 (FP.dadd v10 v11) ∧ 
      olet (FP.dadd v10 v11 : UInt64) (fun v12 =>
      f_X2_energy_J64 K Q X R k86 l0 l1 l2 l4 v12 h6))) X)) X)) X)))
def f_X2_energy (K : Nat → Option Nat) (a0 : Option Nat) (a1 : Int32) (h : zw_H) (Q : UInt64 → zw_H → Prop) (X : String → Nat → zw_H → Prop) : Prop :=
  oc_ h a0 [0] (f_X2_mayAsk K a0 h (fun v1 h1 =>
  if v1 ≠ 0 then
    zl3 (f_X2_energy_B14 K Q X (fun v13 h7 =>
      (vf_n64 (FP.ddiv v13 (4611686018427387904 : UInt64)) ∧ 
      olet (FP.ddiv v13 (4611686018427387904 : UInt64) : UInt64) (fun v14 =>
      Q v14 h7))) a0 a1) zfu FP.dconst0 0 h1
  else
    Q FP.dconst0 h1) X)
abbrev rm_X2_absolute : Room := { frames := 0, cells := 0, slots := 0, locals := 0 }
def f_X2_absolute (K : Nat → Option Nat) (a0 : UInt64) (h : zw_H) (Q : UInt64 → zw_H → Prop) (X : String → Nat → zw_H → Prop) : Prop :=
  if (0 : Int32) ≤ (Op.cmpValue (FP.dcmp a0 FP.dconst0) .g) then
    Q a0 h
  else
    (vf_n64 (FP.dsub FP.dconst0 a0) ∧ 
    olet (FP.dsub FP.dconst0 a0 : UInt64) (fun v1 =>
    Q v1 h))
abbrev rm_X2_gapOf : Room := { frames := 7, cells := 0, slots := 0, locals := 158 }
def f_X2_gapOf (K : Nat → Option Nat) (a0 : Option Nat) (a1 : Int32) (h : zw_H) (Q : UInt64 → zw_H → Prop) (X : String → Nat → zw_H → Prop) : Prop :=
  oc_ h a0 [0] (f_X2_sumOf K a0 a1 1 (-1) h (fun v1 h1 =>
  oc_ h1 a0 [0] (f_X2_sumOf K a0 a1 0 (-1) h1 (fun v2 h2 =>
  oc_ h2 a0 [0] (f_X2_farOf K a0 a1 h2 (fun v3 h3 =>
  (vf_n64 (FP.dadd v2 v3) ∧ 
  olet (FP.dadd v2 v3 : UInt64) (fun v4 =>
  (vf_n64 (FP.dsub v1 v4) ∧ 
  olet (FP.dsub v1 v4 : UInt64) (fun v5 =>
  (f_X2_absolute K v5 h3 (fun v6 h4 =>
  Q v6 h4) X)))))) X)) X)) X)
abbrev rm_X2_gapAt : Room := { frames := 8, cells := 0, slots := 0, locals := 179 }
def f_X2_gapAt (K : Nat → Option Nat) (a0 : Option Nat) (a1 : Int32) (h : zw_H) (Q : UInt64 → zw_H → Prop) (X : String → Nat → zw_H → Prop) : Prop :=
  oc_ h a0 [0] (f_X2_mayPoint K a0 a1 h (fun v1 h1 =>
  if v1 = 0 then
    Q FP.dconst0 h1
  else
    oc_ h1 a0 [0] (f_X2_gapOf K a0 a1 h1 (fun v2 h2 =>
    Q v2 h2) X)) X)
abbrev rm_X2_isWithin : Room := { frames := 8, cells := 0, slots := 0, locals := 179 }
def f_X2_isWithin (K : Nat → Option Nat) (a0 : Option Nat) (a1 : Int32) (h : zw_H) (Q : Int32 → zw_H → Prop) (X : String → Nat → zw_H → Prop) : Prop :=
  oc_ h a0 [0] (f_X2_mayPoint K a0 a1 h (fun v1 h1 =>
  if v1 = 0 then
    Q 0 h1
  else
    oc_ h1 a0 [0] (f_X2_gapOf K a0 a1 h1 (fun v2 h2 =>
    og_A h2 a0 [0] 1 (fun v3 =>
    oa_I h2 v3 [0, 11] 4 (fun v4 =>
    oc_ h2 a0 [0] (f_X2_boundOf K a0 a1 v4 h2 (fun v5 h3 =>
    (vf_n64 (FP.dadd v5 (4517329193108106637 : UInt64)) ∧ 
    olet (FP.dadd v5 (4517329193108106637 : UInt64) : UInt64) (fun v6 =>
    if (0 : Int32) < (Op.cmpValue (FP.dcmp v2 v6) .g) then
      Q 0 h3
    else
      Q 1 h3))) X)))) X)) X)
abbrev rm_X2_worst : Room := { frames := 8, cells := 0, slots := 0, locals := 179 }
def f_X2_worst_J52 (K : Nat → Option Nat) (Q : Int32 → zw_H → Prop) (X : String → Nat → zw_H → Prop) (R : Int32 → UInt64 → Int32 → zw_H → Prop) (k58 : Int32 → zw_H → Prop) (l0 : Option Nat) (l1 : Int32) (l2 : UInt64) (l4 : Int32)  (h : zw_H) : Prop :=
  olet (l4 + 1) (fun v4 =>
  R l1 l2 v4 h)
def f_X2_worst_B20 (K : Nat → Option Nat) (Q : Int32 → zw_H → Prop) (X : String → Nat → zw_H → Prop)  (k58 : Int32 → zw_H → Prop) (l0 : Option Nat) (R : Int32 → UInt64 → Int32 → zw_H → Prop) (l1 : Int32) (l2 : UInt64) (l4 : Int32) (h : zw_H) : Prop :=
  if (256 : Int32) ≤ l4 then
    k58 l1 h
  else
    oc_ h l0 [0] (f_X2_gapOf K l0 l4 h (fun v3 h3 =>
    if (0 : Int32) < (Op.cmpValue (FP.dcmp v3 l2) .g) then
      f_X2_worst_J52 K Q X R k58 l0 l4 v3 l4  h3
    else
      f_X2_worst_J52 K Q X R k58 l0 l1 l2 l4  h3) X)
def f_X2_worst (K : Nat → Option Nat) (a0 : Option Nat) (h : zw_H) (Q : Int32 → zw_H → Prop) (X : String → Nat → zw_H → Prop) : Prop :=
  oc_ h a0 [0] (f_X2_mayAsk K a0 h (fun v1 h1 =>
  if v1 ≠ 0 then
    oc_ h1 a0 [0] (f_X2_gapOf K a0 0 h1 (fun v2 h2 =>
    zl4 (f_X2_worst_B20 K Q X (fun v5 h4 =>
      Q v5 h4) a0) zfu 0 v2 1 h2) X)
  else
    Q 0 h1) X)
abbrev rm_X2_times : Room := { frames := 0, cells := 0, slots := 0, locals := 0 }
def f_X2_times_B6 (K : Nat → Option Nat) (Q : UInt64 → zw_H → Prop) (X : String → Nat → zw_H → Prop)  (k25 : UInt64 → zw_H → Prop) (l2 : UInt64) (l4 : Int32) (R : UInt64 → Int32 → zw_H → Prop) (l5 : UInt64) (l7 : Int32) (h : zw_H) : Prop :=
  if l4 ≤ l7 then
    k25 l5 h
  else
    (vf_n64 (FP.dmul l5 l2) ∧ 
    olet (FP.dmul l5 l2 : UInt64) (fun v1 =>
    olet (l7 + 1) (fun v2 =>
    R v1 v2 h)))
def f_X2_times (K : Nat → Option Nat) (a0 : UInt64) (a1 : UInt64) (a2 : Int32) (h : zw_H) (Q : UInt64 → zw_H → Prop) (X : String → Nat → zw_H → Prop) : Prop :=
  zl3 (f_X2_times_B6 K Q X (fun v3 h1 =>
    Q v3 h1) a1 a2) zfu a0 0 h
abbrev rm_X2_takesAbove : Room := { frames := 2, cells := 0, slots := 0, locals := 41 }
def f_X2_takesAbove_B35 (K : Nat → Option Nat) (Q : zw_H → Prop) (X : String → Nat → zw_H → Prop)  (k89 : zw_H → Prop) (l0 : Option Nat) (l3 : UInt64) (l5 : Int32) (R : Int32 → zw_H → Prop) (l6 : Int32) (h : zw_H) : Prop :=
  og_A h l0 [0] 1 (fun v6 =>
  oa_I h v6 [0, 11] 4 (fun v7 =>
  if v7 < l6 then
    k89  h
  else
    og_A h l0 [0] 21 (fun v8 =>
    oa_D h v8 [4] l5 (fun v9 =>
    (f_X2_choose K l6 l5 h (fun v10 h3 =>
    og_A h3 l0 [0] 22 (fun v11 =>
    oa_D h3 v11 [4] l6 (fun v12 =>
    (vf_n64 (FP.dmul (FP.i2d v10) v12) ∧ 
    olet (FP.dmul (FP.i2d v10) v12 : UInt64) (fun v13 =>
    (f_X2_times K FP.dconst1 l3 (l6 - l5) h3 (fun v14 h4 =>
    (vf_n64 (FP.dmul v13 v14) ∧ 
    olet (FP.dmul v13 v14 : UInt64) (fun v15 =>
    (vf_n64 (FP.dadd v9 v15) ∧ 
    olet (FP.dadd v9 v15 : UInt64) (fun v16 =>
    os_D h4 v8 [4] l5 v16 (fun h5 =>
    olet (l6 + 1) (fun v17 =>
    R v17 h5))))))) X)))))) X)))))
def f_X2_takesAbove_B20 (K : Nat → Option Nat) (Q : zw_H → Prop) (X : String → Nat → zw_H → Prop)  (k95 : zw_H → Prop) (l0 : Option Nat) (l3 : UInt64) (R : Int32 → zw_H → Prop) (l5 : Int32) (h : zw_H) : Prop :=
  og_A h l0 [0] 1 (fun v4 =>
  oa_I h v4 [0, 11] 4 (fun v5 =>
  if v5 < l5 then
    k95  h
  else
    zl2 (f_X2_takesAbove_B35 K Q X (fun h6 =>
      olet (l5 + 1) (fun v18 =>
      R v18 h6)) l0 l3 l5) zfu l5 h))
def f_X2_takesAbove (K : Nat → Option Nat) (a0 : Option Nat) (a1 : Int32) (a2 : Int32) (h : zw_H) (Q : zw_H → Prop) (X : String → Nat → zw_H → Prop) : Prop :=
  (f_X2_centre K a1 a2 h (fun v1 h1 =>
  ((2 : Int32) ≠ 0 ∧ 
  (f_X2_centre K (a1 - 1) (a2 / 2) h1 (fun v2 h2 =>
  olet (FP.i2d (v1 - v2) : UInt64) (fun v3 =>
  zl2 (f_X2_takesAbove_B20 K Q X (fun h7 =>
    Q h7) a0 v3) zfu 0 h2)) X))) X)
abbrev rm_X2_takesFar : Room := { frames := 4, cells := 0, slots := 0, locals := 90 }
def f_X2_takesFar_B46 (K : Nat → Option Nat) (Q : zw_H → Prop) (X : String → Nat → zw_H → Prop)  (k100 : UInt64 → zw_H → Prop) (l0 : Option Nat) (l1 : Int32) (l3 : Int32) (l4 : Int32) (l5 : Int32) (R : UInt64 → UInt64 → Int32 → zw_H → Prop) (l6 : UInt64) (l8 : UInt64) (l10 : Int32) (h : zw_H) : Prop :=
  og_A h l0 [0] 1 (fun v7 =>
  oa_I h v7 [0, 11] 4 (fun v8 =>
  if v8 < l10 then
    k100 l6 h
  else
    (f_X2_choose K (l10 + l5) l5 h (fun v9 h4 =>
    oc_ h4 l0 [0] (f_X2_momentOf K l0 l1 l3 l10 h4 (fun v10 h5 =>
    (vf_n64 (FP.ddiv (FP.l2d (v9.toInt64 * v10)) l8) ∧ 
    olet (FP.ddiv (FP.l2d (v9.toInt64 * v10)) l8 : UInt64) (fun v11 =>
    (vf_n64 (FP.dadd l6 v11) ∧ 
    olet (FP.dadd l6 v11 : UInt64) (fun v12 =>
    (vf_n64 (FP.dmul l8 (FP.i2d l4)) ∧ 
    olet (FP.dmul l8 (FP.i2d l4) : UInt64) (fun v13 =>
    olet (l10 + 1) (fun v14 =>
    R v12 v13 v14 h5)))))))) X)) X)))
def f_X2_takesFar_J152 (K : Nat → Option Nat) (Q : zw_H → Prop) (X : String → Nat → zw_H → Prop) (R : Int32 → zw_H → Prop) (k158 : zw_H → Prop) (l0 : Option Nat) (l1 : Int32) (l3 : Int32) (l4 : Int32) (l5 : Int32)  (h : zw_H) : Prop :=
  olet (l5 + 1) (fun v19 =>
  R v19 h)
def f_X2_takesFar_J122 (K : Nat → Option Nat) (Q : zw_H → Prop) (X : String → Nat → zw_H → Prop) (R : Int32 → zw_H → Prop) (k158 : zw_H → Prop) (l0 : Option Nat) (l1 : Int32) (l3 : Int32) (l4 : Int32) (l5 : Int32) (l6 : UInt64) (s0 : Int32) (s1 : Int32) (h : zw_H) : Prop :=
  if s1 ≠ s0 then
    og_A h l0 [0] 21 (fun v16 =>
    oa_D h v16 [4] l5 (fun v17 =>
    (vf_n64 (FP.dadd v17 l6) ∧ 
    olet (FP.dadd v17 l6 : UInt64) (fun v18 =>
    os_D h v16 [4] l5 v18 (fun h7 =>
    f_X2_takesFar_J152 K Q X R k158 l0 l1 l3 l4 l5  h7)))))
  else
    og_A h l0 [0] 21 (fun v20 =>
    oa_D h v20 [4] l5 (fun v21 =>
    (vf_n64 (FP.dsub v21 l6) ∧ 
    olet (FP.dsub v21 l6 : UInt64) (fun v22 =>
    os_D h v20 [4] l5 v22 (fun h8 =>
    f_X2_takesFar_J152 K Q X R k158 l0 l1 l3 l4 l5  h8)))))
def f_X2_takesFar_J110 (K : Nat → Option Nat) (Q : zw_H → Prop) (X : String → Nat → zw_H → Prop) (R : Int32 → zw_H → Prop) (k158 : zw_H → Prop) (l0 : Option Nat) (l1 : Int32) (l3 : Int32) (l4 : Int32) (l5 : Int32) (l6 : UInt64) (s0 : Int32) (h : zw_H) : Prop :=
  ((2 : Int32) ≠ 0 ∧ 
  if (l5 - l5 / 2 * 2) ≠ 0 then
    f_X2_takesFar_J122 K Q X R k158 l0 l1 l3 l4 l5 l6 0 s0 h
  else
    f_X2_takesFar_J122 K Q X R k158 l0 l1 l3 l4 l5 l6 1 s0 h)
def f_X2_takesFar_B16 (K : Nat → Option Nat) (Q : zw_H → Prop) (X : String → Nat → zw_H → Prop)  (k158 : zw_H → Prop) (l0 : Option Nat) (l1 : Int32) (l3 : Int32) (l4 : Int32) (R : Int32 → zw_H → Prop) (l5 : Int32) (h : zw_H) : Prop :=
  og_A h l0 [0] 1 (fun v4 =>
  oa_I h v4 [0, 11] 4 (fun v5 =>
  if v5 < l5 then
    k158  h
  else
    (f_X2_times K FP.dconst1 (FP.i2d l4) (l5 + 1) h (fun v6 h3 =>
    zl4 (f_X2_takesFar_B46 K Q X (fun v15 h6 =>
      if (0 : Int32) ≤ l4 then
        f_X2_takesFar_J110 K Q X R k158 l0 l1 l3 l4 l5 v15 0 h6
      else
        f_X2_takesFar_J110 K Q X R k158 l0 l1 l3 l4 l5 v15 1 h6) l0 l1 l3 l4 l5) zfu FP.dconst0 v6 0 h3) X)))
def f_X2_takesFar (K : Nat → Option Nat) (a0 : Option Nat) (a1 : Int32) (a2 : Int32) (a3 : Int32) (h : zw_H) (Q : zw_H → Prop) (X : String → Nat → zw_H → Prop) : Prop :=
  (f_X2_centre K a1 a2 h (fun v1 h1 =>
  (f_X2_centre K a1 a3 h1 (fun v2 h2 =>
  olet (v1 - v2 : Int32) (fun v3 =>
  zl2 (f_X2_takesFar_B16 K Q X (fun h9 =>
    Q h9) a0 a1 a3 v3) zfu 0 h2)) X)) X)
abbrev rm_X2_laysLocal : Room := { frames := 5, cells := 0, slots := 0, locals := 120 }
def f_X2_laysLocal_B2 (K : Nat → Option Nat) (Q : zw_H → Prop) (X : String → Nat → zw_H → Prop)  (k20 : zw_H → Prop) (l0 : Option Nat) (l1 : Int32) (l2 : Int32) (R : Int32 → zw_H → Prop) (l3 : Int32) (h : zw_H) : Prop :=
  if (4 : Int32) < l3 then
    k20  h
  else
    og_A h l0 [0] 21 (fun v1 =>
    os_D h v1 [4] l3 FP.dconst0 (fun h1 =>
    olet (l3 + 1) (fun v2 =>
    R v2 h1)))
def f_X2_laysLocal_B37 (K : Nat → Option Nat) (Q : zw_H → Prop) (X : String → Nat → zw_H → Prop)  (k63 : zw_H → Prop) (l0 : Option Nat) (l1 : Int32) (l2 : Int32) (l3 : Int32) (l4 : Int32) (R : Int32 → zw_H → Prop) (l5 : Int32) (h : zw_H) : Prop :=
  if (4 : Int32) < l5 then
    k63  h
  else
    og_A h l0 [0] 22 (fun v4 =>
    og_A h l0 [0] 21 (fun v5 =>
    oa_D h v5 [4] l5 (fun v6 =>
    os_D h v4 [4] l5 v6 (fun h3 =>
    olet (l5 + 1) (fun v7 =>
    R v7 h3)))))
def f_X2_laysLocal_B66 (K : Nat → Option Nat) (Q : zw_H → Prop) (X : String → Nat → zw_H → Prop)  (k86 : zw_H → Prop) (l0 : Option Nat) (l1 : Int32) (l2 : Int32) (l3 : Int32) (l4 : Int32) (R : Int32 → zw_H → Prop) (l5 : Int32) (h : zw_H) : Prop :=
  if (4 : Int32) < l5 then
    k86  h
  else
    og_A h l0 [0] 21 (fun v8 =>
    os_D h v8 [4] l5 FP.dconst0 (fun h5 =>
    olet (l5 + 1) (fun v9 =>
    R v9 h5)))
def f_X2_laysLocal_J130 (K : Nat → Option Nat) (Q : zw_H → Prop) (X : String → Nat → zw_H → Prop) (R : Int32 → zw_H → Prop) (k136 : zw_H → Prop) (l0 : Option Nat) (l1 : Int32) (l2 : Int32) (l3 : Int32) (l4 : Int32) (l5 : Int32)  (h : zw_H) : Prop :=
  olet (l5 + 1) (fun v11 =>
  R v11 h)
def f_X2_laysLocal_B101 (K : Nat → Option Nat) (Q : zw_H → Prop) (X : String → Nat → zw_H → Prop)  (k136 : zw_H → Prop) (l0 : Option Nat) (l1 : Int32) (l2 : Int32) (l3 : Int32) (l4 : Int32) (R : Int32 → zw_H → Prop) (l5 : Int32) (h : zw_H) : Prop :=
  if ((1 : Int32) <<< (l3 &&& 31)) ≤ l5 then
    k136  h
  else
    oc_ h l0 [0] (f_X2_isFar K l0 l3 l5 l4 h (fun v10 h7 =>
    if v10 = 0 then
      f_X2_laysLocal_J130 K Q X R k136 l0 l1 l2 l3 l4 l5  h7
    else
      oc_ h7 l0 [0] (f_X2_takesFar K l0 l3 l4 l5 h7 (fun h8 =>
      f_X2_laysLocal_J130 K Q X R k136 l0 l1 l2 l3 l4 l5  h8) X)) X)
def f_X2_laysLocal_J98 (K : Nat → Option Nat) (Q : zw_H → Prop) (X : String → Nat → zw_H → Prop) (R : Int32 → zw_H → Prop) (k142 : zw_H → Prop) (l0 : Option Nat) (l1 : Int32) (l2 : Int32) (l3 : Int32) (l4 : Int32)  (h : zw_H) : Prop :=
  zl2 (f_X2_laysLocal_B101 K Q X (fun h9 =>
    olet (l3 + 1) (fun v12 =>
    R v12 h9)) l0 l1 l2 l3 l4) zfu 0 h
def f_X2_laysLocal_B22 (K : Nat → Option Nat) (Q : zw_H → Prop) (X : String → Nat → zw_H → Prop)  (k142 : zw_H → Prop) (l0 : Option Nat) (l1 : Int32) (l2 : Int32) (R : Int32 → zw_H → Prop) (l3 : Int32) (h : zw_H) : Prop :=
  if l1 < l3 then
    k142  h
  else
    olet (l2 >>> ((l1 - l3) &&& 31) : Int32) (fun v3 =>
    zl2 (f_X2_laysLocal_B37 K Q X (fun h4 =>
      zl2 (f_X2_laysLocal_B66 K Q X (fun h6 =>
        if l3 ≤ 2 then
          f_X2_laysLocal_J98 K Q X R k142 l0 l1 l2 l3 v3  h6
        else
          oc_ h6 l0 [0] (f_X2_takesAbove K l0 l3 v3 h6 (fun h10 =>
          f_X2_laysLocal_J98 K Q X R k142 l0 l1 l2 l3 v3  h10) X)) l0 l1 l2 l3 v3) zfu 0 h4) l0 l1 l2 l3 v3) zfu 0 h)
def f_X2_laysLocal (K : Nat → Option Nat) (a0 : Option Nat) (a1 : Int32) (a2 : Int32) (h : zw_H) (Q : zw_H → Prop) (X : String → Nat → zw_H → Prop) : Prop :=
  zl2 (f_X2_laysLocal_B2 K Q X (fun h2 =>
    zl2 (f_X2_laysLocal_B22 K Q X (fun h11 =>
      Q h11) a0 a1 a2) zfu 2 h2) a0 a1 a2) zfu 0 h
abbrev rm_X2_localEntry : Room := { frames := 6, cells := 0, slots := 0, locals := 145 }
def f_X2_localEntry_J24 (K : Nat → Option Nat) (Q : UInt64 → zw_H → Prop) (X : String → Nat → zw_H → Prop)  (l0 : Option Nat) (l1 : Int32) (l2 : Int32) (l3 : Int32) (s0 : Int32) (s1 : Int32) (s2 : Option Nat) (h : zw_H) : Prop :=
  og_A h l0 [0] 1 (fun v2 =>
  oa_I h v2 [0, 11] 4 (fun v3 =>
  (f_X2_in K l3 0 v3 h (fun v4 h1 =>
  oc_ h1 s2 [0] (f_X2_may K s2 s1 s0 v4 h1 (fun v5 h2 =>
  if v5 ≠ 0 then
    oc_ h2 l0 [0] (f_X2_laysLocal K l0 l1 l2 h2 (fun h3 =>
    og_A h3 l0 [0] 21 (fun v6 =>
    oa_D h3 v6 [4] l3 (fun v7 =>
    Q v7 h3))) X)
  else
    Q FP.dconst0 h2) X)) X)))
def f_X2_localEntry_J23 (K : Nat → Option Nat) (Q : UInt64 → zw_H → Prop) (X : String → Nat → zw_H → Prop)  (l0 : Option Nat) (l1 : Int32) (l2 : Int32) (l3 : Int32) (s0 : Int32) (s1 : Option Nat) (h : zw_H) : Prop :=
  f_X2_localEntry_J24 K Q X  l0 l1 l2 l3 0 s0 s1 h
def f_X2_localEntry (K : Nat → Option Nat) (a0 : Option Nat) (a1 : Int32) (a2 : Int32) (a3 : Int32) (h : zw_H) (Q : UInt64 → zw_H → Prop) (X : String → Nat → zw_H → Prop) : Prop :=
  og_I h a0 [0] 6 (fun v1 =>
  if a1 < 2 then
    f_X2_localEntry_J23 K Q X  a0 a1 a2 a3 v1 a0 h
  else
    oc_ h a0 [0] (f_X2_isBox K a0 a1 a2 h (fun v8 h4 =>
    if v8 = 0 then
      f_X2_localEntry_J23 K Q X  a0 a1 a2 a3 v1 a0 h4
    else
      f_X2_localEntry_J24 K Q X  a0 a1 a2 a3 1 v1 a0 h4) X))
abbrev rm_X2_localSum : Room := { frames := 6, cells := 0, slots := 0, locals := 145 }
def f_X2_localSum_B37 (K : Nat → Option Nat) (Q : UInt64 → zw_H → Prop) (X : String → Nat → zw_H → Prop)  (k84 : UInt64 → zw_H → Prop) (l0 : Option Nat) (l1 : Int32) (l2 : Int32) (R : UInt64 → Int32 → zw_H → Prop) (l3 : UInt64) (l5 : Int32) (h : zw_H) : Prop :=
  og_A h l0 [0] 1 (fun v7 =>
  oa_I h v7 [0, 11] 4 (fun v8 =>
  if v8 < l5 then
    k84 l3 h
  else
    og_A h l0 [0] 21 (fun v9 =>
    oa_D h v9 [4] l5 (fun v10 =>
    og_A h l0 [0] 1 (fun v11 =>
    oa_I h v11 [0, 11] 3 (fun v12 =>
    (f_X2_centre K v12 l2 h (fun v13 h4 =>
    (f_X2_times K FP.dconst1 (FP.i2d (l1 - v13)) l5 h4 (fun v14 h5 =>
    (vf_n64 (FP.dmul v10 v14) ∧ 
    olet (FP.dmul v10 v14 : UInt64) (fun v15 =>
    (vf_n64 (FP.dadd l3 v15) ∧ 
    olet (FP.dadd l3 v15 : UInt64) (fun v16 =>
    olet (l5 + 1) (fun v17 =>
    R v16 v17 h5)))))) X)) X)))))))
def f_X2_localSum (K : Nat → Option Nat) (a0 : Option Nat) (a1 : Int32) (h : zw_H) (Q : UInt64 → zw_H → Prop) (X : String → Nat → zw_H → Prop) : Prop :=
  oc_ h a0 [0] (f_X2_mayPoint K a0 a1 h (fun v1 h1 =>
  if v1 ≠ 0 then
    og_A h1 a0 [0] 1 (fun v2 =>
    oa_I h1 v2 [0, 11] 3 (fun v3 =>
    (f_X2_boxOf K v3 a1 h1 (fun v4 h2 =>
    og_A h2 a0 [0] 1 (fun v5 =>
    oa_I h2 v5 [0, 11] 3 (fun v6 =>
    oc_ h2 a0 [0] (f_X2_laysLocal K a0 v6 v4 h2 (fun h3 =>
    zl3 (f_X2_localSum_B37 K Q X (fun v18 h6 =>
      Q v18 h6) a0 a1 v4) zfu FP.dconst0 0 h3) X)))) X)))
  else
    Q FP.dconst0 h1) X)
abbrev rm_X2_pullOf : Room := { frames := 3, cells := 0, slots := 0, locals := 63 }
def f_X2_pullOf_J91 (K : Nat → Option Nat) (Q : UInt64 → zw_H → Prop) (X : String → Nat → zw_H → Prop) (R : UInt64 → Int32 → zw_H → Prop) (k97 : UInt64 → zw_H → Prop) (l0 : Option Nat) (l1 : Int32) (l2 : Int32) (l3 : UInt64) (l5 : Int32)  (h : zw_H) : Prop :=
  olet (l5 + 1) (fun v5 =>
  R l3 v5 h)
def f_X2_pullOf_J90 (K : Nat → Option Nat) (Q : UInt64 → zw_H → Prop) (X : String → Nat → zw_H → Prop) (R : UInt64 → Int32 → zw_H → Prop) (k97 : UInt64 → zw_H → Prop) (l0 : Option Nat) (l1 : Int32) (l2 : Int32) (l5 : Int32) (s0 : UInt64) (h : zw_H) : Prop :=
  f_X2_pullOf_J91 K Q X R k97 l0 l1 l2 s0 l5  h
def f_X2_pullOf_J51 (K : Nat → Option Nat) (Q : UInt64 → zw_H → Prop) (X : String → Nat → zw_H → Prop) (R : UInt64 → Int32 → zw_H → Prop) (k97 : UInt64 → zw_H → Prop) (l0 : Option Nat) (l1 : Int32) (l2 : Int32) (l3 : UInt64) (l5 : Int32) (l6 : Int32)  (h : zw_H) : Prop :=
  oc_ h l0 [0] (f_X2_of K l0 l5 1 h (fun v6 h3 =>
  (vf_n64 (FP.ddiv (FP.i2d v6) (FP.i2d (l6 * l6))) ∧ 
  olet (FP.ddiv (FP.i2d v6) (FP.i2d (l6 * l6)) : UInt64) (fun v7 =>
  oc_ h3 l0 [0] (f_X2_of K l0 l5 0 h3 (fun v8 h4 =>
  if v8 ≤ l1 then
    (vf_n64 (FP.dsub l3 v7) ∧ 
    olet (FP.dsub l3 v7 : UInt64) (fun v9 =>
    f_X2_pullOf_J90 K Q X R k97 l0 l1 l2 l5 v9 h4))
  else
    (vf_n64 (FP.dadd l3 v7) ∧ 
    olet (FP.dadd l3 v7 : UInt64) (fun v10 =>
    f_X2_pullOf_J90 K Q X R k97 l0 l1 l2 l5 v10 h4))) X)))) X)
def f_X2_pullOf_B5 (K : Nat → Option Nat) (Q : UInt64 → zw_H → Prop) (X : String → Nat → zw_H → Prop)  (k97 : UInt64 → zw_H → Prop) (l0 : Option Nat) (l1 : Int32) (l2 : Int32) (R : UInt64 → Int32 → zw_H → Prop) (l3 : UInt64) (l5 : Int32) (h : zw_H) : Prop :=
  og_A h l0 [0] 1 (fun v1 =>
  oa_I h v1 [0, 11] 0 (fun v2 =>
  if v2 ≤ l5 then
    k97 l3 h
  else
    oc_ h l0 [0] (f_X2_of K l0 l5 0 h (fun v3 h1 =>
    (f_X2_far K v3 l1 h1 (fun v4 h2 =>
    if v4 = 0 then
      f_X2_pullOf_J91 K Q X R k97 l0 l1 l2 l3 l5  h2
    else
      if l2 ≠ 0 then
        f_X2_pullOf_J51 K Q X R k97 l0 l1 l2 l3 l5 v4  h2
      else
        oc_ h2 l0 [0] (f_X2_isNear K l0 l5 l1 h2 (fun v11 h5 =>
        if v11 ≠ 0 then
          f_X2_pullOf_J51 K Q X R k97 l0 l1 l2 l3 l5 v4  h5
        else
          f_X2_pullOf_J91 K Q X R k97 l0 l1 l2 l3 l5  h5) X)) X)) X)))
def f_X2_pullOf (K : Nat → Option Nat) (a0 : Option Nat) (a1 : Int32) (a2 : Int32) (h : zw_H) (Q : UInt64 → zw_H → Prop) (X : String → Nat → zw_H → Prop) : Prop :=
  zl3 (f_X2_pullOf_B5 K Q X (fun v12 h6 =>
    Q v12 h6) a0 a1 a2) zfu FP.dconst0 0 h
abbrev rm_X2_pullPlain : Room := { frames := 4, cells := 0, slots := 0, locals := 91 }
def f_X2_pullPlain (K : Nat → Option Nat) (a0 : Option Nat) (a1 : Int32) (h : zw_H) (Q : UInt64 → zw_H → Prop) (X : String → Nat → zw_H → Prop) : Prop :=
  oc_ h a0 [0] (f_X2_mayPoint K a0 a1 h (fun v1 h1 =>
  if v1 = 0 then
    Q FP.dconst0 h1
  else
    oc_ h1 a0 [0] (f_X2_pullOf K a0 a1 1 h1 (fun v2 h2 =>
    Q v2 h2) X)) X)
abbrev rm_X2_pullBy : Room := { frames := 4, cells := 0, slots := 0, locals := 90 }
def f_X2_pullBy_B15 (K : Nat → Option Nat) (Q : UInt64 → zw_H → Prop) (X : String → Nat → zw_H → Prop)  (k62 : UInt64 → zw_H → Prop) (l0 : Option Nat) (l1 : Int32) (l2 : Int32) (l3 : Int32) (R : UInt64 → UInt64 → Int32 → zw_H → Prop) (l4 : UInt64) (l6 : UInt64) (l8 : Int32) (h : zw_H) : Prop :=
  og_A h l0 [0] 1 (fun v2 =>
  oa_I h v2 [0, 11] 4 (fun v3 =>
  if v3 < l8 then
    k62 l4 h
  else
    oc_ h l0 [0] (f_X2_momentOf K l0 l1 l2 l8 h (fun v4 h2 =>
    (vf_n64 (FP.ddiv (FP.l2d (((l8 + 1).toInt64) * v4)) l6) ∧ 
    olet (FP.ddiv (FP.l2d (((l8 + 1).toInt64) * v4)) l6 : UInt64) (fun v5 =>
    (vf_n64 (FP.dadd l4 v5) ∧ 
    olet (FP.dadd l4 v5 : UInt64) (fun v6 =>
    (vf_n64 (FP.dmul l6 (FP.i2d l3)) ∧ 
    olet (FP.dmul l6 (FP.i2d l3) : UInt64) (fun v7 =>
    olet (l8 + 1) (fun v8 =>
    R v6 v7 v8 h2)))))))) X)))
def f_X2_pullBy (K : Nat → Option Nat) (a0 : Option Nat) (a1 : Int32) (a2 : Int32) (a3 : Int32) (h : zw_H) (Q : UInt64 → zw_H → Prop) (X : String → Nat → zw_H → Prop) : Prop :=
  (f_X2_times K FP.dconst1 (FP.i2d a3) 2 h (fun v1 h1 =>
  zl4 (f_X2_pullBy_B15 K Q X (fun v9 h3 =>
    Q v9 h3) a0 a1 a2 a3) zfu FP.dconst0 v1 0 h1) X)
abbrev rm_X2_farPull : Room := { frames := 6, cells := 0, slots := 0, locals := 134 }
def f_X2_farPull_J78 (K : Nat → Option Nat) (Q : UInt64 → zw_H → Prop) (X : String → Nat → zw_H → Prop) (R : UInt64 → Int32 → zw_H → Prop) (k85 : UInt64 → zw_H → Prop) (l0 : Option Nat) (l1 : Int32) (l4 : Int32) (s0 : UInt64) (h : zw_H) : Prop :=
  olet (l4 + 1) (fun v14 =>
  R s0 v14 h)
def f_X2_farPull_B10 (K : Nat → Option Nat) (Q : UInt64 → zw_H → Prop) (X : String → Nat → zw_H → Prop)  (k85 : UInt64 → zw_H → Prop) (l0 : Option Nat) (l1 : Int32) (R : UInt64 → Int32 → zw_H → Prop) (l2 : UInt64) (l4 : Int32) (h : zw_H) : Prop :=
  og_I h l0 [0] 20 (fun v1 =>
  if v1 ≤ l4 then
    k85 l2 h
  else
    og_A h l0 [0] 18 (fun v2 =>
    oa_I h v2 [0, 11] l4 (fun v3 =>
    og_A h l0 [0] 19 (fun v4 =>
    oa_I h v4 [0, 11] l4 (fun v5 =>
    (f_X2_centre K v3 v5 h (fun v6 h2 =>
    olet (l1 - v6 : Int32) (fun v7 =>
    og_A h2 l0 [0] 18 (fun v8 =>
    oa_I h2 v8 [0, 11] l4 (fun v9 =>
    og_A h2 l0 [0] 19 (fun v10 =>
    oa_I h2 v10 [0, 11] l4 (fun v11 =>
    oc_ h2 l0 [0] (f_X2_pullBy K l0 v9 v11 v7 h2 (fun v12 h3 =>
    if v7 ≤ 0 then
      (vf_n64 (FP.dadd l2 v12) ∧ 
      olet (FP.dadd l2 v12 : UInt64) (fun v13 =>
      f_X2_farPull_J78 K Q X R k85 l0 l1 l4 v13 h3))
    else
      (vf_n64 (FP.dsub l2 v12) ∧ 
      olet (FP.dsub l2 v12 : UInt64) (fun v15 =>
      f_X2_farPull_J78 K Q X R k85 l0 l1 l4 v15 h3))) X))))))) X))))))
def f_X2_farPull (K : Nat → Option Nat) (a0 : Option Nat) (a1 : Int32) (h : zw_H) (Q : UInt64 → zw_H → Prop) (X : String → Nat → zw_H → Prop) : Prop :=
  oc_ h a0 [0] (f_X2_laysFar K a0 a1 h (fun h1 =>
  zl3 (f_X2_farPull_B10 K Q X (fun v16 h4 =>
    Q v16 h4) a0 a1) zfu FP.dconst0 0 h1) X)
abbrev rm_X2_pullFar : Room := { frames := 7, cells := 0, slots := 0, locals := 161 }
def f_X2_pullFar (K : Nat → Option Nat) (a0 : Option Nat) (a1 : Int32) (h : zw_H) (Q : UInt64 → zw_H → Prop) (X : String → Nat → zw_H → Prop) : Prop :=
  oc_ h a0 [0] (f_X2_mayPoint K a0 a1 h (fun v1 h1 =>
  if v1 = 0 then
    Q FP.dconst0 h1
  else
    oc_ h1 a0 [0] (f_X2_farPull K a0 a1 h1 (fun v2 h2 =>
    Q v2 h2) X)) X)
abbrev rm_X2_pullAll : Room := { frames := 7, cells := 0, slots := 0, locals := 161 }
def f_X2_pullAll (K : Nat → Option Nat) (a0 : Option Nat) (a1 : Int32) (h : zw_H) (Q : UInt64 → zw_H → Prop) (X : String → Nat → zw_H → Prop) : Prop :=
  oc_ h a0 [0] (f_X2_pullOf K a0 a1 0 h (fun v1 h1 =>
  oc_ h1 a0 [0] (f_X2_farPull K a0 a1 h1 (fun v2 h2 =>
  (vf_n64 (FP.dadd v1 v2) ∧ 
  olet (FP.dadd v1 v2 : UInt64) (fun v3 =>
  Q v3 h2))) X)) X)
abbrev rm_X2_pull : Room := { frames := 8, cells := 0, slots := 0, locals := 182 }
def f_X2_pull (K : Nat → Option Nat) (a0 : Option Nat) (a1 : Int32) (h : zw_H) (Q : UInt64 → zw_H → Prop) (X : String → Nat → zw_H → Prop) : Prop :=
  oc_ h a0 [0] (f_X2_mayPoint K a0 a1 h (fun v1 h1 =>
  if v1 = 0 then
    Q FP.dconst0 h1
  else
    oc_ h1 a0 [0] (f_X2_pullAll K a0 a1 h1 (fun v2 h2 =>
    Q v2 h2) X)) X)
abbrev rm_X2_nearestZero : Room := { frames := 4, cells := 0, slots := 0, locals := 91 }
def f_X2_nearestZero_J104 (K : Nat → Option Nat) (Q : Int32 → zw_H → Prop) (X : String → Nat → zw_H → Prop) (R : Int32 → UInt64 → Int32 → zw_H → Prop) (k110 : Int32 → zw_H → Prop) (l0 : Option Nat) (l1 : Int32) (l2 : Int32) (l3 : UInt64) (l5 : Int32)  (h : zw_H) : Prop :=
  olet (l5 + 1) (fun v4 =>
  R l2 l3 v4 h)
def f_X2_nearestZero_J101 (K : Nat → Option Nat) (Q : Int32 → zw_H → Prop) (X : String → Nat → zw_H → Prop) (R : Int32 → UInt64 → Int32 → zw_H → Prop) (k110 : Int32 → zw_H → Prop) (l0 : Option Nat) (l1 : Int32) (l3 : UInt64) (l5 : Int32)  (h : zw_H) : Prop :=
  f_X2_nearestZero_J104 K Q X R k110 l0 l1 l5 l3 l5  h
def f_X2_nearestZero_J72 (K : Nat → Option Nat) (Q : Int32 → zw_H → Prop) (X : String → Nat → zw_H → Prop) (R : Int32 → UInt64 → Int32 → zw_H → Prop) (k110 : Int32 → zw_H → Prop) (l0 : Option Nat) (l1 : Int32) (l2 : Int32) (l5 : Int32) (l6 : UInt64) (s0 : Int32) (h : zw_H) : Prop :=
  if s0 = 0 then
    f_X2_nearestZero_J104 K Q X R k110 l0 l1 l2 l6 l5  h
  else
    if l2 = (-1) then
      f_X2_nearestZero_J101 K Q X R k110 l0 l1 l6 l5  h
    else
      (f_X2_far K l5 l1 h (fun v5 h4 =>
      (f_X2_far K l2 l1 h4 (fun v6 h5 =>
      if v6 ≤ v5 then
        f_X2_nearestZero_J104 K Q X R k110 l0 l1 l2 l6 l5  h5
      else
        f_X2_nearestZero_J101 K Q X R k110 l0 l1 l6 l5  h5) X)) X)
def f_X2_nearestZero_J64 (K : Nat → Option Nat) (Q : Int32 → zw_H → Prop) (X : String → Nat → zw_H → Prop) (R : Int32 → UInt64 → Int32 → zw_H → Prop) (k110 : Int32 → zw_H → Prop) (l0 : Option Nat) (l1 : Int32) (l2 : Int32) (l5 : Int32) (l6 : UInt64) (s0 : Int32) (s1 : Int32) (h : zw_H) : Prop :=
  if s1 = s0 then
    f_X2_nearestZero_J72 K Q X R k110 l0 l1 l2 l5 l6 0 h
  else
    f_X2_nearestZero_J72 K Q X R k110 l0 l1 l2 l5 l6 1 h
def f_X2_nearestZero_J52 (K : Nat → Option Nat) (Q : Int32 → zw_H → Prop) (X : String → Nat → zw_H → Prop) (R : Int32 → UInt64 → Int32 → zw_H → Prop) (k110 : Int32 → zw_H → Prop) (l0 : Option Nat) (l1 : Int32) (l2 : Int32) (l5 : Int32) (l6 : UInt64) (s0 : Int32) (h : zw_H) : Prop :=
  if (Op.cmpValue (FP.dcmp l6 FP.dconst0) .l) ≤ 0 then
    f_X2_nearestZero_J64 K Q X R k110 l0 l1 l2 l5 l6 0 s0 h
  else
    f_X2_nearestZero_J64 K Q X R k110 l0 l1 l2 l5 l6 1 s0 h
def f_X2_nearestZero_B22 (K : Nat → Option Nat) (Q : Int32 → zw_H → Prop) (X : String → Nat → zw_H → Prop)  (k110 : Int32 → zw_H → Prop) (l0 : Option Nat) (l1 : Int32) (R : Int32 → UInt64 → Int32 → zw_H → Prop) (l2 : Int32) (l3 : UInt64) (l5 : Int32) (h : zw_H) : Prop :=
  if (255 : Int32) ≤ l5 then
    k110 l2 h
  else
    oc_ h l0 [0] (f_X2_pullOf K l0 (l5 + 1) 1 h (fun v3 h3 =>
    if (Op.cmpValue (FP.dcmp l3 FP.dconst0) .l) ≤ 0 then
      f_X2_nearestZero_J52 K Q X R k110 l0 l1 l2 l5 v3 0 h3
    else
      f_X2_nearestZero_J52 K Q X R k110 l0 l1 l2 l5 v3 1 h3) X)
def f_X2_nearestZero (K : Nat → Option Nat) (a0 : Option Nat) (a1 : Int32) (h : zw_H) (Q : Int32 → zw_H → Prop) (X : String → Nat → zw_H → Prop) : Prop :=
  oc_ h a0 [0] (f_X2_mayPoint K a0 a1 h (fun v1 h1 =>
  if v1 ≠ 0 then
    oc_ h1 a0 [0] (f_X2_pullOf K a0 0 1 h1 (fun v2 h2 =>
    zl4 (f_X2_nearestZero_B22 K Q X (fun v7 h6 =>
      Q v7 h6) a0 a1) zfu (-1) v2 0 h2) X)
  else
    Q 0 h1) X)
abbrev rm_X2_moves : Room := { frames := 8, cells := 0, slots := 0, locals := 182 }
def f_X2_moves_J87 (K : Nat → Option Nat) (Q : Int32 → zw_H → Prop) (X : String → Nat → zw_H → Prop)   (s0 : Int32) (h : zw_H) : Prop :=
  (f_X2_one K s0 h (fun v9 h5 =>
  Q (-v9) h5) X)
def f_X2_moves_J60 (K : Nat → Option Nat) (Q : Int32 → zw_H → Prop) (X : String → Nat → zw_H → Prop)   (s0 : Int32) (h : zw_H) : Prop :=
  (f_X2_one K s0 h (fun v11 h7 =>
  Q v11 h7) X)
def f_X2_moves (K : Nat → Option Nat) (a0 : Option Nat) (a1 : Int32) (h : zw_H) (Q : Int32 → zw_H → Prop) (X : String → Nat → zw_H → Prop) : Prop :=
  oc_ h a0 [0] (f_X2_of K a0 a1 2 h (fun v1 h1 =>
  if v1 ≠ 1 then
    oc_ h1 a0 [0] (f_X2_of K a0 a1 0 h1 (fun v2 h2 =>
    oc_ h2 a0 [0] (f_X2_pullAll K a0 v2 h2 (fun v3 h3 =>
    og_A h3 a0 [0] 1 (fun v4 =>
    oa_I h3 v4 [0, 11] 5 (fun v5 =>
    (vf_n64 (FP.ddiv (FP.i2d v5) (4652007308841189376 : UInt64)) ∧ 
    olet (FP.ddiv (FP.i2d v5) (4652007308841189376 : UInt64) : UInt64) (fun v6 =>
    if (Op.cmpValue (FP.dcmp v3 v6) .l) ≤ 0 then
      (vf_n64 (FP.dsub FP.dconst0 v6) ∧ 
      olet (FP.dsub FP.dconst0 v6 : UInt64) (fun v7 =>
      if (0 : Int32) ≤ (Op.cmpValue (FP.dcmp v3 v7) .g) then
        Q 0 h3
      else
        oc_ h3 a0 [0] (f_X2_of K a0 a1 0 h3 (fun v8 h4 =>
        if v8 ≤ 0 then
          f_X2_moves_J87 K Q X   0 h4
        else
          f_X2_moves_J87 K Q X   1 h4) X)))
    else
      oc_ h3 a0 [0] (f_X2_of K a0 a1 0 h3 (fun v10 h6 =>
      if (255 : Int32) ≤ v10 then
        f_X2_moves_J60 K Q X   0 h6
      else
        f_X2_moves_J60 K Q X   1 h6) X)))))) X)) X)
  else
    Q 0 h1) X)
abbrev rm_X2_willMove : Room := { frames := 9, cells := 0, slots := 0, locals := 207 }
def f_X2_willMove (K : Nat → Option Nat) (a0 : Option Nat) (a1 : Int32) (h : zw_H) (Q : Int32 → zw_H → Prop) (X : String → Nat → zw_H → Prop) : Prop :=
  og_I h a0 [0] 6 (fun v1 =>
  oc_ h a0 [0] (f_X2_isBody K a0 a1 h (fun v2 h1 =>
  oc_ h1 a0 [0] (f_X2_mayTwo K a0 v1 v2 h1 (fun v3 h2 =>
  if v3 = 0 then
    Q 0 h2
  else
    oc_ h2 a0 [0] (f_X2_moves K a0 a1 h2 (fun v4 h3 =>
    Q v4 h3) X)) X)) X))
abbrev rm_X2_isAhead : Room := { frames := 1, cells := 0, slots := 0, locals := 22 }
def f_X2_isAhead (K : Nat → Option Nat) (a0 : Int32) (h : zw_H) (Q : Int32 → zw_H → Prop) (X : String → Nat → zw_H → Prop) : Prop :=
  (f_X2_in K a0 0 50 h (fun v1 h1 =>
  ((v1 = 0 ∨ v1 = 1) ∧ Q v1 h1)) X)
abbrev rm_X2_thinks : Room := { frames := 1, cells := 0, slots := 0, locals := 24 }
def f_X2_thinks (K : Nat → Option Nat) (a0 : Option Nat) (h : zw_H) (Q : zw_H → Prop) (X : String → Nat → zw_H → Prop) : Prop :=
  og_A h a0 [0] 1 (fun v1 =>
  og_A h a0 [0] 2 (fun v2 =>
  (f_X2_lays K v1 0 v2 0 h (fun h1 =>
  Q h1) X)))
abbrev rm_X2_steps : Room := { frames := 9, cells := 0, slots := 0, locals := 207 }
def f_X2_steps_B4 (K : Nat → Option Nat) (Q : Int32 → zw_H → Prop) (X : String → Nat → zw_H → Prop)  (k31 : zw_H → Prop) (l0 : Option Nat) (l1 : Int32) (R : Int32 → zw_H → Prop) (l2 : Int32) (h : zw_H) : Prop :=
  og_A h l0 [0] 1 (fun v1 =>
  oa_I h v1 [0, 11] 0 (fun v2 =>
  if v2 ≤ l2 then
    k31  h
  else
    og_A h l0 [0] 23 (fun v3 =>
    oc_ h l0 [0] (f_X2_moves K l0 l2 h (fun v4 h1 =>
    os_I h1 v3 [0] l2 v4 (fun h2 =>
    olet (l2 + 1) (fun v5 =>
    R v5 h2))) X))))
def f_X2_steps_J107 (K : Nat → Option Nat) (Q : Int32 → zw_H → Prop) (X : String → Nat → zw_H → Prop) (R : Int32 → Int32 → zw_H → Prop) (k118 : Int32 → zw_H → Prop) (l0 : Option Nat) (l2 : Int32) (s0 : Int32) (s1 : Int32) (h : zw_H) : Prop :=
  (f_X2_one K s0 h (fun v17 h9 =>
  olet (s1 + v17 : Int32) (fun v18 =>
  olet (l2 + 1) (fun v19 =>
  R v18 v19 h9))) X)
def f_X2_steps_J85 (K : Nat → Option Nat) (Q : Int32 → zw_H → Prop) (X : String → Nat → zw_H → Prop) (R : Int32 → Int32 → zw_H → Prop) (k118 : Int32 → zw_H → Prop) (l0 : Option Nat) (l1 : Int32) (l2 : Int32) (s0 : Int32) (s1 : Int32) (s2 : Int32) (s3 : Int32) (s4 : Option Nat) (h : zw_H) : Prop :=
  (f_X2_one K s0 h (fun v14 h7 =>
  oc_ h7 s4 [0] (f_X2_puts K s4 s3 s2 (s1 + v14) h7 (fun h8 =>
  og_A h8 l0 [0] 23 (fun v15 =>
  oa_I h8 v15 [0, 11] l2 (fun v16 =>
  if v16 = 0 then
    f_X2_steps_J107 K Q X R k118 l0 l2 0 l1 h8
  else
    f_X2_steps_J107 K Q X R k118 l0 l2 1 l1 h8))) X)) X)
def f_X2_steps_B33 (K : Nat → Option Nat) (Q : Int32 → zw_H → Prop) (X : String → Nat → zw_H → Prop)  (k118 : Int32 → zw_H → Prop) (l0 : Option Nat) (R : Int32 → Int32 → zw_H → Prop) (l1 : Int32) (l2 : Int32) (h : zw_H) : Prop :=
  og_A h l0 [0] 1 (fun v6 =>
  oa_I h v6 [0, 11] 0 (fun v7 =>
  if v7 ≤ l2 then
    k118 l1 h
  else
    oc_ h l0 [0] (f_X2_of K l0 l2 0 h (fun v8 h4 =>
    og_A h4 l0 [0] 23 (fun v9 =>
    oa_I h4 v9 [0, 11] l2 (fun v10 =>
    oc_ h4 l0 [0] (f_X2_puts K l0 l2 0 (v8 + v10) h4 (fun h5 =>
    oc_ h5 l0 [0] (f_X2_of K l0 l2 3 h5 (fun v11 h6 =>
    og_A h6 l0 [0] 23 (fun v12 =>
    oa_I h6 v12 [0, 11] l2 (fun v13 =>
    if v13 = 0 then
      f_X2_steps_J85 K Q X R k118 l0 l1 l2 0 v11 3 l2 l0 h6
    else
      f_X2_steps_J85 K Q X R k118 l0 l1 l2 1 v11 3 l2 l0 h6))) X)) X)))) X)))
def f_X2_steps (K : Nat → Option Nat) (a0 : Option Nat) (h : zw_H) (Q : Int32 → zw_H → Prop) (X : String → Nat → zw_H → Prop) : Prop :=
  zl2 (f_X2_steps_B4 K Q X (fun h3 =>
    zl3 (f_X2_steps_B33 K Q X (fun v20 h10 =>
      og_A h10 a0 [0] 1 (fun v21 =>
      oa_I h10 v21 [0, 11] 6 (fun v22 =>
      os_I h10 v21 [0] 6 (v22 + 1) (fun h11 =>
      og_A h11 a0 [0] 1 (fun v23 =>
      oa_I h11 v23 [0, 11] 1 (fun v24 =>
      os_I h11 v23 [0] 1 (v24 + v20) (fun h12 =>
      Q v20 h12))))))) a0) zfu 0 0 h3) a0 0) zfu 0 h
abbrev rm_X2_stepsMany : Room := { frames := 10, cells := 0, slots := 0, locals := 229 }
def f_X2_stepsMany_B4 (K : Nat → Option Nat) (Q : Int32 → zw_H → Prop) (X : String → Nat → zw_H → Prop)  (k22 : Int32 → zw_H → Prop) (l0 : Option Nat) (l1 : Int32) (R : Int32 → Int32 → zw_H → Prop) (l2 : Int32) (l3 : Int32) (h : zw_H) : Prop :=
  if l1 ≤ l3 then
    k22 l2 h
  else
    oc_ h l0 [0] (f_X2_steps K l0 h (fun v1 h1 =>
    olet (l2 + v1 : Int32) (fun v2 =>
    olet (l3 + 1) (fun v3 =>
    R v2 v3 h1))) X)
def f_X2_stepsMany (K : Nat → Option Nat) (a0 : Option Nat) (a1 : Int32) (h : zw_H) (Q : Int32 → zw_H → Prop) (X : String → Nat → zw_H → Prop) : Prop :=
  zl3 (f_X2_stepsMany_B4 K Q X (fun v4 h2 =>
    Q v4 h2) a0 a1) zfu 0 0 h
abbrev rm_X2_back : Room := { frames := 1, cells := 0, slots := 0, locals := 24 }
def f_X2_back (K : Nat → Option Nat) (a0 : Option Nat) (a1 : Int32) (h : zw_H) (Q : Int32 → zw_H → Prop) (X : String → Nat → zw_H → Prop) : Prop :=
  og_A h a0 [0] 2 (fun v1 =>
  og_A h a0 [0] 1 (fun v2 =>
  (f_X2_lays K v1 0 v2 0 h (fun h1 =>
  Q a1 h1) X)))
abbrev rm_X2_placeIn : Room := { frames := 11, cells := 0, slots := 0, locals := 252 }
def f_X2_placeIn (K : Nat → Option Nat) (a0 : Option Nat) (a1 : Int32) (a2 : Int32) (h : zw_H) (Q : Int32 → zw_H → Prop) (X : String → Nat → zw_H → Prop) : Prop :=
  og_I h a0 [0] 6 (fun v1 =>
  oc_ h a0 [0] (f_X2_isBody K a0 a1 h (fun v2 h1 =>
  (f_X2_isAhead K a2 h1 (fun v3 h2 =>
  oc_ h2 a0 [0] (f_X2_may K a0 v1 v2 v3 h2 (fun v4 h3 =>
  if v4 ≠ 0 then
    oc_ h3 a0 [0] (f_X2_thinks K a0 h3 (fun h4 =>
    oc_ h4 a0 [0] (f_X2_stepsMany K a0 a2 h4 (fun v5 h5 =>
    oc_ h5 a0 [0] (f_X2_of K a0 a1 0 h5 (fun v6 h6 =>
    oc_ h6 a0 [0] (f_X2_back K a0 v6 h6 (fun v7 h7 =>
    Q v7 h7) X)) X)) X)) X)
  else
    Q 0 h3) X)) X)) X))
abbrev rm_X2_movesIn : Room := { frames := 11, cells := 0, slots := 0, locals := 252 }
def f_X2_movesIn (K : Nat → Option Nat) (a0 : Option Nat) (a1 : Int32) (h : zw_H) (Q : Int32 → zw_H → Prop) (X : String → Nat → zw_H → Prop) : Prop :=
  og_I h a0 [0] 6 (fun v1 =>
  (f_X2_isAhead K a1 h (fun v2 h1 =>
  oc_ h1 a0 [0] (f_X2_mayTwo K a0 v1 v2 h1 (fun v3 h2 =>
  if v3 ≠ 0 then
    oc_ h2 a0 [0] (f_X2_thinks K a0 h2 (fun h3 =>
    oc_ h3 a0 [0] (f_X2_stepsMany K a0 a1 h3 (fun v4 h4 =>
    oc_ h4 a0 [0] (f_X2_back K a0 v4 h4 (fun v5 h5 =>
    Q v5 h5) X)) X)) X)
  else
    Q 0 h2) X)) X))
abbrev rm_X2_isStill : Room := { frames := 9, cells := 0, slots := 0, locals := 207 }
def f_X2_isStill_B2 (K : Nat → Option Nat) (Q : Int32 → zw_H → Prop) (X : String → Nat → zw_H → Prop)  (k20 : zw_H → Prop) (k28 : zw_H → Prop) (l0 : Option Nat) (R : Int32 → zw_H → Prop) (l1 : Int32) (h : zw_H) : Prop :=
  og_A h l0 [0] 1 (fun v1 =>
  oa_I h v1 [0, 11] 0 (fun v2 =>
  if v2 ≤ l1 then
    k28  h
  else
    oc_ h l0 [0] (f_X2_moves K l0 l1 h (fun v3 h1 =>
    if v3 = 0 then
      olet (l1 + 1) (fun v4 =>
      R v4 h1)
    else
      k20  h1) X)))
def f_X2_isStill (K : Nat → Option Nat) (a0 : Option Nat) (h : zw_H) (Q : Int32 → zw_H → Prop) (X : String → Nat → zw_H → Prop) : Prop :=
  zl2 (f_X2_isStill_B2 K Q X (fun h2 =>
    Q 0 h2) (fun h3 =>
    Q 1 h3) a0) zfu 0 h
abbrev rm_X2_stillIn : Room := { frames := 10, cells := 0, slots := 0, locals := 229 }
def f_X2_stillIn_B17 (K : Nat → Option Nat) (Q : Int32 → zw_H → Prop) (X : String → Nat → zw_H → Prop)  (k30 : Int32 → zw_H → Prop) (k49 : zw_H → Prop) (l0 : Option Nat) (R : Int32 → Int32 → zw_H → Prop) (l1 : Int32) (l2 : Int32) (h : zw_H) : Prop :=
  if (50 : Int32) < l2 then
    k49  h
  else
    oc_ h l0 [0] (f_X2_isStill K l0 h (fun v2 h3 =>
    if v2 = 0 then
      oc_ h3 l0 [0] (f_X2_steps K l0 h3 (fun v3 h4 =>
      olet (l1 + v3 : Int32) (fun v4 =>
      olet (l2 + 1) (fun v5 =>
      R v4 v5 h4))) X)
    else
      k30 l2 h3) X)
def f_X2_stillIn (K : Nat → Option Nat) (a0 : Option Nat) (h : zw_H) (Q : Int32 → zw_H → Prop) (X : String → Nat → zw_H → Prop) : Prop :=
  oc_ h a0 [0] (f_X2_mayAsk K a0 h (fun v1 h1 =>
  if v1 ≠ 0 then
    oc_ h1 a0 [0] (f_X2_thinks K a0 h1 (fun h2 =>
    zl3 (f_X2_stillIn_B17 K Q X (fun v6 h5 =>
      oc_ h5 a0 [0] (f_X2_back K a0 v6 h5 (fun v7 h6 =>
      Q v7 h6) X)) (fun h7 =>
      oc_ h7 a0 [0] (f_X2_back K a0 (-1) h7 (fun v8 h8 =>
      Q v8 h8) X)) a0) zfu 0 0 h2) X)
  else
    Q 0 h1) X)
abbrev rm_X2_orderFor : Room := { frames := 7, cells := 0, slots := 0, locals := 166 }
def f_X2_orderFor_B46 (K : Nat → Option Nat) (Q : Int32 → zw_H → Prop) (X : String → Nat → zw_H → Prop)  (k64 : Int32 → zw_H → Prop) (k73 : zw_H → Prop) (l0 : Option Nat) (l1 : Int32) (l3 : UInt64) (R : Int32 → zw_H → Prop) (l5 : Int32) (h : zw_H) : Prop :=
  if (4 : Int32) < l5 then
    k73  h
  else
    oc_ h l0 [0] (f_X2_boundOf K l0 l1 l5 h (fun v5 h3 =>
    if (0 : Int32) < (Op.cmpValue (FP.dcmp v5 l3) .g) then
      olet (l5 + 1) (fun v6 =>
      R v6 h3)
    else
      k64 l5 h3) X)
def f_X2_orderFor_J28 (K : Nat → Option Nat) (Q : Int32 → zw_H → Prop) (X : String → Nat → zw_H → Prop)  (l0 : Option Nat) (l1 : Int32) (l2 : Int32) (s0 : Int32) (s1 : Int32) (s2 : Option Nat) (h : zw_H) : Prop :=
  oc_ h s2 [0] (f_X2_mayTwo K s2 s1 s0 h (fun v3 h2 =>
  if v3 ≠ 0 then
    (vf_n64 (FP.ddiv (FP.i2d l2) (4652007308841189376 : UInt64)) ∧ 
    olet (FP.ddiv (FP.i2d l2) (4652007308841189376 : UInt64) : UInt64) (fun v4 =>
    zl2 (f_X2_orderFor_B46 K Q X (fun v7 h4 =>
      Q v7 h4) (fun h5 =>
      Q (-1) h5) l0 l1 v4) zfu 0 h2))
  else
    Q 0 h2) X)
def f_X2_orderFor_J27 (K : Nat → Option Nat) (Q : Int32 → zw_H → Prop) (X : String → Nat → zw_H → Prop)  (l0 : Option Nat) (l1 : Int32) (l2 : Int32) (s0 : Int32) (s1 : Option Nat) (h : zw_H) : Prop :=
  f_X2_orderFor_J28 K Q X  l0 l1 l2 0 s0 s1 h
def f_X2_orderFor (K : Nat → Option Nat) (a0 : Option Nat) (a1 : Int32) (a2 : Int32) (h : zw_H) (Q : Int32 → zw_H → Prop) (X : String → Nat → zw_H → Prop) : Prop :=
  og_I h a0 [0] 6 (fun v1 =>
  (f_X2_isPoint K a1 h (fun v2 h1 =>
  if v2 = 0 then
    f_X2_orderFor_J27 K Q X  a0 a1 a2 v1 a0 h1
  else
    (f_X2_in K a2 0 (99999 : Int32) h1 (fun v8 h6 =>
    if v8 = 0 then
      f_X2_orderFor_J27 K Q X  a0 a1 a2 v1 a0 h6
    else
      f_X2_orderFor_J28 K Q X  a0 a1 a2 1 v1 a0 h6) X)) X))
abbrev rm_X2_costAll : Room := { frames := 7, cells := 0, slots := 0, locals := 158 }
def f_X2_costAll_B4 (K : Nat → Option Nat) (Q : Int32 → zw_H → Prop) (X : String → Nat → zw_H → Prop)  (k34 : Int32 → zw_H → Prop) (l0 : Option Nat) (R : Int32 → Int32 → zw_H → Prop) (l1 : Int32) (l2 : Int32) (h : zw_H) : Prop :=
  og_A h l0 [0] 1 (fun v1 =>
  oa_I h v1 [0, 11] 0 (fun v2 =>
  if v2 ≤ l2 then
    k34 l1 h
  else
    oc_ h l0 [0] (f_X2_of K l0 l2 0 h (fun v3 h1 =>
    oc_ h1 l0 [0] (f_X2_costOf K l0 v3 0 h1 (fun v4 h2 =>
    olet (l1 + v4 : Int32) (fun v5 =>
    olet (l2 + 1) (fun v6 =>
    R v5 v6 h2))) X)) X)))
def f_X2_costAll (K : Nat → Option Nat) (a0 : Option Nat) (h : zw_H) (Q : Int32 → zw_H → Prop) (X : String → Nat → zw_H → Prop) : Prop :=
  zl3 (f_X2_costAll_B4 K Q X (fun v7 h3 =>
    Q v7 h3) a0) zfu 0 0 h
abbrev rm_X2_bestLevels : Room := { frames := 8, cells := 0, slots := 0, locals := 180 }
def f_X2_bestLevels_J56 (K : Nat → Option Nat) (Q : Int32 → zw_H → Prop) (X : String → Nat → zw_H → Prop) (R : Int32 → Int32 → Int32 → zw_H → Prop) (k62 : Int32 → zw_H → Prop) (l0 : Option Nat) (l1 : Int32) (l2 : Int32) (l3 : Int32)  (h : zw_H) : Prop :=
  olet (l3 + 1) (fun v4 =>
  R l1 l2 v4 h)
def f_X2_bestLevels_J51 (K : Nat → Option Nat) (Q : Int32 → zw_H → Prop) (X : String → Nat → zw_H → Prop) (R : Int32 → Int32 → Int32 → zw_H → Prop) (k62 : Int32 → zw_H → Prop) (l0 : Option Nat) (l3 : Int32) (l4 : Int32)  (h : zw_H) : Prop :=
  f_X2_bestLevels_J56 K Q X R k62 l0 l3 l4 l3  h
def f_X2_bestLevels_B19 (K : Nat → Option Nat) (Q : Int32 → zw_H → Prop) (X : String → Nat → zw_H → Prop)  (k62 : Int32 → zw_H → Prop) (l0 : Option Nat) (R : Int32 → Int32 → Int32 → zw_H → Prop) (l1 : Int32) (l2 : Int32) (l3 : Int32) (h : zw_H) : Prop :=
  if (5 : Int32) < l3 then
    k62 l1 h
  else
    og_A h l0 [0] 1 (fun v2 =>
    os_I h v2 [0] 3 l3 (fun h3 =>
    oc_ h3 l0 [0] (f_X2_costAll K l0 h3 (fun v3 h4 =>
    if l1 = (-1) then
      f_X2_bestLevels_J51 K Q X R k62 l0 l3 v3  h4
    else
      if v3 < l2 then
        f_X2_bestLevels_J51 K Q X R k62 l0 l3 v3  h4
      else
        f_X2_bestLevels_J56 K Q X R k62 l0 l1 l2 l3  h4) X)))
def f_X2_bestLevels (K : Nat → Option Nat) (a0 : Option Nat) (h : zw_H) (Q : Int32 → zw_H → Prop) (X : String → Nat → zw_H → Prop) : Prop :=
  oc_ h a0 [0] (f_X2_mayAsk K a0 h (fun v1 h1 =>
  if v1 ≠ 0 then
    oc_ h1 a0 [0] (f_X2_thinks K a0 h1 (fun h2 =>
    zl4 (f_X2_bestLevels_B19 K Q X (fun v5 h5 =>
      oc_ h5 a0 [0] (f_X2_back K a0 v5 h5 (fun v6 h6 =>
      Q v6 h6) X)) a0) zfu (-1) 0 2 h2) X)
  else
    Q 0 h1) X)
abbrev rm_X2_without : Room := { frames := 4, cells := 0, slots := 0, locals := 89 }
def f_X2_without (K : Nat → Option Nat) (a0 : Option Nat) (a1 : Int32) (a2 : Int32) (h : zw_H) (Q : UInt64 → zw_H → Prop) (X : String → Nat → zw_H → Prop) : Prop :=
  og_I h a0 [0] 6 (fun v1 =>
  oc_ h a0 [0] (f_X2_isBody K a0 a1 h (fun v2 h1 =>
  (f_X2_isPoint K a2 h1 (fun v3 h2 =>
  oc_ h2 a0 [0] (f_X2_may K a0 v1 v2 v3 h2 (fun v4 h3 =>
  if v4 = 0 then
    Q FP.dconst0 h3
  else
    oc_ h3 a0 [0] (f_X2_sumOf K a0 a2 1 a1 h3 (fun v5 h4 =>
    Q v5 h4) X)) X)) X)) X))
abbrev rm_X2_quietest : Room := { frames := 4, cells := 0, slots := 0, locals := 89 }
def f_X2_quietest_J71 (K : Nat → Option Nat) (Q : Int32 → zw_H → Prop) (X : String → Nat → zw_H → Prop) (R : Int32 → UInt64 → Int32 → zw_H → Prop) (k77 : Int32 → zw_H → Prop) (l0 : Option Nat) (l1 : Int32) (l2 : UInt64) (l4 : Int32)  (h : zw_H) : Prop :=
  olet (l4 + 1) (fun v5 =>
  R l1 l2 v5 h)
def f_X2_quietest_J65 (K : Nat → Option Nat) (Q : Int32 → zw_H → Prop) (X : String → Nat → zw_H → Prop) (R : Int32 → UInt64 → Int32 → zw_H → Prop) (k77 : Int32 → zw_H → Prop) (l0 : Option Nat) (l4 : Int32) (l5 : UInt64)  (h : zw_H) : Prop :=
  f_X2_quietest_J71 K Q X R k77 l0 l4 l5 l4  h
def f_X2_quietest_B16 (K : Nat → Option Nat) (Q : Int32 → zw_H → Prop) (X : String → Nat → zw_H → Prop)  (k77 : Int32 → zw_H → Prop) (l0 : Option Nat) (R : Int32 → UInt64 → Int32 → zw_H → Prop) (l1 : Int32) (l2 : UInt64) (l4 : Int32) (h : zw_H) : Prop :=
  if (256 : Int32) ≤ l4 then
    k77 l1 h
  else
    oc_ h l0 [0] (f_X2_firstAt K l0 l4 h (fun v2 h2 =>
    if v2 = (-1) then
      oc_ h2 l0 [0] (f_X2_sumOf K l0 l4 1 (-1) h2 (fun v3 h3 =>
      (f_X2_absolute K v3 h3 (fun v4 h4 =>
      if l1 = (-1) then
        f_X2_quietest_J65 K Q X R k77 l0 l4 v4  h4
      else
        if (Op.cmpValue (FP.dcmp v4 l2) .l) < 0 then
          f_X2_quietest_J65 K Q X R k77 l0 l4 v4  h4
        else
          f_X2_quietest_J71 K Q X R k77 l0 l1 l2 l4  h4) X)) X)
    else
      f_X2_quietest_J71 K Q X R k77 l0 l1 l2 l4  h2) X)
def f_X2_quietest (K : Nat → Option Nat) (a0 : Option Nat) (h : zw_H) (Q : Int32 → zw_H → Prop) (X : String → Nat → zw_H → Prop) : Prop :=
  oc_ h a0 [0] (f_X2_mayAsk K a0 h (fun v1 h1 =>
  if v1 ≠ 0 then
    zl4 (f_X2_quietest_B16 K Q X (fun v6 h5 =>
      Q v6 h5) a0) zfu (-1) FP.dconst0 0 h1
  else
    Q 0 h1) X)
abbrev rm_X2_balanced : Room := { frames := 4, cells := 0, slots := 0, locals := 89 }
def f_X2_balanced (K : Nat → Option Nat) (a0 : Option Nat) (h : zw_H) (Q : UInt32 → zw_H → Prop) (X : String → Nat → zw_H → Prop) : Prop :=
  og_A h a0 [0] 1 (fun v1 =>
  oa_I h v1 [0, 11] 0 (fun v2 =>
  if v2 ≠ 0 then
    oc_ h a0 [0] (f_X2_charge K a0 0 0 0 h (fun v3 h1 =>
    oc_ h1 a0 [0] (f_X2_charge K a0 0 0 1 h1 (fun v4 h2 =>
    (vf_n32 (FP.fdiv (FP.i2f v3) (FP.i2f v4)) ∧ 
    olet (FP.fdiv (FP.i2f v3) (FP.i2f v4) : UInt32) (fun v5 =>
    Q v5 h2))) X)) X)
  else
    Q FP.fconst0 h))
abbrev rm_X2_balance : Room := { frames := 5, cells := 0, slots := 0, locals := 109 }
def f_X2_balance (K : Nat → Option Nat) (a0 : Option Nat) (h : zw_H) (Q : UInt32 → zw_H → Prop) (X : String → Nat → zw_H → Prop) : Prop :=
  oc_ h a0 [0] (f_X2_mayAsk K a0 h (fun v1 h1 =>
  if v1 = 0 then
    Q FP.fconst0 h1
  else
    oc_ h1 a0 [0] (f_X2_balanced K a0 h1 (fun v2 h2 =>
    Q v2 h2) X)) X)
abbrev rm_J35_isNaN : Room := { frames := 0, cells := 0, slots := 0, locals := 0 }
def f_J35_isNaN (K : Nat → Option Nat) (a0 : UInt32) (h : zw_H) (Q : Int32 → zw_H → Prop) (X : String → Nat → zw_H → Prop) : Prop :=
  if (Op.cmpValue (FP.fcmp a0 a0) .l) = 0 then
    Q 0 h
  else
    Q 1 h
abbrev rm_J35_floatToIntBits : Room := { frames := 2, cells := 0, slots := 0, locals := 100 }
def f_J35_floatToIntBits (K : Nat → Option Nat) (a0 : UInt32) (h : zw_H) (Q : Int32 → zw_H → Prop) (X : String → Nat → zw_H → Prop) : Prop :=
  (f_J35_isNaN K a0 h (fun v1 h1 =>
  if v1 ≠ 0 then
    Q (2143289344 : Int32) h1
  else
    Q a0.toInt32 h1) X)
abbrev rm_X2_balanceBits : Room := { frames := 5, cells := 0, slots := 0, locals := 120 }
def f_X2_balanceBits (K : Nat → Option Nat) (a0 : Option Nat) (h : zw_H) (Q : Int32 → zw_H → Prop) (X : String → Nat → zw_H → Prop) : Prop :=
  oc_ h a0 [0] (f_X2_mayAsk K a0 h (fun v1 h1 =>
  if v1 = 0 then
    Q 0 h1
  else
    oc_ h1 a0 [0] (f_X2_balanced K a0 h1 (fun v2 h2 =>
    (f_J35_floatToIntBits K v2 h2 (fun v3 h3 =>
    Q v3 h3) X)) X)) X)
abbrev rm_X2_meanX : Room := { frames := 2, cells := 0, slots := 0, locals := 43 }
def f_X2_meanX_B22 (K : Nat → Option Nat) (Q : UInt64 → zw_H → Prop) (X : String → Nat → zw_H → Prop)  (k47 : Int32 → zw_H → Prop) (l0 : Option Nat) (R : Int32 → Int32 → zw_H → Prop) (l1 : Int32) (l2 : Int32) (h : zw_H) : Prop :=
  og_A h l0 [0] 1 (fun v4 =>
  oa_I h v4 [0, 11] 0 (fun v5 =>
  if v5 ≤ l2 then
    k47 l1 h
  else
    oc_ h l0 [0] (f_X2_of K l0 l2 0 h (fun v6 h2 =>
    olet (l1 + v6 : Int32) (fun v7 =>
    olet (l2 + 1) (fun v8 =>
    R v7 v8 h2))) X)))
def f_X2_meanX (K : Nat → Option Nat) (a0 : Option Nat) (h : zw_H) (Q : UInt64 → zw_H → Prop) (X : String → Nat → zw_H → Prop) : Prop :=
  oc_ h a0 [0] (f_X2_mayAsk K a0 h (fun v1 h1 =>
  if v1 = 0 then
    Q FP.dconst0 h1
  else
    og_A h1 a0 [0] 1 (fun v2 =>
    oa_I h1 v2 [0, 11] 0 (fun v3 =>
    if v3 ≠ 0 then
      zl3 (f_X2_meanX_B22 K Q X (fun v9 h3 =>
        og_A h3 a0 [0] 1 (fun v10 =>
        oa_I h3 v10 [0, 11] 0 (fun v11 =>
        (vf_n64 (FP.ddiv (FP.i2d v9) (FP.i2d v11)) ∧ 
        olet (FP.ddiv (FP.i2d v9) (FP.i2d v11) : UInt64) (fun v12 =>
        Q v12 h3))))) a0) zfu 0 0 h1
    else
      Q FP.dconst0 h1))) X)
abbrev rm_X2_writesByte : Room := { frames := 0, cells := 0, slots := 0, locals := 0 }
def f_X2_writesByte (K : Nat → Option Nat) (a0 : Option Nat) (a1 : Int32) (h : zw_H) (Q : zw_H → Prop) (X : String → Nat → zw_H → Prop) : Prop :=
  og_A h a0 [0] 24 (fun v1 =>
  og_I h a0 [0] 25 (fun v2 =>
  os_I h v1 [1] v2 (vp_nar .byte a1.toInt8.toInt32) (fun h1 =>
  og_I h1 a0 [0] 25 (fun v3 =>
  op_V h1 a0 [0] 25 (.int (v3 + 1)) (fun h2 =>
  Q h2)))))
abbrev rm_X2_writeLeaves : Room := { frames := 4, cells := 0, slots := 0, locals := 88 }
def f_X2_writeLeaves_J61 (K : Nat → Option Nat) (Q : Int32 → zw_H → Prop) (X : String → Nat → zw_H → Prop) (R : Int32 → zw_H → Prop) (k70 : zw_H → Prop) (l0 : Option Nat) (l1 : Int32) (s0 : Int32) (s1 : Option Nat) (h : zw_H) : Prop :=
  oc_ h s1 [0] (f_X2_writesByte K s1 s0 h (fun h4 =>
  olet (l1 + 1) (fun v7 =>
  R v7 h4)) X)
def f_X2_writeLeaves_B16 (K : Nat → Option Nat) (Q : Int32 → zw_H → Prop) (X : String → Nat → zw_H → Prop)  (k70 : zw_H → Prop) (l0 : Option Nat) (R : Int32 → zw_H → Prop) (l1 : Int32) (h : zw_H) : Prop :=
  og_A h l0 [0] 1 (fun v2 =>
  oa_I h v2 [0, 11] 3 (fun v3 =>
  if ((1 : Int32) <<< (v3 &&& 31)) ≤ l1 then
    k70  h
  else
    og_A h l0 [0] 1 (fun v4 =>
    oa_I h v4 [0, 11] 3 (fun v5 =>
    oc_ h l0 [0] (f_X2_bodiesIn K l0 v5 l1 h (fun v6 h3 =>
    if (10 : Int32) ≤ v6 then
      f_X2_writeLeaves_J61 K Q X R k70 l0 l1 (((97 : Int32) + v6) - 10) l0 h3
    else
      f_X2_writeLeaves_J61 K Q X R k70 l0 l1 ((48 : Int32) + v6) l0 h3) X)))))
def f_X2_writeLeaves (K : Nat → Option Nat) (a0 : Option Nat) (h : zw_H) (Q : Int32 → zw_H → Prop) (X : String → Nat → zw_H → Prop) : Prop :=
  oc_ h a0 [0] (f_X2_mayAsk K a0 h (fun v1 h1 =>
  if v1 ≠ 0 then
    op_V h1 a0 [0] 25 (.int 0) (fun h2 =>
    zl2 (f_X2_writeLeaves_B16 K Q X (fun h5 =>
      og_I h5 a0 [0] 25 (fun v8 =>
      Q v8 h5)) a0) zfu 0 h2)
  else
    Q 0 h1) X)
abbrev rm_X2_writesNumber : Room := { frames := 1, cells := 0, slots := 0, locals := 21 }
def f_X2_writesNumber_B2 (K : Nat → Option Nat) (Q : zw_H → Prop) (X : String → Nat → zw_H → Prop)  (k18 : Int32 → zw_H → Prop) (l0 : Option Nat) (l1 : Int32) (R : Int32 → zw_H → Prop) (l2 : Int32) (h : zw_H) : Prop :=
  ((l2 : Int32) ≠ 0 ∧ 
  if (l1 / l2) ≤ 9 then
    k18 l2 h
  else
    olet (l2 * 10 : Int32) (fun v1 =>
    R v1 h))
def f_X2_writesNumber_B20 (K : Nat → Option Nat) (Q : zw_H → Prop) (X : String → Nat → zw_H → Prop)  (k45 : zw_H → Prop) (l0 : Option Nat) (l1 : Int32) (R : Int32 → zw_H → Prop) (l3 : Int32) (h : zw_H) : Prop :=
  if l3 ≤ 0 then
    k45  h
  else
    ((l3 : Int32) ≠ 0 ∧ 
    ((10 : Int32) ≠ 0 ∧ 
    oc_ h l0 [0] (f_X2_writesByte K l0 ((48 : Int32) + ((l1 / l3) - (l1 / l3) / 10 * 10)) h (fun h2 =>
    ((10 : Int32) ≠ 0 ∧ 
    olet (l3 / 10 : Int32) (fun v3 =>
    R v3 h2))) X)))
def f_X2_writesNumber (K : Nat → Option Nat) (a0 : Option Nat) (a1 : Int32) (h : zw_H) (Q : zw_H → Prop) (X : String → Nat → zw_H → Prop) : Prop :=
  zl2 (f_X2_writesNumber_B2 K Q X (fun v2 h1 =>
    zl2 (f_X2_writesNumber_B20 K Q X (fun h3 =>
      Q h3) a0 a1) zfu v2 h1) a0 a1) zfu 1 h
abbrev rm_X2_writesBody : Room := { frames := 2, cells := 0, slots := 0, locals := 44 }
def f_X2_writesBody_J47 (K : Nat → Option Nat) (Q : zw_H → Prop) (X : String → Nat → zw_H → Prop)  (l0 : Option Nat) (l1 : Int32)  (h : zw_H) : Prop :=
  oc_ h l0 [0] (f_X2_of K l0 l1 1 h (fun v4 h6 =>
  (f_X2_far K v4 0 h6 (fun v5 h7 =>
  oc_ h7 l0 [0] (f_X2_writesNumber K l0 v5 h7 (fun h8 =>
  Q h8) X)) X)) X)
def f_X2_writesBody_J26 (K : Nat → Option Nat) (Q : zw_H → Prop) (X : String → Nat → zw_H → Prop)  (l0 : Option Nat) (l1 : Int32)  (h : zw_H) : Prop :=
  oc_ h l0 [0] (f_X2_writesByte K l0 58 h (fun h4 =>
  oc_ h4 l0 [0] (f_X2_of K l0 l1 1 h4 (fun v3 h5 =>
  if (0 : Int32) ≤ v3 then
    f_X2_writesBody_J47 K Q X  l0 l1  h5
  else
    oc_ h5 l0 [0] (f_X2_writesByte K l0 45 h5 (fun h9 =>
    f_X2_writesBody_J47 K Q X  l0 l1  h9) X)) X)) X)
def f_X2_writesBody (K : Nat → Option Nat) (a0 : Option Nat) (a1 : Int32) (h : zw_H) (Q : zw_H → Prop) (X : String → Nat → zw_H → Prop) : Prop :=
  oc_ h a0 [0] (f_X2_of K a0 a1 0 h (fun v1 h1 =>
  oc_ h1 a0 [0] (f_X2_writesNumber K a0 v1 h1 (fun h2 =>
  oc_ h2 a0 [0] (f_X2_of K a0 a1 2 h2 (fun v2 h3 =>
  if v2 ≠ 1 then
    f_X2_writesBody_J26 K Q X  a0 a1  h3
  else
    oc_ h3 a0 [0] (f_X2_writesByte K a0 42 h3 (fun h10 =>
    f_X2_writesBody_J26 K Q X  a0 a1  h10) X)) X)) X)) X)
abbrev rm_X2_writeBodies : Room := { frames := 3, cells := 0, slots := 0, locals := 65 }
def f_X2_writeBodies_J51 (K : Nat → Option Nat) (Q : Int32 → zw_H → Prop) (X : String → Nat → zw_H → Prop) (R : Int32 → zw_H → Prop) (k62 : zw_H → Prop) (l0 : Option Nat) (l1 : Int32)  (h : zw_H) : Prop :=
  oc_ h l0 [0] (f_X2_writesBody K l0 l1 h (fun h3 =>
  olet (l1 + 1) (fun v6 =>
  R v6 h3)) X)
def f_X2_writeBodies_B31 (K : Nat → Option Nat) (Q : Int32 → zw_H → Prop) (X : String → Nat → zw_H → Prop)  (k62 : zw_H → Prop) (l0 : Option Nat) (R : Int32 → zw_H → Prop) (l1 : Int32) (h : zw_H) : Prop :=
  og_A h l0 [0] 1 (fun v4 =>
  oa_I h v4 [0, 11] 0 (fun v5 =>
  if v5 ≤ l1 then
    k62  h
  else
    if l1 ≤ 0 then
      f_X2_writeBodies_J51 K Q X R k62 l0 l1  h
    else
      oc_ h l0 [0] (f_X2_writesByte K l0 32 h (fun h4 =>
      f_X2_writeBodies_J51 K Q X R k62 l0 l1  h4) X)))
def f_X2_writeBodies_J29 (K : Nat → Option Nat) (Q : Int32 → zw_H → Prop) (X : String → Nat → zw_H → Prop)  (l0 : Option Nat)  (h : zw_H) : Prop :=
  zl2 (f_X2_writeBodies_B31 K Q X (fun h5 =>
    og_I h5 l0 [0] 25 (fun v7 =>
    Q v7 h5)) l0) zfu 0 h
def f_X2_writeBodies (K : Nat → Option Nat) (a0 : Option Nat) (h : zw_H) (Q : Int32 → zw_H → Prop) (X : String → Nat → zw_H → Prop) : Prop :=
  oc_ h a0 [0] (f_X2_mayAsk K a0 h (fun v1 h1 =>
  if v1 ≠ 0 then
    op_V h1 a0 [0] 25 (.int 0) (fun h2 =>
    og_A h2 a0 [0] 1 (fun v2 =>
    oa_I h2 v2 [0, 11] 0 (fun v3 =>
    if v3 ≠ 0 then
      f_X2_writeBodies_J29 K Q X  a0  h2
    else
      oc_ h2 a0 [0] (f_X2_writesByte K a0 46 h2 (fun h6 =>
      f_X2_writeBodies_J29 K Q X  a0  h6) X))))
  else
    Q 0 h1) X)
abbrev rm_X2_writesWord : Room := { frames := 5, cells := 0, slots := 0, locals := 106 }
def f_X2_writesWord_B2 (K : Nat → Option Nat) (Q : zw_H → Prop) (X : String → Nat → zw_H → Prop)  (k25 : zw_H → Prop) (l0 : Option Nat) (l1 : Option Nat) (R : Int32 → zw_H → Prop) (l2 : Int32) (h : zw_H) : Prop :=
  oc_ h l1 [11, 17] (f_J4_length K l1 h (fun v1 h1 =>
  if v1 ≤ l2 then
    k25  h1
  else
    oc_ h1 l1 [11, 17] (f_J4_charAt K l1 l2 h1 (fun v2 h2 =>
    oc_ h2 l0 [0] (f_X2_writesByte K l0 v2 h2 (fun h3 =>
    olet (l2 + 1) (fun v3 =>
    R v3 h3)) X)) X)) X)
def f_X2_writesWord (K : Nat → Option Nat) (a0 : Option Nat) (a1 : Option Nat) (h : zw_H) (Q : zw_H → Prop) (X : String → Nat → zw_H → Prop) : Prop :=
  zl2 (f_X2_writesWord_B2 K Q X (fun h4 =>
    Q h4) a0 a1) zfu 0 h
abbrev rm_X2_writesToken : Room := { frames := 2, cells := 0, slots := 0, locals := 44 }
def f_X2_writesToken (K : Nat → Option Nat) (a0 : Option Nat) (a1 : Int32) (h : zw_H) (Q : zw_H → Prop) (X : String → Nat → zw_H → Prop) : Prop :=
  oc_ h a0 [0] (f_X2_writesByte K a0 32 h (fun h1 =>
  oc_ h1 a0 [0] (f_X2_writesNumber K a0 a1 h1 (fun h2 =>
  Q h2) X)) X)
abbrev rm_X2_writeLine : Room := { frames := 6, cells := 0, slots := 0, locals := 128 }
def f_X2_writeLine_B22 (K : Nat → Option Nat) (Q : Int32 → zw_H → Prop) (X : String → Nat → zw_H → Prop)  (k43 : zw_H → Prop) (l0 : Option Nat) (R : Int32 → zw_H → Prop) (l1 : Int32) (h : zw_H) : Prop :=
  if (5 : Int32) < l1 then
    k43  h
  else
    og_A h l0 [0] 1 (fun v2 =>
    oa_I h v2 [0, 11] l1 (fun v3 =>
    oc_ h l0 [0] (f_X2_writesToken K l0 v3 h (fun h4 =>
    olet (l1 + 1) (fun v4 =>
    R v4 h4)) X)))
def f_X2_writeLine_J104 (K : Nat → Option Nat) (Q : Int32 → zw_H → Prop) (X : String → Nat → zw_H → Prop) (R : Int32 → zw_H → Prop) (k124 : zw_H → Prop) (l0 : Option Nat) (l1 : Int32)  (h : zw_H) : Prop :=
  oc_ h l0 [0] (f_X2_of K l0 l1 1 h (fun v10 h11 =>
  (f_X2_far K v10 0 h11 (fun v11 h12 =>
  oc_ h12 l0 [0] (f_X2_writesToken K l0 v11 h12 (fun h13 =>
  olet (l1 + 1) (fun v12 =>
  R v12 h13)) X)) X)) X)
def f_X2_writeLine_J75 (K : Nat → Option Nat) (Q : Int32 → zw_H → Prop) (X : String → Nat → zw_H → Prop) (R : Int32 → zw_H → Prop) (k124 : zw_H → Prop) (l0 : Option Nat) (l1 : Int32) (s0 : Option Nat) (s1 : Option Nat) (h : zw_H) : Prop :=
  oc_ h s1 [0] (f_X2_writesWord K s1 s0 h (fun h7 =>
  oc_ h7 l0 [0] (f_X2_of K l0 l1 0 h7 (fun v8 h8 =>
  oc_ h8 l0 [0] (f_X2_writesToken K l0 v8 h8 (fun h9 =>
  oc_ h9 l0 [0] (f_X2_of K l0 l1 1 h9 (fun v9 h10 =>
  if (0 : Int32) ≤ v9 then
    f_X2_writeLine_J104 K Q X R k124 l0 l1  h10
  else
    oc_ h10 l0 [0] (f_X2_writesWord K l0 (K 22) h10 (fun h14 =>
    f_X2_writeLine_J104 K Q X R k124 l0 l1  h14) X)) X)) X)) X)) X)
def f_X2_writeLine_B45 (K : Nat → Option Nat) (Q : Int32 → zw_H → Prop) (X : String → Nat → zw_H → Prop)  (k124 : zw_H → Prop) (l0 : Option Nat) (R : Int32 → zw_H → Prop) (l1 : Int32) (h : zw_H) : Prop :=
  og_A h l0 [0] 1 (fun v5 =>
  oa_I h v5 [0, 11] 0 (fun v6 =>
  if v6 ≤ l1 then
    k124  h
  else
    oc_ h l0 [0] (f_X2_of K l0 l1 2 h (fun v7 h6 =>
    if v7 ≠ 1 then
      f_X2_writeLine_J75 K Q X R k124 l0 l1 (K 21) l0 h6
    else
      f_X2_writeLine_J75 K Q X R k124 l0 l1 (K 20) l0 h6) X)))
def f_X2_writeLine (K : Nat → Option Nat) (a0 : Option Nat) (h : zw_H) (Q : Int32 → zw_H → Prop) (X : String → Nat → zw_H → Prop) : Prop :=
  oc_ h a0 [0] (f_X2_mayAsk K a0 h (fun v1 h1 =>
  if v1 ≠ 0 then
    op_V h1 a0 [0] 25 (.int 0) (fun h2 =>
    oc_ h2 a0 [0] (f_X2_writesWord K a0 (K 16) h2 (fun h3 =>
    zl2 (f_X2_writeLine_B22 K Q X (fun h5 =>
      zl2 (f_X2_writeLine_B45 K Q X (fun h15 =>
        og_I h15 a0 [0] 25 (fun v13 =>
        Q v13 h15)) a0) zfu 0 h5) a0) zfu 3 h3) X))
  else
    Q 0 h1) X)
abbrev rm_X2_writeFar : Room := { frames := 6, cells := 0, slots := 0, locals := 134 }
def f_X2_writeFar_J53 (K : Nat → Option Nat) (Q : Int32 → zw_H → Prop) (X : String → Nat → zw_H → Prop) (R : Int32 → zw_H → Prop) (k85 : zw_H → Prop) (l0 : Option Nat) (l2 : Int32)  (h : zw_H) : Prop :=
  og_A h l0 [0] 18 (fun v4 =>
  oa_I h v4 [0, 11] l2 (fun v5 =>
  oc_ h l0 [0] (f_X2_writesNumber K l0 v5 h (fun h4 =>
  oc_ h4 l0 [0] (f_X2_writesByte K l0 47 h4 (fun h5 =>
  og_A h5 l0 [0] 19 (fun v6 =>
  oa_I h5 v6 [0, 11] l2 (fun v7 =>
  oc_ h5 l0 [0] (f_X2_writesNumber K l0 v7 h5 (fun h6 =>
  olet (l2 + 1) (fun v8 =>
  R v8 h6)) X)))) X)) X)))
def f_X2_writeFar_B35 (K : Nat → Option Nat) (Q : Int32 → zw_H → Prop) (X : String → Nat → zw_H → Prop)  (k85 : zw_H → Prop) (l0 : Option Nat) (R : Int32 → zw_H → Prop) (l2 : Int32) (h : zw_H) : Prop :=
  og_I h l0 [0] 20 (fun v3 =>
  if v3 ≤ l2 then
    k85  h
  else
    if l2 ≤ 0 then
      f_X2_writeFar_J53 K Q X R k85 l0 l2  h
    else
      oc_ h l0 [0] (f_X2_writesByte K l0 32 h (fun h7 =>
      f_X2_writeFar_J53 K Q X R k85 l0 l2  h7) X))
def f_X2_writeFar_J33 (K : Nat → Option Nat) (Q : Int32 → zw_H → Prop) (X : String → Nat → zw_H → Prop)  (l0 : Option Nat)  (h : zw_H) : Prop :=
  zl2 (f_X2_writeFar_B35 K Q X (fun h8 =>
    og_I h8 l0 [0] 25 (fun v9 =>
    Q v9 h8)) l0) zfu 0 h
def f_X2_writeFar (K : Nat → Option Nat) (a0 : Option Nat) (a1 : Int32) (h : zw_H) (Q : Int32 → zw_H → Prop) (X : String → Nat → zw_H → Prop) : Prop :=
  oc_ h a0 [0] (f_X2_mayPoint K a0 a1 h (fun v1 h1 =>
  if v1 ≠ 0 then
    oc_ h1 a0 [0] (f_X2_laysFar K a0 a1 h1 (fun h2 =>
    op_V h2 a0 [0] 25 (.int 0) (fun h3 =>
    og_I h3 a0 [0] 20 (fun v2 =>
    if v2 ≠ 0 then
      f_X2_writeFar_J33 K Q X  a0  h3
    else
      oc_ h3 a0 [0] (f_X2_writesByte K a0 46 h3 (fun h9 =>
      f_X2_writeFar_J33 K Q X  a0  h9) X)))) X)
  else
    Q 0 h1) X)
abbrev rm_X2_textByte : Room := { frames := 1, cells := 0, slots := 0, locals := 23 }
def f_X2_textByte (K : Nat → Option Nat) (a0 : Option Nat) (a1 : Int32) (h : zw_H) (Q : Int32 → zw_H → Prop) (X : String → Nat → zw_H → Prop) : Prop :=
  og_I h a0 [0] 25 (fun v1 =>
  (f_X2_in K a1 0 (v1 - 1) h (fun v2 h1 =>
  oc_ h1 a0 [0] (f_X2_may K a0 v2 1 1 h1 (fun v3 h2 =>
  if v3 = 0 then
    Q 0 h2
  else
    og_A h2 a0 [0] 24 (fun v4 =>
    oa_I h2 v4 [1, 10] a1 (fun v5 =>
    Q v5 h2))) X)) X))
abbrev rm_X2_isCharge : Room := { frames := 1, cells := 0, slots := 0, locals := 22 }
def f_X2_isCharge (K : Nat → Option Nat) (a0 : Int32) (h : zw_H) (Q : Int32 → zw_H → Prop) (X : String → Nat → zw_H → Prop) : Prop :=
  if a0 = 0 then
    Q 0 h
  else
    (f_X2_in K a0 (-99) 99 h (fun v1 h1 =>
    if v1 = 0 then
      Q 0 h1
    else
      Q 1 h1) X)
abbrev rm_X2_remembers : Room := { frames := 1, cells := 0, slots := 0, locals := 24 }
def f_X2_remembers_J49 (K : Nat → Option Nat) (Q : zw_H → Prop) (X : String → Nat → zw_H → Prop)  (l0 : Option Nat)  (h : zw_H) : Prop :=
  og_A h l0 [0] 1 (fun v2 =>
  og_A h l0 [0] 3 (fun v3 =>
  og_I h l0 [0] 7 (fun v4 =>
  (f_X2_lays K v2 0 v3 (v4 * 103) h (fun h1 =>
  og_I h1 l0 [0] 7 (fun v5 =>
  op_V h1 l0 [0] 7 (.int (v5 + 1)) (fun h2 =>
  Q h2))) X))))
def f_X2_remembers_B11 (K : Nat → Option Nat) (Q : zw_H → Prop) (X : String → Nat → zw_H → Prop)  (k39 : zw_H → Prop) (l0 : Option Nat) (R : Int32 → zw_H → Prop) (l1 : Int32) (h : zw_H) : Prop :=
  if (721 : Int32) ≤ l1 then
    k39  h
  else
    og_A h l0 [0] 3 (fun v6 =>
    og_A h l0 [0] 3 (fun v7 =>
    oa_I h v7 [0, 11] (l1 + 103) (fun v8 =>
    os_I h v6 [0] l1 v8 (fun h3 =>
    olet (l1 + 1) (fun v9 =>
    R v9 h3)))))
def f_X2_remembers (K : Nat → Option Nat) (a0 : Option Nat) (h : zw_H) (Q : zw_H → Prop) (X : String → Nat → zw_H → Prop) : Prop :=
  og_I h a0 [0] 7 (fun v1 =>
  if v1 ≠ 8 then
    f_X2_remembers_J49 K Q X  a0  h
  else
    zl2 (f_X2_remembers_B11 K Q X (fun h4 =>
      og_I h4 a0 [0] 7 (fun v10 =>
      op_V h4 a0 [0] 7 (.int (v10 - 1)) (fun h5 =>
      f_X2_remembers_J49 K Q X  a0  h5))) a0) zfu 0 h)
abbrev rm_X2_add : Room := { frames := 2, cells := 0, slots := 0, locals := 47 }
def f_X2_add_J59 (K : Nat → Option Nat) (Q : Int32 → zw_H → Prop) (X : String → Nat → zw_H → Prop)  (l0 : Option Nat) (l1 : Int32) (l2 : Int32) (l3 : Int32) (s0 : Int32) (s1 : Int32) (s2 : Option Nat) (h : zw_H) : Prop :=
  oc_ h s2 [0] (f_X2_mayTwo K s2 s1 s0 h (fun v3 h2 =>
  if v3 ≠ 0 then
    oc_ h2 l0 [0] (f_X2_remembers K l0 h2 (fun h3 =>
    oc_ h3 l0 [0] (f_X2_addsBody K l0 l1 l2 l3 h3 (fun h4 =>
    og_A h4 l0 [0] 1 (fun v4 =>
    oa_I h4 v4 [0, 11] 0 (fun v5 =>
    Q (v5 - 1) h4))) X)) X)
  else
    Q 0 h2) X)
def f_X2_add_J58 (K : Nat → Option Nat) (Q : Int32 → zw_H → Prop) (X : String → Nat → zw_H → Prop)  (l0 : Option Nat) (l1 : Int32) (l2 : Int32) (l3 : Int32) (s0 : Int32) (s1 : Option Nat) (h : zw_H) : Prop :=
  f_X2_add_J59 K Q X  l0 l1 l2 l3 0 s0 s1 h
def f_X2_add_J54 (K : Nat → Option Nat) (Q : Int32 → zw_H → Prop) (X : String → Nat → zw_H → Prop)  (l0 : Option Nat) (l1 : Int32) (l2 : Int32) (l3 : Int32) (s0 : Int32) (s1 : Option Nat) (h : zw_H) : Prop :=
  f_X2_add_J59 K Q X  l0 l1 l2 l3 1 s0 s1 h
def f_X2_add_J30 (K : Nat → Option Nat) (Q : Int32 → zw_H → Prop) (X : String → Nat → zw_H → Prop)  (l0 : Option Nat) (l1 : Int32) (l2 : Int32) (l3 : Int32) (s0 : Int32) (h : zw_H) : Prop :=
  og_I h l0 [0] 6 (fun v2 =>
  if s0 = 0 then
    f_X2_add_J58 K Q X  l0 l1 l2 l3 v2 l0 h
  else
    if l1 = 0 then
      f_X2_add_J54 K Q X  l0 l1 l2 l3 v2 l0 h
    else
      oc_ h l0 [0] (f_X2_isFixedAt K l0 l2 h (fun v6 h5 =>
      if v6 ≠ 0 then
        f_X2_add_J58 K Q X  l0 l1 l2 l3 v2 l0 h5
      else
        f_X2_add_J54 K Q X  l0 l1 l2 l3 v2 l0 h5) X))
def f_X2_add_J29 (K : Nat → Option Nat) (Q : Int32 → zw_H → Prop) (X : String → Nat → zw_H → Prop)  (l0 : Option Nat) (l1 : Int32) (l2 : Int32) (l3 : Int32)  (h : zw_H) : Prop :=
  f_X2_add_J30 K Q X  l0 l1 l2 l3 0 h
def f_X2_add (K : Nat → Option Nat) (a0 : Option Nat) (a1 : Int32) (a2 : Int32) (a3 : Int32) (h : zw_H) (Q : Int32 → zw_H → Prop) (X : String → Nat → zw_H → Prop) : Prop :=
  (f_X2_isPoint K a2 h (fun v1 h1 =>
  if v1 = 0 then
    f_X2_add_J29 K Q X  a0 a1 a2 a3  h1
  else
    (f_X2_isCharge K a3 h1 (fun v7 h6 =>
    if v7 = 0 then
      f_X2_add_J29 K Q X  a0 a1 a2 a3  h6
    else
      og_A h6 a0 [0] 1 (fun v8 =>
      oa_I h6 v8 [0, 11] 0 (fun v9 =>
      if (24 : Int32) ≤ v9 then
        f_X2_add_J29 K Q X  a0 a1 a2 a3  h6
      else
        f_X2_add_J30 K Q X  a0 a1 a2 a3 1 h6))) X)) X)
abbrev rm_X2_move : Room := { frames := 2, cells := 0, slots := 0, locals := 45 }
def f_X2_move_J52 (K : Nat → Option Nat) (Q : Int32 → zw_H → Prop) (X : String → Nat → zw_H → Prop)  (l0 : Option Nat) (l1 : Int32) (l2 : Int32) (s0 : Int32) (s1 : Int32) (s2 : Int32) (s3 : Option Nat) (h : zw_H) : Prop :=
  oc_ h s3 [0] (f_X2_may K s3 s2 s1 s0 h (fun v3 h1 =>
  if v3 ≠ 0 then
    oc_ h1 l0 [0] (f_X2_remembers K l0 h1 (fun h2 =>
    oc_ h2 l0 [0] (f_X2_of K l0 l1 0 h2 (fun v4 h3 =>
    olet (l2 - v4 : Int32) (fun v5 =>
    oc_ h3 l0 [0] (f_X2_puts K l0 l1 0 l2 h3 (fun h4 =>
    Q v5 h4) X))) X)) X)
  else
    Q 0 h1) X)
def f_X2_move_J51 (K : Nat → Option Nat) (Q : Int32 → zw_H → Prop) (X : String → Nat → zw_H → Prop)  (l0 : Option Nat) (l1 : Int32) (l2 : Int32) (s0 : Int32) (s1 : Int32) (s2 : Option Nat) (h : zw_H) : Prop :=
  f_X2_move_J52 K Q X  l0 l1 l2 0 s0 s1 s2 h
def f_X2_move_J20 (K : Nat → Option Nat) (Q : Int32 → zw_H → Prop) (X : String → Nat → zw_H → Prop)  (l0 : Option Nat) (l1 : Int32) (l2 : Int32) (s0 : Int32) (h : zw_H) : Prop :=
  og_I h l0 [0] 6 (fun v2 =>
  if s0 = 0 then
    f_X2_move_J51 K Q X  l0 l1 l2 s0 v2 l0 h
  else
    (f_X2_isPoint K l2 h (fun v6 h5 =>
    if v6 = 0 then
      f_X2_move_J51 K Q X  l0 l1 l2 s0 v2 l0 h5
    else
      oc_ h5 l0 [0] (f_X2_of K l0 l1 2 h5 (fun v7 h6 =>
      if v7 ≠ 0 then
        f_X2_move_J51 K Q X  l0 l1 l2 s0 v2 l0 h6
      else
        f_X2_move_J52 K Q X  l0 l1 l2 1 s0 v2 l0 h6) X)) X))
def f_X2_move_J19 (K : Nat → Option Nat) (Q : Int32 → zw_H → Prop) (X : String → Nat → zw_H → Prop)  (l0 : Option Nat) (l1 : Int32) (l2 : Int32)  (h : zw_H) : Prop :=
  f_X2_move_J20 K Q X  l0 l1 l2 0 h
def f_X2_move (K : Nat → Option Nat) (a0 : Option Nat) (a1 : Int32) (a2 : Int32) (h : zw_H) (Q : Int32 → zw_H → Prop) (X : String → Nat → zw_H → Prop) : Prop :=
  og_I h a0 [0] 6 (fun v1 =>
  if v1 = 0 then
    f_X2_move_J19 K Q X  a0 a1 a2  h
  else
    oc_ h a0 [0] (f_X2_isBody K a0 a1 h (fun v8 h7 =>
    if v8 = 0 then
      f_X2_move_J19 K Q X  a0 a1 a2  h7
    else
      f_X2_move_J20 K Q X  a0 a1 a2 1 h7) X))
abbrev rm_X2_setCharge : Room := { frames := 2, cells := 0, slots := 0, locals := 45 }
def f_X2_setCharge (K : Nat → Option Nat) (a0 : Option Nat) (a1 : Int32) (a2 : Int32) (h : zw_H) (Q : Int32 → zw_H → Prop) (X : String → Nat → zw_H → Prop) : Prop :=
  og_I h a0 [0] 6 (fun v1 =>
  oc_ h a0 [0] (f_X2_isBody K a0 a1 h (fun v2 h1 =>
  (f_X2_isCharge K a2 h1 (fun v3 h2 =>
  oc_ h2 a0 [0] (f_X2_may K a0 v1 v2 v3 h2 (fun v4 h3 =>
  if v4 ≠ 0 then
    oc_ h3 a0 [0] (f_X2_remembers K a0 h3 (fun h4 =>
    oc_ h4 a0 [0] (f_X2_of K a0 a1 1 h4 (fun v5 h5 =>
    oc_ h5 a0 [0] (f_X2_puts K a0 a1 1 a2 h5 (fun h6 =>
    Q v5 h6) X)) X)) X)
  else
    Q 0 h3) X)) X)) X))
abbrev rm_X2_remove : Room := { frames := 2, cells := 0, slots := 0, locals := 45 }
def f_X2_remove_B39 (K : Nat → Option Nat) (Q : Int32 → zw_H → Prop) (X : String → Nat → zw_H → Prop)  (k74 : zw_H → Prop) (l0 : Option Nat) (R : Int32 → zw_H → Prop) (l2 : Int32) (h : zw_H) : Prop :=
  og_A h l0 [0] 1 (fun v7 =>
  oa_I h v7 [0, 11] 0 (fun v8 =>
  if ((7 : Int32) + ((4 : Int32) * v8)) ≤ l2 then
    k74  h
  else
    og_A h l0 [0] 1 (fun v9 =>
    og_A h l0 [0] 1 (fun v10 =>
    oa_I h v10 [0, 11] (l2 + 4) (fun v11 =>
    os_I h v9 [0] l2 v11 (fun h5 =>
    olet (l2 + 1) (fun v12 =>
    R v12 h5)))))))
def f_X2_remove (K : Nat → Option Nat) (a0 : Option Nat) (a1 : Int32) (h : zw_H) (Q : Int32 → zw_H → Prop) (X : String → Nat → zw_H → Prop) : Prop :=
  og_I h a0 [0] 6 (fun v1 =>
  oc_ h a0 [0] (f_X2_isBody K a0 a1 h (fun v2 h1 =>
  oc_ h1 a0 [0] (f_X2_mayTwo K a0 v1 v2 h1 (fun v3 h2 =>
  if v3 ≠ 0 then
    oc_ h2 a0 [0] (f_X2_remembers K a0 h2 (fun h3 =>
    og_A h3 a0 [0] 1 (fun v4 =>
    oa_I h3 v4 [0, 11] 0 (fun v5 =>
    os_I h3 v4 [0] 0 (v5 - 1) (fun h4 =>
    olet ((7 : Int32) + ((4 : Int32) * a1) : Int32) (fun v6 =>
    zl2 (f_X2_remove_B39 K Q X (fun h6 =>
      og_A h6 a0 [0] 1 (fun v13 =>
      oa_I h6 v13 [0, 11] 0 (fun v14 =>
      Q v14 h6))) a0) zfu v6 h4))))) X)
  else
    Q 0 h2) X)) X))
abbrev rm_X2_step : Room := { frames := 11, cells := 0, slots := 0, locals := 252 }
def f_X2_step_J35 (K : Nat → Option Nat) (Q : Int32 → zw_H → Prop) (X : String → Nat → zw_H → Prop)  (l0 : Option Nat) (l1 : Int32) (s0 : Int32) (s1 : Int32) (s2 : Option Nat) (h : zw_H) : Prop :=
  oc_ h s2 [0] (f_X2_mayTwo K s2 s1 s0 h (fun v3 h2 =>
  if v3 ≠ 0 then
    oc_ h2 l0 [0] (f_X2_remembers K l0 h2 (fun h3 =>
    oc_ h3 l0 [0] (f_X2_stepsMany K l0 l1 h3 (fun v4 h4 =>
    Q v4 h4) X)) X)
  else
    Q 0 h2) X)
def f_X2_step_J34 (K : Nat → Option Nat) (Q : Int32 → zw_H → Prop) (X : String → Nat → zw_H → Prop)  (l0 : Option Nat) (l1 : Int32) (s0 : Int32) (s1 : Option Nat) (h : zw_H) : Prop :=
  f_X2_step_J35 K Q X  l0 l1 0 s0 s1 h
def f_X2_step (K : Nat → Option Nat) (a0 : Option Nat) (a1 : Int32) (h : zw_H) (Q : Int32 → zw_H → Prop) (X : String → Nat → zw_H → Prop) : Prop :=
  og_I h a0 [0] 6 (fun v1 =>
  (f_X2_in K a1 1 50 h (fun v2 h1 =>
  if v2 = 0 then
    f_X2_step_J34 K Q X  a0 a1 v1 a0 h1
  else
    og_A h1 a0 [0] 1 (fun v5 =>
    oa_I h1 v5 [0, 11] 6 (fun v6 =>
    if (9999 : Int32) < (v6 + a1) then
      f_X2_step_J34 K Q X  a0 a1 v1 a0 h1
    else
      f_X2_step_J35 K Q X  a0 a1 1 v1 a0 h1))) X))
abbrev rm_X2_isNumber : Room := { frames := 1, cells := 0, slots := 0, locals := 22 }
def f_X2_isNumber (K : Nat → Option Nat) (a0 : Int32) (a1 : Int32) (h : zw_H) (Q : Int32 → zw_H → Prop) (X : String → Nat → zw_H → Prop) : Prop :=
  if a0 = 3 then
    (f_X2_in K a1 2 5 h (fun v1 h1 =>
    ((v1 = 0 ∨ v1 = 1) ∧ Q v1 h1)) X)
  else if a0 = 4 then
    (f_X2_in K a1 0 4 h (fun v2 h2 =>
    ((v2 = 0 ∨ v2 = 1) ∧ Q v2 h2)) X)
  else if a0 = 5 then
    (f_X2_in K a1 0 999 h (fun v3 h3 =>
    ((v3 = 0 ∨ v3 = 1) ∧ Q v3 h3)) X)
  else ((a0.toInt < 3 ∨ 5 < a0.toInt) ∧
    Q 0 h)
abbrev rm_X2_setNumber : Room := { frames := 2, cells := 0, slots := 0, locals := 45 }
def f_X2_setNumber (K : Nat → Option Nat) (a0 : Option Nat) (a1 : Int32) (a2 : Int32) (h : zw_H) (Q : Int32 → zw_H → Prop) (X : String → Nat → zw_H → Prop) : Prop :=
  og_I h a0 [0] 6 (fun v1 =>
  (f_X2_isNumber K a1 a2 h (fun v2 h1 =>
  oc_ h1 a0 [0] (f_X2_mayTwo K a0 v1 v2 h1 (fun v3 h2 =>
  if v3 ≠ 0 then
    oc_ h2 a0 [0] (f_X2_remembers K a0 h2 (fun h3 =>
    og_A h3 a0 [0] 1 (fun v4 =>
    oa_I h3 v4 [0, 11] a1 (fun v5 =>
    og_A h3 a0 [0] 1 (fun v6 =>
    os_I h3 v6 [0] a1 a2 (fun h4 =>
    Q v5 h4))))) X)
  else
    Q 0 h2) X)) X))
abbrev rm_X2_undo : Room := { frames := 1, cells := 0, slots := 0, locals := 24 }
def f_X2_undo_J13 (K : Nat → Option Nat) (Q : Int32 → zw_H → Prop) (X : String → Nat → zw_H → Prop)  (l0 : Option Nat) (s0 : Int32) (s1 : Option Nat) (h : zw_H) : Prop :=
  oc_ h s1 [0] (f_X2_may K s1 s0 1 1 h (fun v2 h1 =>
  if v2 ≠ 0 then
    og_I h1 l0 [0] 7 (fun v3 =>
    op_V h1 l0 [0] 7 (.int (v3 - 1)) (fun h2 =>
    og_A h2 l0 [0] 3 (fun v4 =>
    og_I h2 l0 [0] 7 (fun v5 =>
    og_A h2 l0 [0] 1 (fun v6 =>
    (f_X2_lays K v4 (v5 * 103) v6 0 h2 (fun h3 =>
    og_I h3 l0 [0] 7 (fun v7 =>
    Q v7 h3)) X))))))
  else
    Q 0 h1) X)
def f_X2_undo (K : Nat → Option Nat) (a0 : Option Nat) (h : zw_H) (Q : Int32 → zw_H → Prop) (X : String → Nat → zw_H → Prop) : Prop :=
  og_I h a0 [0] 7 (fun v1 =>
  if v1 ≤ 0 then
    f_X2_undo_J13 K Q X  a0 0 a0 h
  else
    f_X2_undo_J13 K Q X  a0 1 a0 h)
abbrev rm_X2_undoable : Room := { frames := 0, cells := 0, slots := 0, locals := 0 }
def f_X2_undoable (K : Nat → Option Nat) (a0 : Option Nat) (h : zw_H) (Q : Int32 → zw_H → Prop) (X : String → Nat → zw_H → Prop) : Prop :=
  op_V h a0 [0] 0 (.int 0) (fun h1 =>
  og_I h1 a0 [0] 7 (fun v1 =>
  Q v1 h1))
abbrev rm_X2_save : Room := { frames := 2, cells := 0, slots := 0, locals := 45 }
def f_X2_save (K : Nat → Option Nat) (a0 : Option Nat) (a1 : Int32) (h : zw_H) (Q : Int32 → zw_H → Prop) (X : String → Nat → zw_H → Prop) : Prop :=
  og_I h a0 [0] 6 (fun v1 =>
  (f_X2_in K a1 0 1 h (fun v2 h1 =>
  oc_ h1 a0 [0] (f_X2_mayTwo K a0 v1 v2 h1 (fun v3 h2 =>
  if v3 ≠ 0 then
    og_A h2 a0 [0] 1 (fun v4 =>
    og_A h2 a0 [0] 4 (fun v5 =>
    (f_X2_lays K v4 0 v5 (a1 * 103) h2 (fun h3 =>
    og_A h3 a0 [0] 5 (fun v6 =>
    os_I h3 v6 [2] a1 (vp_nar .boolean 1) (fun h4 =>
    og_A h4 a0 [0] 1 (fun v7 =>
    oa_I h4 v7 [0, 11] 6 (fun v8 =>
    Q v8 h4))))) X)))
  else
    Q 0 h2) X)) X))
abbrev rm_X2_restore : Room := { frames := 2, cells := 0, slots := 0, locals := 45 }
def f_X2_restore_J27 (K : Nat → Option Nat) (Q : Int32 → zw_H → Prop) (X : String → Nat → zw_H → Prop)  (l0 : Option Nat) (l1 : Int32) (s0 : Int32) (s1 : Int32) (s2 : Option Nat) (h : zw_H) : Prop :=
  oc_ h s2 [0] (f_X2_mayTwo K s2 s1 s0 h (fun v2 h2 =>
  if v2 ≠ 0 then
    og_A h2 l0 [0] 4 (fun v3 =>
    og_A h2 l0 [0] 1 (fun v4 =>
    (f_X2_lays K v3 (l1 * 103) v4 0 h2 (fun h3 =>
    op_V h3 l0 [0] 7 (.int 0) (fun h4 =>
    og_A h4 l0 [0] 1 (fun v5 =>
    oa_I h4 v5 [0, 11] 6 (fun v6 =>
    Q v6 h4)))) X)))
  else
    Q 0 h2) X)
def f_X2_restore_J26 (K : Nat → Option Nat) (Q : Int32 → zw_H → Prop) (X : String → Nat → zw_H → Prop)  (l0 : Option Nat) (l1 : Int32) (s0 : Int32) (s1 : Option Nat) (h : zw_H) : Prop :=
  f_X2_restore_J27 K Q X  l0 l1 0 s0 s1 h
def f_X2_restore (K : Nat → Option Nat) (a0 : Option Nat) (a1 : Int32) (h : zw_H) (Q : Int32 → zw_H → Prop) (X : String → Nat → zw_H → Prop) : Prop :=
  (f_X2_in K a1 0 1 h (fun v1 h1 =>
  if v1 = 0 then
    f_X2_restore_J26 K Q X  a0 a1 v1 a0 h1
  else
    og_A h1 a0 [0] 5 (fun v7 =>
    oa_I h1 v7 [2] a1 (fun v8 =>
    if v8 = 0 then
      f_X2_restore_J26 K Q X  a0 a1 v1 a0 h1
    else
      f_X2_restore_J27 K Q X  a0 a1 1 v1 a0 h1))) X)
abbrev rm_J0_init : Room := { frames := 1, cells := 0, slots := 0, locals := 20 }
def f_J0_init (K : Nat → Option Nat) (a0 : Option Nat) (h : zw_H) (Q : zw_H → Prop) (X : String → Nat → zw_H → Prop) : Prop :=
  (a0 ≠ none ∧ 
  Q h)
abbrev rm_J1_init : Room := { frames := 2, cells := 1, slots := 17, locals := 40 }
def f_J1_init (K : Nat → Option Nat) (a0 : Option Nat) (h : zw_H) (Q : zw_H → Prop) (X : String → Nat → zw_H → Prop) : Prop :=
  (a0 ≠ none ∧ f_J0_init K a0 h (fun h1 =>
  on_A h1 5 17 17 (fun v1 h2 =>
  op_V h2 a0 [8] 0 (va_rf (some v1)) (fun h3 =>
  Q h3))) X)
abbrev rm_J2_init : Room := { frames := 1, cells := 1, slots := 16, locals := 20 }
def f_J2_init (K : Nat → Option Nat) (a0 : Option Nat) (a1 : Int32) (h : zw_H) (Q : zw_H → Prop) (X : String → Nat → zw_H → Prop) : Prop :=
  (a0 ≠ none ∧ 
  if (1 : Int32) = 0 then
    False
  else
    on_I h 1 a1 16 (fun v1 h1 =>
    op_V h1 a0 [10] 0 (va_rf (some v1)) (fun h2 =>
    op_V h2 a0 [10] 1 (.int 0) (fun h3 =>
    Q h3))))
abbrev rm_J3_init : Room := { frames := 2, cells := 1, slots := 16, locals := 41 }
def f_J3_init (K : Nat → Option Nat) (a0 : Option Nat) (h : zw_H) (Q : zw_H → Prop) (X : String → Nat → zw_H → Prop) : Prop :=
  (a0 ≠ none ∧ f_J2_init K a0 16 h (fun h1 =>
  Q h1) X)
abbrev rm_X1_init : Room := { frames := 3, cells := 6, slots := 1192, locals := 61 }
def f_X1_init (K : Nat → Option Nat) (a0 : Option Nat) (h : zw_H) (Q : zw_H → Prop) (X : String → Nat → zw_H → Prop) : Prop :=
  (a0 ≠ none ∧ 
  on_I h 1 500 576 (fun v1 h1 =>
  op_V h1 a0 [1] 0 (va_rf (some v1)) (fun h2 =>
  op_V h2 a0 [1] 3 (.int (-1)) (fun h3 =>
  on_C h3 (.inr (8, [.null, .int 0, .int 0])) (fun v2 h4 =>
  (f_J1_init K (some v2) h4 (fun h5 =>
  op_V h5 a0 [1] 5 (va_rf (some v2)) (fun h6 =>
  on_A h6 8 2 576 (fun v3 h7 =>
  op_V h7 a0 [1] 6 (va_rf (some v3)) (fun h8 =>
  on_C h8 (.inr (10, [.null, .int 0, .int 0, .int 0])) (fun v4 h9 =>
  (f_J3_init K (some v4) h9 (fun h10 =>
  op_V h10 a0 [1] 7 (va_rf (some v4)) (fun h11 =>
  Q h11)) X)))))) X))))))
abbrev rm_X1_append : Room := { frames := 0, cells := 1, slots := 5, locals := 0 }
def f_X1_append_B68 (K : Nat → Option Nat) (Q : Int32 → zw_H → Prop) (X : String → Nat → zw_H → Prop)  (k104 : zw_H → Prop) (l0 : Option Nat) (l6 : Option Nat) (l7 : Int32) (l8 : Int32) (l9 : Int32) (R : Int32 → zw_H → Prop) (l10 : Int32) (h : zw_H) : Prop :=
  if l10 < 0 then
    k104  h
  else
    og_A h l0 [1] 0 (fun v5 =>
    og_I h l0 [1] 1 (fun v6 =>
    os_I h v5 [1] v6 (vp_nar .byte ((l9 >>> (l10 &&& 31)).toInt8.toInt32)) (fun h7 =>
    og_I h7 l0 [1] 1 (fun v7 =>
    op_V h7 l0 [1] 1 (.int (v7 + 1)) (fun h8 =>
    olet (l10 + (-8)) (fun v8 =>
    R v8 h8))))))
def f_X1_append_B50 (K : Nat → Option Nat) (Q : Int32 → zw_H → Prop) (X : String → Nat → zw_H → Prop)  (k110 : zw_H → Prop) (l0 : Option Nat) (l6 : Option Nat) (l7 : Int32) (R : Int32 → zw_H → Prop) (l8 : Int32) (h : zw_H) : Prop :=
  if l7 ≤ l8 then
    k110  h
  else
    oa_I h l6 [0, 11] l8 (fun v4 =>
    zl2 (f_X1_append_B68 K Q X (fun h9 =>
      olet (l8 + 1) (fun v9 =>
      R v9 h9)) l0 l6 l7 l8 v4) zfu 24 h)
def f_X1_append (K : Nat → Option Nat) (a0 : Option Nat) (a1 : Int32) (a2 : Int32) (a3 : Int32) (a4 : Int32) (a5 : Int32) (h : zw_H) (Q : Int32 → zw_H → Prop) (X : String → Nat → zw_H → Prop) : Prop :=
  og_I h a0 [1] 1 (fun v1 =>
  if (v1 + 20) ≤ 500 then
    on_I h 0 5 5 (fun v2 h1 =>
    os_I h1 (some v2) [0] 0 a1 (fun h2 =>
    os_I h2 (some v2) [0] 1 a2 (fun h3 =>
    os_I h3 (some v2) [0] 2 a3 (fun h4 =>
    os_I h4 (some v2) [0] 3 a4 (fun h5 =>
    os_I h5 (some v2) [0] 4 a5 (fun h6 =>
    ol_ h6 (some v2) (fun v3 =>
    zl2 (f_X1_append_B50 K Q X (fun h10 =>
      og_I h10 a0 [1] 1 (fun v10 =>
      Q v10 h10)) a0 (some v2) v3) zfu 0 h6)))))))
  else
    Q (-1) h)
abbrev rm_X1_parseError : Room := { frames := 0, cells := 0, slots := 0, locals := 0 }
def f_X1_parseError (K : Nat → Option Nat) (a0 : Option Nat) (h : zw_H) (Q : Int32 → zw_H → Prop) (X : String → Nat → zw_H → Prop) : Prop :=
  og_I h a0 [1] 2 (fun v1 =>
  Q v1 h)
abbrev rm_X1_errorPosition : Room := { frames := 0, cells := 0, slots := 0, locals := 0 }
def f_X1_errorPosition (K : Nat → Option Nat) (a0 : Option Nat) (h : zw_H) (Q : Int32 → zw_H → Prop) (X : String → Nat → zw_H → Prop) : Prop :=
  og_I h a0 [1] 3 (fun v1 =>
  Q v1 h)
abbrev rm_X1_buffered : Room := { frames := 0, cells := 0, slots := 0, locals := 0 }
def f_X1_buffered (K : Nat → Option Nat) (a0 : Option Nat) (h : zw_H) (Q : Int32 → zw_H → Prop) (X : String → Nat → zw_H → Prop) : Prop :=
  og_I h a0 [1] 1 (fun v1 =>
  Q v1 h)
abbrev rm_J1_sub : Room := { frames := 0, cells := 0, slots := 0, locals := 0 }
def f_J1_sub (K : Nat → Option Nat) (a0 : Int32) (a1 : Int32) (a2 : Int32) (h : zw_H) (Q : Int32 → zw_H → Prop) (X : String → Nat → zw_H → Prop) : Prop :=
  olet (a0 - a1 : Int32) (fun v1 =>
  if (0 : Int32) ≤ v1 then
    Q v1 h
  else
    olet (v1 + a2 : Int32) (fun v2 =>
    Q v2 h))
abbrev rm_J1_size : Room := { frames := 1, cells := 0, slots := 0, locals := 22 }
def f_J1_size (K : Nat → Option Nat) (a0 : Option Nat) (h : zw_H) (Q : Int32 → zw_H → Prop) (X : String → Nat → zw_H → Prop) : Prop :=
  og_I h a0 [8] 2 (fun v1 =>
  og_I h a0 [8] 1 (fun v2 =>
  og_A h a0 [8] 0 (fun v3 =>
  ol_ h v3 (fun v4 =>
  (f_J1_sub K v1 v2 v4 h (fun v5 h1 =>
  Q v5 h1) X)))))
abbrev rm_X1_undoable : Room := { frames := 2, cells := 0, slots := 0, locals := 42 }
def f_X1_undoable (K : Nat → Option Nat) (a0 : Option Nat) (h : zw_H) (Q : Int32 → zw_H → Prop) (X : String → Nat → zw_H → Prop) : Prop :=
  og_A h a0 [1] 5 (fun v1 =>
  oc_ h v1 [8] (f_J1_size K v1 h (fun v2 h1 =>
  Q v2 h1) X))
abbrev rm_X1_in : Room := { frames := 0, cells := 0, slots := 0, locals := 0 }
def f_X1_in (K : Nat → Option Nat) (a0 : Int64) (a1 : Int64) (a2 : Int64) (h : zw_H) (Q : Int32 → zw_H → Prop) (X : String → Nat → zw_H → Prop) : Prop :=
  if (lg_cmp a0 a1) < 0 then
    Q 0 h
  else
    if (0 : Int32) < (lg_cmp a0 a2) then
      Q 0 h
    else
      Q 1 h
abbrev rm_J6_init_2 : Room := { frames := 1, cells := 0, slots := 0, locals := 20 }
def f_J6_init_2 (K : Nat → Option Nat) (a0 : Option Nat) (h : zw_H) (Q : zw_H → Prop) (X : String → Nat → zw_H → Prop) : Prop :=
  False
abbrev rm_J7_init_2 : Room := { frames := 2, cells := 0, slots := 0, locals := 40 }
def f_J7_init_2 (K : Nat → Option Nat) (a0 : Option Nat) (h : zw_H) (Q : zw_H → Prop) (X : String → Nat → zw_H → Prop) : Prop :=
  (a0 ≠ none ∧ f_J6_init_2 K a0 h (fun h1 =>
  Q h1) X)
abbrev rm_J8_init_2 : Room := { frames := 3, cells := 0, slots := 0, locals := 60 }
def f_J8_init_2 (K : Nat → Option Nat) (a0 : Option Nat) (h : zw_H) (Q : zw_H → Prop) (X : String → Nat → zw_H → Prop) : Prop :=
  (a0 ≠ none ∧ f_J7_init_2 K a0 h (fun h1 =>
  Q h1) X)
abbrev rm_J9_init_2 : Room := { frames := 4, cells := 0, slots := 0, locals := 80 }
def f_J9_init_2 (K : Nat → Option Nat) (a0 : Option Nat) (h : zw_H) (Q : zw_H → Prop) (X : String → Nat → zw_H → Prop) : Prop :=
  (a0 ≠ none ∧ f_J8_init_2 K a0 h (fun h1 =>
  Q h1) X)
abbrev rm_X1_checkIndex : Room := { frames := 6, cells := 1, slots := 6, locals := 120 }
def f_X1_checkIndex (K : Nat → Option Nat) (a0 : Int32) (a1 : Int32) (h : zw_H) (Q : zw_H → Prop) (X : String → Nat → zw_H → Prop) : Prop :=
  (f_X1_in K a0.toInt64 0 ((a1 - 1).toInt64) h (fun v1 h1 =>
  if v1 ≠ 0 then
    Q h1
  else
    (∀ q9 : Nat, X "java/lang/IndexOutOfBoundsException" q9 h1)) X)
abbrev rm_J11_init : Room := { frames := 2, cells := 0, slots := 0, locals := 40 }
def f_J11_init (K : Nat → Option Nat) (a0 : Option Nat) (h : zw_H) (Q : zw_H → Prop) (X : String → Nat → zw_H → Prop) : Prop :=
  (a0 ≠ none ∧ f_J0_init K a0 h (fun h1 =>
  op_V h1 a0 [9, 14] 0 (.int 0) (fun h2 =>
  Q h2)) X)
abbrev rm_J12_init : Room := { frames := 3, cells := 0, slots := 0, locals := 60 }
def f_J12_init (K : Nat → Option Nat) (a0 : Option Nat) (h : zw_H) (Q : zw_H → Prop) (X : String → Nat → zw_H → Prop) : Prop :=
  (a0 ≠ none ∧ f_J11_init K a0 h (fun h1 =>
  op_V h1 a0 [9] 1 (va_rf (K 2)) (fun h2 =>
  Q h2)) X)
abbrev rm_X5_init : Room := { frames := 1, cells := 0, slots := 0, locals := 20 }
def f_X5_init (K : Nat → Option Nat) (a0 : Option Nat) (a1 : Int32) (a2 : Int32) (h : zw_H) (Q : zw_H → Prop) (X : String → Nat → zw_H → Prop) : Prop :=
  (a0 ≠ none ∧ 
  op_V h a0 [4] 0 (.int a1) (fun h1 =>
  op_V h1 a0 [4] 1 (.int a2) (fun h2 =>
  op_V h2 a0 [4] 2 (.int ((256 : Int32) >>> (a1 &&& 31))) (fun h3 =>
  og_I h3 a0 [4] 2 (fun v1 =>
  og_I h3 a0 [4] 2 (fun v2 =>
  ((2 : Int32) ≠ 0 ∧ 
  op_V h3 a0 [4] 3 (.int ((a2 * v1) + (v2 / 2))) (fun h4 =>
  Q h4))))))))
abbrev rm_X4_init : Room := { frames := 4, cells := 242, slots := 1247, locals := 80 }
def f_X4_init_B62 (K : Nat → Option Nat) (Q : zw_H → Prop) (X : String → Nat → zw_H → Prop)  (k96 : zw_H → Prop) (l0 : Option Nat) (l1 : Int32) (R : Int32 → zw_H → Prop) (l2 : Int32) (h : zw_H) : Prop :=
  og_A h l0 [2] 1 (fun v7 =>
  oa_A h v7 [7] l1 (fun v8 =>
  ol_ h v8 (fun v9 =>
  if v9 ≤ l2 then
    k96  h
  else
    og_A h l0 [2] 1 (fun v10 =>
    oa_A h v10 [7] l1 (fun v11 =>
    on_C h (.inr (4, [.int 0, .int 0, .int 0, .int 0])) (fun v12 h12 =>
    (f_X5_init K (some v12) l1 l2 h12 (fun h13 =>
    os_A h13 v11 6 [4] [] l2 (some v12) (fun h14 =>
    olet (l2 + 1) (fun v13 =>
    R v13 h14))) X)))))))
def f_X4_init_B43 (K : Nat → Option Nat) (Q : zw_H → Prop) (X : String → Nat → zw_H → Prop)  (k102 : zw_H → Prop) (l0 : Option Nat) (R : Int32 → zw_H → Prop) (l1 : Int32) (h : zw_H) : Prop :=
  if (5 : Int32) < l1 then
    k102  h
  else
    og_A h l0 [2] 1 (fun v5 =>
    on_A h 6 ((1 : Int32) <<< (l1 &&& 31)) 32 (fun v6 h10 =>
    os_ABB h10 v5 l1 (some v6) (fun h11 =>
    zl2 (f_X4_init_B62 K Q X (fun h15 =>
      olet (l1 + 1) (fun v14 =>
      R v14 h15)) l0 l1) 33 0 h11)))
def f_X4_init (K : Nat → Option Nat) (a0 : Option Nat) (h : zw_H) (Q : zw_H → Prop) (X : String → Nat → zw_H → Prop) : Prop :=
  (a0 ≠ none ∧ 
  on_C h (.inr (9, [.int 0, .null, .int 0])) (fun v1 h1 =>
  (f_J12_init K (some v1) h1 (fun h2 =>
  op_V h2 a0 [2] 0 (va_rf (some v1)) (fun h3 =>
  on_A h3 7 6 32 (fun v2 h4 =>
  op_V h4 a0 [2] 1 (va_rf (some v2)) (fun h5 =>
  on_A h5 6 20 32 (fun v3 h6 =>
  op_V h6 a0 [2] 7 (va_rf (some v3)) (fun h7 =>
  on_I h7 0 24 32 (fun v4 h8 =>
  op_V h8 a0 [2] 8 (va_rf (some v4)) (fun h9 =>
  zl2 (f_X4_init_B43 K Q X (fun h16 =>
    Q h16) a0) 7 0 h9)))))))) X)))
abbrev rm_X3_at : Room := { frames := 0, cells := 0, slots := 0, locals := 0 }
def f_X3_at (K : Nat → Option Nat) (a0 : Option Nat) (a1 : Int32) (h : zw_H) (Q : Int32 → zw_H → Prop) (X : String → Nat → zw_H → Prop) : Prop :=
  og_I h a0 [3] 1 (fun v1 =>
  if v1 ≤ a1 then
    Q (-1) h
  else
    og_A h a0 [3] 7 (fun v2 =>
    og_A h v2 [1] 0 (fun v3 =>
    oa_I h v3 [1, 10] a1 (fun v4 =>
    Q (v4 &&& 255) h))))
abbrev rm_X3_run : Room := { frames := 1, cells := 0, slots := 0, locals := 25 }
def f_X3_run_B3 (K : Nat → Option Nat) (Q : Int32 → zw_H → Prop) (X : String → Nat → zw_H → Prop)  (k26 : Int32 → zw_H → Prop) (l0 : Option Nat) (l2 : Int32) (l3 : Int32) (R : Int32 → zw_H → Prop) (l4 : Int32) (h : zw_H) : Prop :=
  oc_ h l0 [3] (f_X3_at K l0 l4 h (fun v1 h1 =>
  (f_X1_in K v1.toInt64 l2.toInt64 l3.toInt64 h1 (fun v2 h2 =>
  if v2 = 0 then
    k26 l4 h2
  else
    olet (l4 + 1) (fun v3 =>
    R v3 h2)) X)) X)
def f_X3_run (K : Nat → Option Nat) (a0 : Option Nat) (a1 : Int32) (a2 : Int32) (a3 : Int32) (h : zw_H) (Q : Int32 → zw_H → Prop) (X : String → Nat → zw_H → Prop) : Prop :=
  zl2 (f_X3_run_B3 K Q X (fun v4 h3 =>
    Q v4 h3) a0 a2 a3) zfu a1 h
abbrev rm_J14_max : Room := { frames := 0, cells := 0, slots := 0, locals := 0 }
def f_J14_max (K : Nat → Option Nat) (a0 : Int32) (a1 : Int32) (h : zw_H) (Q : Int32 → zw_H → Prop) (X : String → Nat → zw_H → Prop) : Prop :=
  if a0 < a1 then
    Q a1 h
  else
    Q a0 h
abbrev rm_J13_newLength : Room := { frames := 1, cells := 0, slots := 0, locals := 21 }
def f_J13_newLength (K : Nat → Option Nat) (a0 : Int32) (a1 : Int32) (a2 : Int32) (h : zw_H) (Q : Int32 → zw_H → Prop) (X : String → Nat → zw_H → Prop) : Prop :=
  (f_J14_max K a1 a2 h (fun v1 h1 =>
  olet (a0 + v1 : Int32) (fun v2 =>
  if v2 ≤ 0 then
    False
  else
    if ((2147483639 : Int32) : Int32) < v2 then
      False
    else
      Q v2 h1)) X)
abbrev rm_J2_newCapacity : Room := { frames := 2, cells := 0, slots := 0, locals := 44 }
def f_J2_newCapacity (K : Nat → Option Nat) (a0 : Option Nat) (a1 : Int32) (h : zw_H) (Q : Int32 → zw_H → Prop) (X : String → Nat → zw_H → Prop) : Prop :=
  og_A h a0 [10] 0 (fun v1 =>
  ol_ h v1 (fun v2 =>
  og_I h a0 [10] 1 (fun v3 =>
  olet (a1 <<< (v3 &&& 31) : Int32) (fun v4 =>
  olet (v4 - v2 : Int32) (fun v5 =>
  og_I h a0 [10] 1 (fun v6 =>
  (f_J13_newLength K v2 v5 (v2 + ((2 : Int32) <<< (v6 &&& 31))) h (fun v7 h1 =>
  if v7 ≠ (2147483647 : Int32) then
    og_I h1 a0 [10] 1 (fun v8 =>
    Q (v7 >>> (v8 &&& 31)) h1)
  else
    False) X)))))))
abbrev rm_J14_min : Room := { frames := 0, cells := 0, slots := 0, locals := 0 }
def f_J14_min (K : Nat → Option Nat) (a0 : Int32) (a1 : Int32) (h : zw_H) (Q : Int32 → zw_H → Prop) (X : String → Nat → zw_H → Prop) : Prop :=
  if a1 < a0 then
    Q a1 h
  else
    Q a0 h
abbrev rm_J15_copyOf : Room := { frames := 2, cells := 1, slots := 576, locals := 100 }
def f_J15_copyOf (K : Nat → Option Nat) (a0 : Option Nat) (a1 : Int32) (h : zw_H) (Q : Option Nat → zw_H → Prop) (X : String → Nat → zw_H → Prop) : Prop :=
  ol_ h a0 (fun v1 =>
  if a1 ≠ v1 then
    on_I h 1 a1 576 (fun v2 h1 =>
    ol_ h1 a0 (fun v3 =>
    (f_J14_min K v3 a1 h1 (fun v4 h2 =>
    ocp_B h2 a0 0 (some v2) 0 v4 (fun h3 =>
    Q (some v2) h3)) X)))
  else
    False)
abbrev rm_J2_ensureCapacityInternaln : Room := { frames := 3, cells := 0, slots := 0, locals := 122 }
def f_J2_ensureCapacityInternaln (K : Nat → Option Nat) (a0 : Option Nat) (a1 : Int32) (h : zw_H) (Q : zw_H → Prop) (X : String → Nat → zw_H → Prop) : Prop :=
  og_A h a0 [10] 0 (fun v1 =>
  ol_ h v1 (fun v2 =>
  og_I h a0 [10] 1 (fun v3 =>
  olet (v2 >>> (v3 &&& 31) : Int32) (fun v4 =>
  if (a1 - v4) ≤ 0 then
    Q h
  else
    False))))
abbrev rm_J2_isLatin1 : Room := { frames := 0, cells := 0, slots := 0, locals := 0 }
def f_J2_isLatin1 (K : Nat → Option Nat) (a0 : Option Nat) (h : zw_H) (Q : Int32 → zw_H → Prop) (X : String → Nat → zw_H → Prop) : Prop :=
  if (1 : Int32) = 0 then
    Q 0 h
  else
    og_I h a0 [10] 1 (fun v1 =>
    if v1 ≠ 0 then
      Q 0 h
    else
      Q 1 h)
abbrev rm_J16_canEncode : Room := { frames := 0, cells := 0, slots := 0, locals := 0 }
def f_J16_canEncode (K : Nat → Option Nat) (a0 : Int32) (h : zw_H) (Q : Int32 → zw_H → Prop) (X : String → Nat → zw_H → Prop) : Prop :=
  if (255 : Int32) < a0 then
    Q 0 h
  else
    Q 1 h
abbrev rm_J5_putChar : Room := { frames := 1, cells := 0, slots := 0, locals := 20 }
def f_J5_putChar_J28 (K : Nat → Option Nat) (Q : zw_H → Prop) (X : String → Nat → zw_H → Prop)  (l0 : Option Nat) (l1 : Int32) (l2 : Int32)  (h : zw_H) : Prop :=
  olet (l1 <<< (1 &&& 31) : Int32) (fun v1 =>
  olet (v1 + 1) (fun v2 =>
  os_I h l0 [1] v1 (vp_nar .byte ((l2 >>> (0 &&& 31)).toInt8.toInt32)) (fun h1 =>
  os_I h1 l0 [1] v2 (vp_nar .byte ((l2 >>> (8 &&& 31)).toInt8.toInt32)) (fun h2 =>
  Q h2))))
def f_J5_putChar (K : Nat → Option Nat) (a0 : Option Nat) (a1 : Int32) (a2 : Int32) (h : zw_H) (Q : zw_H → Prop) (X : String → Nat → zw_H → Prop) : Prop :=
  if (1 : Int32) ≠ 0 then
    f_J5_putChar_J28 K Q X  a0 a1 a2  h
  else
    if a1 < 0 then
      False
    else
      (f_J5_length K a0 h (fun v3 h3 =>
      if a1 < v3 then
        f_J5_putChar_J28 K Q X  a0 a1 a2  h3
      else
        False) X)
abbrev rm_J5_putCharSB : Room := { frames := 3, cells := 0, slots := 0, locals := 64 }
def f_J5_putCharSB (K : Nat → Option Nat) (a0 : Option Nat) (a1 : Int32) (a2 : Int32) (h : zw_H) (Q : zw_H → Prop) (X : String → Nat → zw_H → Prop) : Prop :=
  (f_J5_checkIndex K a1 a0 h (fun h1 =>
  (f_J5_putChar K a0 a1 a2 h1 (fun h2 =>
  Q h2) X)) X)
abbrev rm_J2_appendn : Room := { frames := 4, cells := 0, slots := 0, locals := 144 }
def f_J2_appendn_J56 (K : Nat → Option Nat) (Q : Option Nat → zw_H → Prop) (X : String → Nat → zw_H → Prop)  (l0 : Option Nat) (l1 : Int32)  (h : zw_H) : Prop :=
  og_A h l0 [10] 0 (fun v4 =>
  og_I h l0 [10] 3 (fun v5 =>
  op_V h l0 [10] 3 (.int (v5 + 1)) (fun h4 =>
  (f_J5_putCharSB K v4 v5 l1 h4 (fun h5 =>
  Q l0 h5) X))))
def f_J2_appendn_J45 (K : Nat → Option Nat) (Q : Option Nat → zw_H → Prop) (X : String → Nat → zw_H → Prop)  (l0 : Option Nat) (l1 : Int32)  (h : zw_H) : Prop :=
  oc_ h l0 [10] (f_J2_isLatin1 K l0 h (fun v3 h3 =>
  if v3 = 0 then
    f_J2_appendn_J56 K Q X  l0 l1  h3
  else
    False) X)
def f_J2_appendn (K : Nat → Option Nat) (a0 : Option Nat) (a1 : Int32) (h : zw_H) (Q : Option Nat → zw_H → Prop) (X : String → Nat → zw_H → Prop) : Prop :=
  og_I h a0 [10] 3 (fun v1 =>
  oc_ h a0 [10] (f_J2_ensureCapacityInternaln K a0 (v1 + 1) h (fun h1 =>
  oc_ h1 a0 [10] (f_J2_isLatin1 K a0 h1 (fun v2 h2 =>
  if v2 = 0 then
    f_J2_appendn_J45 K Q X  a0 a1  h2
  else
    (f_J16_canEncode K a1 h2 (fun v6 h6 =>
    if v6 = 0 then
      f_J2_appendn_J45 K Q X  a0 a1  h6
    else
      og_A h6 a0 [10] 0 (fun v7 =>
      og_I h6 a0 [10] 3 (fun v8 =>
      op_V h6 a0 [10] 3 (.int (v8 + 1)) (fun h7 =>
      os_I h7 v7 [1] v8 (vp_nar .byte a1.toInt8.toInt32) (fun h8 =>
      Q a0 h8))))) X)) X)) X))
abbrev rm_J3_appendn : Room := { frames := 5, cells := 0, slots := 0, locals := 165 }
def f_J3_appendn (K : Nat → Option Nat) (a0 : Option Nat) (a1 : Int32) (h : zw_H) (Q : Option Nat → zw_H → Prop) (X : String → Nat → zw_H → Prop) : Prop :=
  oc_ h a0 [10] (f_J2_appendn K a0 a1 h (fun v1 h1 =>
  Q a0 h1) X)
abbrev rm_J2_getValue : Room := { frames := 0, cells := 0, slots := 0, locals := 0 }
def f_J2_getValue (K : Nat → Option Nat) (a0 : Option Nat) (h : zw_H) (Q : Option Nat → zw_H → Prop) (X : String → Nat → zw_H → Prop) : Prop :=
  og_A h a0 [10] 0 (fun v1 =>
  Q v1 h)
abbrev rm_J2_length : Room := { frames := 0, cells := 0, slots := 0, locals := 0 }
def f_J2_length (K : Nat → Option Nat) (a0 : Option Nat) (h : zw_H) (Q : Int32 → zw_H → Prop) (X : String → Nat → zw_H → Prop) : Prop :=
  og_I h a0 [10] 3 (fun v1 =>
  Q v1 h)
abbrev rm_J3_length : Room := { frames := 1, cells := 0, slots := 0, locals := 20 }
def f_J3_length (K : Nat → Option Nat) (a0 : Option Nat) (h : zw_H) (Q : Int32 → zw_H → Prop) (X : String → Nat → zw_H → Prop) : Prop :=
  oc_ h a0 [10] (f_J2_length K a0 h (fun v1 h1 =>
  Q v1 h1) X)
abbrev rm_J20_stringSize : Room := { frames := 0, cells := 0, slots := 0, locals := 0 }
def f_J20_stringSize_B16 (K : Nat → Option Nat) (Q : Int32 → zw_H → Prop) (X : String → Nat → zw_H → Prop)  (k27 : Int32 → zw_H → Prop) (k42 : zw_H → Prop) (l0 : Int32) (l1 : Int32) (R : Int32 → Int32 → zw_H → Prop) (l2 : Int32) (l3 : Int32) (h : zw_H) : Prop :=
  if (10 : Int32) ≤ l3 then
    k42  h
  else
    if l0 ≤ l2 then
      olet ((10 : Int32) * l2 : Int32) (fun v1 =>
      olet (l3 + 1) (fun v2 =>
      R v1 v2 h))
    else
      k27 l3 h
def f_J20_stringSize_J11 (K : Nat → Option Nat) (Q : Int32 → zw_H → Prop) (X : String → Nat → zw_H → Prop)  (l0 : Int32) (l1 : Int32)  (h : zw_H) : Prop :=
  zl3 (f_J20_stringSize_B16 K Q X (fun v3 h1 =>
    Q (v3 + l1) h1) (fun h2 =>
    Q ((10 : Int32) + l1) h2) l0 l1) zfu (-10) 1 h
def f_J20_stringSize (K : Nat → Option Nat) (a0 : Int32) (h : zw_H) (Q : Int32 → zw_H → Prop) (X : String → Nat → zw_H → Prop) : Prop :=
  if a0 < 0 then
    f_J20_stringSize_J11 K Q X  a0 1  h
  else
    olet (-a0 : Int32) (fun v4 =>
    f_J20_stringSize_J11 K Q X  v4 0  h)
abbrev rm_J2_ensureCapacityInternal : Room := { frames := 3, cells := 1, slots := 576, locals := 122 }
def f_J2_ensureCapacityInternal (K : Nat → Option Nat) (a0 : Option Nat) (a1 : Int32) (h : zw_H) (Q : zw_H → Prop) (X : String → Nat → zw_H → Prop) : Prop :=
  og_A h a0 [10] 0 (fun v1 =>
  ol_ h v1 (fun v2 =>
  og_I h a0 [10] 1 (fun v3 =>
  olet (v2 >>> (v3 &&& 31) : Int32) (fun v4 =>
  if (a1 - v4) ≤ 0 then
    Q h
  else
    og_A h a0 [10] 0 (fun v5 =>
    oc_ h a0 [10] (f_J2_newCapacity K a0 a1 h (fun v6 h1 =>
    og_I h1 a0 [10] 1 (fun v7 =>
    (f_J15_copyOf K v5 (v6 <<< (v7 &&& 31)) h1 (fun v8 h2 =>
    op_V h2 a0 [10] 0 (va_rf v8) (fun h3 =>
    Q h3)) X))) X))))))
abbrev rm_J20_getChars : Room := { frames := 0, cells := 0, slots := 0, locals := 0 }
def f_J20_getChars_B22 (K : Nat → Option Nat) (Q : Int32 → zw_H → Prop) (X : String → Nat → zw_H → Prop)  (k72 : Int32 → Int32 → zw_H → Prop) (l2 : Option Nat) (l6 : Int32) (R : Int32 → Int32 → zw_H → Prop) (l0 : Int32) (l5 : Int32) (h : zw_H) : Prop :=
  if ((-100) : Int32) < l0 then
    k72 l0 l5 h
  else
    ((100 : Int32) ≠ 0 ∧ 
    olet (l0 / 100 : Int32) (fun v1 =>
    olet ((v1 * 100) - l0 : Int32) (fun v2 =>
    olet (l5 + (-1)) (fun v3 =>
    oa_I h (K 4) [1, 10] v2 (fun v4 =>
    os_I h l2 [1] v3 (vp_nar .byte v4) (fun h1 =>
    olet (v3 + (-1)) (fun v5 =>
    oa_I h1 (K 5) [1, 10] v2 (fun v6 =>
    os_I h1 l2 [1] v5 (vp_nar .byte v6) (fun h2 =>
    R v1 v5 h2)))))))))
def f_J20_getChars_J104 (K : Nat → Option Nat) (Q : Int32 → zw_H → Prop) (X : String → Nat → zw_H → Prop)  (l2 : Option Nat) (l5 : Int32) (l6 : Int32)  (h : zw_H) : Prop :=
  if l6 = 0 then
    Q l5 h
  else
    olet (l5 + (-1)) (fun v11 =>
    os_I h l2 [1] v11 (vp_nar .byte 45) (fun h5 =>
    Q v11 h5))
def f_J20_getChars_J22 (K : Nat → Option Nat) (Q : Int32 → zw_H → Prop) (X : String → Nat → zw_H → Prop)  (l0 : Int32) (l2 : Option Nat) (l5 : Int32) (l6 : Int32)  (h : zw_H) : Prop :=
  zl3 (f_J20_getChars_B22 K Q X (fun v7 v8 h3 =>
    olet (v8 + (-1)) (fun v9 =>
    oa_I h3 (K 4) [1, 10] (-v7) (fun v10 =>
    os_I h3 l2 [1] v9 (vp_nar .byte v10) (fun h4 =>
    if ((-9) : Int32) ≤ v7 then
      f_J20_getChars_J104 K Q X  l2 v9 l6  h4
    else
      olet (v9 + (-1)) (fun v12 =>
      oa_I h4 (K 5) [1, 10] (-v7) (fun v13 =>
      os_I h4 l2 [1] v12 (vp_nar .byte v13) (fun h6 =>
      f_J20_getChars_J104 K Q X  l2 v12 l6  h6))))))) l2 l6) zfu l0 l5 h
def f_J20_getChars_J12 (K : Nat → Option Nat) (Q : Int32 → zw_H → Prop) (X : String → Nat → zw_H → Prop)  (l0 : Int32) (l2 : Option Nat) (l5 : Int32) (s0 : Int32) (h : zw_H) : Prop :=
  if s0 ≠ 0 then
    f_J20_getChars_J22 K Q X  l0 l2 l5 s0  h
  else
    olet (-l0 : Int32) (fun v14 =>
    f_J20_getChars_J22 K Q X  v14 l2 l5 s0  h)
def f_J20_getChars (K : Nat → Option Nat) (a0 : Int32) (a1 : Int32) (a2 : Option Nat) (h : zw_H) (Q : Int32 → zw_H → Prop) (X : String → Nat → zw_H → Prop) : Prop :=
  if (0 : Int32) ≤ a0 then
    f_J20_getChars_J12 K Q X  a0 a2 a1 0 h
  else
    f_J20_getChars_J12 K Q X  a0 a2 a1 1 h
abbrev rm_J17_checkFromToIndex : Room := { frames := 0, cells := 0, slots := 0, locals := 0 }
def f_J17_checkFromToIndex (K : Nat → Option Nat) (a0 : Int32) (a1 : Int32) (a2 : Int32) (a3 : Option Nat) (h : zw_H) (Q : Int32 → zw_H → Prop) (X : String → Nat → zw_H → Prop) : Prop :=
  if a0 < 0 then
    False
  else
    if a1 < a0 then
      False
    else
      if a1 ≤ a2 then
        Q a0 h
      else
        False
abbrev rm_J4_checkBoundsBeginEnd : Room := { frames := 1, cells := 0, slots := 0, locals := 23 }
def f_J4_checkBoundsBeginEnd (K : Nat → Option Nat) (a0 : Int32) (a1 : Int32) (a2 : Int32) (h : zw_H) (Q : zw_H → Prop) (X : String → Nat → zw_H → Prop) : Prop :=
  (f_J17_checkFromToIndex K a0 a1 a2 (K 3) h (fun v1 h1 =>
  Q h1) X)
abbrev rm_J5_checkBoundsBeginEnd : Room := { frames := 2, cells := 0, slots := 0, locals := 45 }
def f_J5_checkBoundsBeginEnd (K : Nat → Option Nat) (a0 : Int32) (a1 : Int32) (a2 : Option Nat) (h : zw_H) (Q : zw_H → Prop) (X : String → Nat → zw_H → Prop) : Prop :=
  (f_J5_length K a2 h (fun v1 h1 =>
  (f_J4_checkBoundsBeginEnd K a0 a1 v1 h1 (fun h2 =>
  Q h2) X)) X)
abbrev rm_J5_getChars_2 : Room := { frames := 2, cells := 0, slots := 0, locals := 42 }
def f_J5_getChars_2_B22 (K : Nat → Option Nat) (Q : Int32 → zw_H → Prop) (X : String → Nat → zw_H → Prop)  (k76 : Int32 → Int32 → zw_H → Prop) (l2 : Option Nat) (l6 : Int32) (R : Int32 → Int32 → zw_H → Prop) (l0 : Int32) (l5 : Int32) (h : zw_H) : Prop :=
  if ((-100) : Int32) < l0 then
    k76 l0 l5 h
  else
    ((100 : Int32) ≠ 0 ∧ 
    olet (l0 / 100 : Int32) (fun v1 =>
    olet ((v1 * 100) - l0 : Int32) (fun v2 =>
    olet (l5 + (-1)) (fun v3 =>
    oa_I h (K 4) [1, 10] v2 (fun v4 =>
    (f_J5_putChar K l2 v3 v4 h (fun h1 =>
    olet (v3 + (-1)) (fun v5 =>
    oa_I h1 (K 5) [1, 10] v2 (fun v6 =>
    (f_J5_putChar K l2 v5 v6 h1 (fun h2 =>
    R v1 v5 h2) X)))) X))))))
def f_J5_getChars_2_J112 (K : Nat → Option Nat) (Q : Int32 → zw_H → Prop) (X : String → Nat → zw_H → Prop)  (l2 : Option Nat) (l5 : Int32) (l6 : Int32)  (h : zw_H) : Prop :=
  if l6 = 0 then
    Q l5 h
  else
    olet (l5 + (-1)) (fun v11 =>
    (f_J5_putChar K l2 v11 45 h (fun h5 =>
    Q v11 h5) X))
def f_J5_getChars_2_J22 (K : Nat → Option Nat) (Q : Int32 → zw_H → Prop) (X : String → Nat → zw_H → Prop)  (l0 : Int32) (l2 : Option Nat) (l5 : Int32) (l6 : Int32)  (h : zw_H) : Prop :=
  zl3 (f_J5_getChars_2_B22 K Q X (fun v7 v8 h3 =>
    olet (v8 + (-1)) (fun v9 =>
    oa_I h3 (K 4) [1, 10] (-v7) (fun v10 =>
    (f_J5_putChar K l2 v9 v10 h3 (fun h4 =>
    if ((-9) : Int32) ≤ v7 then
      f_J5_getChars_2_J112 K Q X  l2 v9 l6  h4
    else
      olet (v9 + (-1)) (fun v12 =>
      oa_I h4 (K 5) [1, 10] (-v7) (fun v13 =>
      (f_J5_putChar K l2 v12 v13 h4 (fun h6 =>
      f_J5_getChars_2_J112 K Q X  l2 v12 l6  h6) X)))) X)))) l2 l6) zfu l0 l5 h
def f_J5_getChars_2_J12 (K : Nat → Option Nat) (Q : Int32 → zw_H → Prop) (X : String → Nat → zw_H → Prop)  (l0 : Int32) (l2 : Option Nat) (l5 : Int32) (s0 : Int32) (h : zw_H) : Prop :=
  if s0 ≠ 0 then
    f_J5_getChars_2_J22 K Q X  l0 l2 l5 s0  h
  else
    olet (-l0 : Int32) (fun v14 =>
    f_J5_getChars_2_J22 K Q X  v14 l2 l5 s0  h)
def f_J5_getChars_2 (K : Nat → Option Nat) (a0 : Int32) (a1 : Int32) (a2 : Option Nat) (h : zw_H) (Q : Int32 → zw_H → Prop) (X : String → Nat → zw_H → Prop) : Prop :=
  if (0 : Int32) ≤ a0 then
    f_J5_getChars_2_J12 K Q X  a0 a2 a1 0 h
  else
    f_J5_getChars_2_J12 K Q X  a0 a2 a1 1 h
abbrev rm_J5_getChars : Room := { frames := 3, cells := 0, slots := 0, locals := 68 }
def f_J5_getChars (K : Nat → Option Nat) (a0 : Int32) (a1 : Int32) (a2 : Int32) (a3 : Option Nat) (h : zw_H) (Q : Int32 → zw_H → Prop) (X : String → Nat → zw_H → Prop) : Prop :=
  (f_J5_checkBoundsBeginEnd K a1 a2 a3 h (fun h1 =>
  (f_J5_getChars_2 K a0 a2 a3 h1 (fun v1 h2 =>
  if (1 : Int32) ≠ 0 then
    Q v1 h2
  else
    if a1 = v1 then
      Q v1 h2
    else
      False) X)) X)
abbrev rm_J2_append_2 : Room := { frames := 4, cells := 1, slots := 576, locals := 144 }
def f_J2_append_2_J48 (K : Nat → Option Nat) (Q : Option Nat → zw_H → Prop) (X : String → Nat → zw_H → Prop)  (l0 : Option Nat) (l3 : Int32)  (h : zw_H) : Prop :=
  op_V h l0 [10] 3 (.int l3) (fun h5 =>
  Q l0 h5)
def f_J2_append_2 (K : Nat → Option Nat) (a0 : Option Nat) (a1 : Int32) (h : zw_H) (Q : Option Nat → zw_H → Prop) (X : String → Nat → zw_H → Prop) : Prop :=
  og_I h a0 [10] 3 (fun v1 =>
  (f_J20_stringSize K a1 h (fun v2 h1 =>
  olet (v1 + v2 : Int32) (fun v3 =>
  oc_ h1 a0 [10] (f_J2_ensureCapacityInternal K a0 v3 h1 (fun h2 =>
  oc_ h2 a0 [10] (f_J2_isLatin1 K a0 h2 (fun v4 h3 =>
  if v4 = 0 then
    og_A h3 a0 [10] 0 (fun v5 =>
    (f_J5_getChars K a1 v1 v3 v5 h3 (fun v6 h4 =>
    f_J2_append_2_J48 K Q X  a0 v3  h4) X))
  else
    og_A h3 a0 [10] 0 (fun v7 =>
    (f_J20_getChars K a1 v3 v7 h3 (fun v8 h6 =>
    f_J2_append_2_J48 K Q X  a0 v3  h6) X))) X)) X))) X))
abbrev rm_J3_append_2 : Room := { frames := 5, cells := 1, slots := 576, locals := 167 }
def f_J3_append_2 (K : Nat → Option Nat) (a0 : Option Nat) (a1 : Int32) (h : zw_H) (Q : Option Nat → zw_H → Prop) (X : String → Nat → zw_H → Prop) : Prop :=
  oc_ h a0 [10] (f_J2_append_2 K a0 a1 h (fun v1 h1 =>
  Q a0 h1) X)
abbrev rm_J17_checkFromIndexSize : Room := { frames := 0, cells := 0, slots := 0, locals := 0 }
def f_J17_checkFromIndexSize (K : Nat → Option Nat) (a0 : Int32) (a1 : Int32) (a2 : Int32) (a3 : Option Nat) (h : zw_H) (Q : Int32 → zw_H → Prop) (X : String → Nat → zw_H → Prop) : Prop :=
  if ((a2 ||| a0) ||| a1) < 0 then
    False
  else
    if a1 ≤ (a2 - a0) then
      Q a0 h
    else
      False
abbrev rm_J4_checkBoundsOffCount : Room := { frames := 1, cells := 0, slots := 0, locals := 23 }
def f_J4_checkBoundsOffCount (K : Nat → Option Nat) (a0 : Int32) (a1 : Int32) (a2 : Int32) (h : zw_H) (Q : Int32 → zw_H → Prop) (X : String → Nat → zw_H → Prop) : Prop :=
  (f_J17_checkFromIndexSize K a0 a1 a2 (K 3) h (fun v1 h1 =>
  Q v1 h1) X)
abbrev rm_J5_checkBoundsOffCount : Room := { frames := 2, cells := 0, slots := 0, locals := 45 }
def f_J5_checkBoundsOffCount (K : Nat → Option Nat) (a0 : Int32) (a1 : Int32) (a2 : Option Nat) (h : zw_H) (Q : zw_H → Prop) (X : String → Nat → zw_H → Prop) : Prop :=
  (f_J5_length K a2 h (fun v1 h1 =>
  (f_J4_checkBoundsOffCount K a0 a1 v1 h1 (fun v2 h2 =>
  Q h2) X)) X)
abbrev rm_J5_inflate : Room := { frames := 3, cells := 0, slots := 0, locals := 67 }
def f_J5_inflate_B10 (K : Nat → Option Nat) (Q : zw_H → Prop) (X : String → Nat → zw_H → Prop)  (k41 : zw_H → Prop) (l0 : Option Nat) (l2 : Option Nat) (l4 : Int32) (R : Int32 → Int32 → Int32 → zw_H → Prop) (l1 : Int32) (l3 : Int32) (l5 : Int32) (h : zw_H) : Prop :=
  if l4 ≤ l5 then
    k41  h
  else
    olet (l3 + 1) (fun v1 =>
    olet (l1 + 1) (fun v2 =>
    oa_I h l0 [1, 10] l1 (fun v3 =>
    (f_J5_putChar K l2 l3 (v3 &&& 255) h (fun h2 =>
    olet (l5 + 1) (fun v4 =>
    R v2 v1 v4 h2)) X))))
def f_J5_inflate (K : Nat → Option Nat) (a0 : Option Nat) (a1 : Int32) (a2 : Option Nat) (a3 : Int32) (a4 : Int32) (h : zw_H) (Q : zw_H → Prop) (X : String → Nat → zw_H → Prop) : Prop :=
  (f_J5_checkBoundsOffCount K a3 a4 a2 h (fun h1 =>
  zl4 (f_J5_inflate_B10 K Q X (fun h3 =>
    Q h3) a0 a2 a4) zfu a1 a3 0 h1) X)
abbrev rm_J16_inflate : Room := { frames := 4, cells := 0, slots := 0, locals := 92 }
def f_J16_inflate (K : Nat → Option Nat) (a0 : Option Nat) (a1 : Int32) (a2 : Option Nat) (a3 : Int32) (a4 : Int32) (h : zw_H) (Q : zw_H → Prop) (X : String → Nat → zw_H → Prop) : Prop :=
  (f_J5_inflate K a0 a1 a2 a3 a4 h (fun h1 =>
  Q h1) X)
abbrev rm_J4_getBytes : Room := { frames := 5, cells := 0, slots := 0, locals := 116 }
def f_J4_getBytes (K : Nat → Option Nat) (a0 : Option Nat) (a1 : Option Nat) (a2 : Int32) (a3 : Int32) (h : zw_H) (Q : zw_H → Prop) (X : String → Nat → zw_H → Prop) : Prop :=
  oc_ h a0 [11, 17] (f_J4_coder K a0 h (fun v1 h1 =>
  if v1 ≠ a3 then
    og_A h1 a0 [11, 17] 0 (fun v2 =>
    og_A h1 a0 [11, 17] 0 (fun v3 =>
    ol_ h1 v3 (fun v4 =>
    (f_J16_inflate K v2 0 a1 a2 v4 h1 (fun h2 =>
    Q h2) X))))
  else
    og_A h1 a0 [11, 17] 0 (fun v5 =>
    og_A h1 a0 [11, 17] 0 (fun v6 =>
    ol_ h1 v6 (fun v7 =>
    ocp_B h1 v5 0 a1 (a2 <<< (a3 &&& 31)) v7 (fun h3 =>
    Q h3))))) X)
abbrev rm_J2_putStringAt : Room := { frames := 6, cells := 0, slots := 0, locals := 139 }
def f_J2_putStringAt (K : Nat → Option Nat) (a0 : Option Nat) (a1 : Int32) (a2 : Option Nat) (h : zw_H) (Q : zw_H → Prop) (X : String → Nat → zw_H → Prop) : Prop :=
  False
abbrev rm_J2_append_3 : Room := { frames := 7, cells := 1, slots := 576, locals := 161 }
def f_J2_append_3 (K : Nat → Option Nat) (a0 : Option Nat) (a1 : Option Nat) (h : zw_H) (Q : Option Nat → zw_H → Prop) (X : String → Nat → zw_H → Prop) : Prop :=
  if a1 ≠ none then
    oc_ h a1 [11, 17] (f_J4_length K a1 h (fun v1 h1 =>
    og_I h1 a0 [10] 3 (fun v2 =>
    oc_ h1 a0 [10] (f_J2_ensureCapacityInternal K a0 (v2 + v1) h1 (fun h2 =>
    og_I h2 a0 [10] 3 (fun v3 =>
    oc_ h2 a0 [10] (f_J2_putStringAt K a0 v3 a1 h2 (fun h3 =>
    og_I h3 a0 [10] 3 (fun v4 =>
    op_V h3 a0 [10] 3 (.int (v4 + v1)) (fun h4 =>
    Q a0 h4))) X))) X))) X)
  else
    False
abbrev rm_J3_append_3 : Room := { frames := 8, cells := 1, slots := 576, locals := 183 }
def f_J3_append_3 (K : Nat → Option Nat) (a0 : Option Nat) (a1 : Option Nat) (h : zw_H) (Q : Option Nat → zw_H → Prop) (X : String → Nat → zw_H → Prop) : Prop :=
  oc_ h a0 [10] (f_J2_append_3 K a0 a1 h (fun v1 h1 =>
  Q a0 h1) X)
abbrev rm_J6_init : Room := { frames := 1, cells := 0, slots := 0, locals := 20 }
def f_J6_init (K : Nat → Option Nat) (a0 : Option Nat) (a1 : Option Nat) (h : zw_H) (Q : zw_H → Prop) (X : String → Nat → zw_H → Prop) : Prop :=
  False
abbrev rm_J7_init : Room := { frames := 2, cells := 0, slots := 0, locals := 41 }
def f_J7_init (K : Nat → Option Nat) (a0 : Option Nat) (a1 : Option Nat) (h : zw_H) (Q : zw_H → Prop) (X : String → Nat → zw_H → Prop) : Prop :=
  (a0 ≠ none ∧ f_J6_init K a0 a1 h (fun h1 =>
  Q h1) X)
abbrev rm_J8_init : Room := { frames := 3, cells := 0, slots := 0, locals := 62 }
def f_J8_init (K : Nat → Option Nat) (a0 : Option Nat) (a1 : Option Nat) (h : zw_H) (Q : zw_H → Prop) (X : String → Nat → zw_H → Prop) : Prop :=
  (a0 ≠ none ∧ f_J7_init K a0 a1 h (fun h1 =>
  Q h1) X)
abbrev rm_J18_init : Room := { frames := 4, cells := 0, slots := 0, locals := 83 }
def f_J18_init (K : Nat → Option Nat) (a0 : Option Nat) (a1 : Option Nat) (h : zw_H) (Q : zw_H → Prop) (X : String → Nat → zw_H → Prop) : Prop :=
  (a0 ≠ none ∧ f_J8_init K a0 a1 h (fun h1 =>
  Q h1) X)
abbrev rm_J15_checkLength : Room := { frames := 9, cells := 0, slots := 0, locals := 204 }
def f_J15_checkLength (K : Nat → Option Nat) (a0 : Int32) (a1 : Int32) (h : zw_H) (Q : zw_H → Prop) (X : String → Nat → zw_H → Prop) : Prop :=
  if a0 ≤ a1 then
    Q h
  else
    False
abbrev rm_J15_copyOfRangeByte : Room := { frames := 10, cells := 1, slots := 16, locals := 225 }
def f_J15_copyOfRangeByte (K : Nat → Option Nat) (a0 : Option Nat) (a1 : Int32) (a2 : Int32) (h : zw_H) (Q : Option Nat → zw_H → Prop) (X : String → Nat → zw_H → Prop) : Prop :=
  (f_J15_checkLength K a1 a2 h (fun h1 =>
  olet (a2 - a1 : Int32) (fun v1 =>
  on_I h1 1 v1 16 (fun v2 h2 =>
  ol_ h2 a0 (fun v3 =>
  (f_J14_min K (v3 - a1) v1 h2 (fun v4 h3 =>
  ocp_B h3 a0 a1 (some v2) 0 v4 (fun h4 =>
  Q (some v2) h4)) X))))) X)
abbrev rm_J15_copyOfRange : Room := { frames := 11, cells := 1, slots := 16, locals := 249 }
def f_J15_copyOfRange_J10 (K : Nat → Option Nat) (Q : Option Nat → zw_H → Prop) (X : String → Nat → zw_H → Prop)  (l0 : Option Nat) (l1 : Int32) (l2 : Int32)  (h : zw_H) : Prop :=
  (f_J15_copyOfRangeByte K l0 l1 l2 h (fun v1 h1 =>
  Q v1 h1) X)
def f_J15_copyOfRange (K : Nat → Option Nat) (a0 : Option Nat) (a1 : Int32) (a2 : Int32) (h : zw_H) (Q : Option Nat → zw_H → Prop) (X : String → Nat → zw_H → Prop) : Prop :=
  if a1 ≠ 0 then
    f_J15_copyOfRange_J10 K Q X  a0 a1 a2  h
  else
    ol_ h a0 (fun v2 =>
    if a2 = v2 then
      False
    else
      f_J15_copyOfRange_J10 K Q X  a0 a1 a2  h)
abbrev rm_J5_coderFromArrayLen : Room := { frames := 0, cells := 0, slots := 0, locals := 0 }
def f_J5_coderFromArrayLen (K : Nat → Option Nat) (a0 : Option Nat) (a1 : Int32) (h : zw_H) (Q : Int32 → zw_H → Prop) (X : String → Nat → zw_H → Prop) : Prop :=
  ol_ h a0 (fun v1 =>
  (narrow .byte (.int ((((a1 - v1).toUInt32 >>> ((31 : Int32).toUInt32 &&& Int32.toUInt32 31)).toInt32).toInt8.toInt32)) = .int ((((a1 - v1).toUInt32 >>> ((31 : Int32).toUInt32 &&& Int32.toUInt32 31)).toInt32).toInt8.toInt32) ∧ Q ((((a1 - v1).toUInt32 >>> ((31 : Int32).toUInt32 &&& Int32.toUInt32 31)).toInt32).toInt8.toInt32) h))
abbrev rm_J4_init_2 : Room := { frames := 12, cells := 1, slots := 16, locals := 271 }
def f_J4_init_2_J79 (K : Nat → Option Nat) (Q : zw_H → Prop) (X : String → Nat → zw_H → Prop)  (l0 : Option Nat) (l3 : Option Nat) (l4 : Int32)  (h : zw_H) : Prop :=
  op_V h l0 [11] 1 (.int 1) (fun h4 =>
  (f_J15_copyOfRange K l3 0 (l4 <<< (1 &&& 31)) h4 (fun v4 h5 =>
  op_V h5 l0 [11] 0 (va_rf v4) (fun h6 =>
  Q h6)) X))
def f_J4_init_2 (K : Nat → Option Nat) (a0 : Option Nat) (a1 : Option Nat) (a2 : Option Nat) (h : zw_H) (Q : zw_H → Prop) (X : String → Nat → zw_H → Prop) : Prop :=
  (a0 ≠ none ∧ 
  oc_ h a1 [10] (f_J2_getValue K a1 h (fun v1 h1 =>
  oc_ h1 a1 [10] (f_J3_length K a1 h1 (fun v2 h2 =>
  oc_ h2 a1 [10] (f_J2_isLatin1 K a1 h2 (fun v3 h3 =>
  if v3 = 0 then
    if (1 : Int32) = 0 then
      f_J4_init_2_J79 K Q X  a0 v1 v2  h3
    else
      og_I h3 a1 [10] 2 (fun v5 =>
      if v5 = 0 then
        f_J4_init_2_J79 K Q X  a0 v1 v2  h3
      else
        False)
  else
    op_V h3 a0 [11] 1 (.int 0) (fun h7 =>
    (f_J15_copyOfRange K v1 0 v2 h7 (fun v6 h8 =>
    op_V h8 a0 [11] 0 (va_rf v6) (fun h9 =>
    Q h9)) X))) X)) X)) X))
abbrev rm_J4_init : Room := { frames := 13, cells := 1, slots := 16, locals := 295 }
def f_J4_init (K : Nat → Option Nat) (a0 : Option Nat) (a1 : Option Nat) (h : zw_H) (Q : zw_H → Prop) (X : String → Nat → zw_H → Prop) : Prop :=
  (a0 ≠ none ∧ f_J4_init_2 K a0 a1 none h (fun h1 =>
  Q h1) X)
abbrev rm_J3_toString : Room := { frames := 14, cells := 2, slots := 20, locals := 316 }
def f_J3_toString (K : Nat → Option Nat) (a0 : Option Nat) (h : zw_H) (Q : Option Nat → zw_H → Prop) (X : String → Nat → zw_H → Prop) : Prop :=
  on_C h (.inr (11, [.null, .int 0, .int 0, .int 0])) (fun v1 h1 =>
  (f_J4_init K (some v1) a0 h1 (fun h2 =>
  Q (some v1) h2) X))
abbrev rm_X3_letters : Room := { frames := 15, cells := 4, slots := 40, locals := 336 }
def f_X3_letters_B11 (K : Nat → Option Nat) (Q : Option Nat → zw_H → Prop) (X : String → Nat → zw_H → Prop)  (k35 : zw_H → Prop) (l0 : Option Nat) (l2 : Int32) (l3 : Option Nat) (R : Int32 → zw_H → Prop) (l4 : Int32) (h : zw_H) : Prop :=
  if l2 ≤ l4 then
    k35  h
  else
    oc_ h l0 [3] (f_X3_at K l0 l4 h (fun v2 h3 =>
    oc_ h3 l3 [10] (f_J3_appendn K l3 ((v2.toUInt32 % 65536).toInt32) h3 (fun v3 h4 =>
    olet (l4 + 1) (fun v4 =>
    R v4 h4)) X)) X)
def f_X3_letters (K : Nat → Option Nat) (a0 : Option Nat) (a1 : Int32) (a2 : Int32) (h : zw_H) (Q : Option Nat → zw_H → Prop) (X : String → Nat → zw_H → Prop) : Prop :=
  on_C h (.inr (10, [.null, .int 0, .int 0, .int 0])) (fun v1 h1 =>
  (f_J3_init K (some v1) h1 (fun h2 =>
  zl2 (f_X3_letters_B11 K Q X (fun h5 =>
    oc_ h5 (some v1) [10] (f_J3_toString K (some v1) h5 (fun v5 h6 =>
    Q v5 h6) X)) a0 a2 (some v1)) zfu a1 h2) X))
abbrev rm_X3_step : Room := { frames := 16, cells := 4, slots := 40, locals := 360 }
def f_X3_step_J265 (K : Nat → Option Nat) (Q : zw_H → Prop) (X : String → Nat → zw_H → Prop)  (l0 : Option Nat) (s0 : Int32) (s1 : Option Nat) (h : zw_H) : Prop :=
  op_V h s1 [3] 4 (.int s0) (fun h7 =>
  og_I h7 l0 [3] 2 (fun v8 =>
  op_V h7 l0 [3] 2 (.int (v8 + 1)) (fun h8 =>
  Q h8)))
def f_X3_step_B208 (K : Nat → Option Nat) (Q : zw_H → Prop) (X : String → Nat → zw_H → Prop)  (k250 : zw_H → Prop) (l0 : Option Nat) (R : Int32 → zw_H → Prop) (l2 : Int32) (h : zw_H) : Prop :=
  og_I h l0 [3] 2 (fun v14 =>
  if v14 ≤ l2 then
    k250  h
  else
    og_I h l0 [3] 4 (fun v15 =>
    if v15 ≠ 1 then
      k250  h
    else
      og_I h l0 [3] 5 (fun v16 =>
      oc_ h l0 [3] (f_X3_at K l0 l2 h (fun v17 h13 =>
      op_V h13 l0 [3] 5 (.int ((((10 : Int32) * v16) + v17) - 48)) (fun h14 =>
      olet (l2 + 1) (fun v18 =>
      R v18 h14))) X))))
def f_X3_step_J195 (K : Nat → Option Nat) (Q : zw_H → Prop) (X : String → Nat → zw_H → Prop)  (l0 : Option Nat) (s0 : Int32) (s1 : Option Nat) (h : zw_H) : Prop :=
  op_V h s1 [3] 4 (.int s0) (fun h11 =>
  op_V h11 l0 [3] 5 (.int 0) (fun h12 =>
  og_I h12 l0 [3] 3 (fun v13 =>
  zl2 (f_X3_step_B208 K Q X (fun h15 =>
    Q h15) l0) zfu v13 h12)))
def f_X3_step_J112 (K : Nat → Option Nat) (Q : zw_H → Prop) (X : String → Nat → zw_H → Prop)  (l0 : Option Nat) (s0 : Int32) (s1 : Option Nat) (h : zw_H) : Prop :=
  op_V h s1 [3] 4 (.int s0) (fun h18 =>
  og_I h18 l0 [3] 4 (fun v23 =>
  if v23 ≠ 0 then
    op_V h18 l0 [3] 6 (va_rf (K 23)) (fun h19 =>
    Q h19)
  else
    og_I h18 l0 [3] 3 (fun v24 =>
    og_I h18 l0 [3] 2 (fun v25 =>
    oc_ h18 l0 [3] (f_X3_letters K l0 v24 v25 h18 (fun v26 h20 =>
    op_V h20 l0 [3] 6 (va_rf v26) (fun h21 =>
    Q h21)) X)))))
def f_X3_step_B0 (K : Nat → Option Nat) (Q : zw_H → Prop) (X : String → Nat → zw_H → Prop)  (k26 : zw_H → Prop) (l0 : Option Nat) (R : zw_H → Prop)  (h : zw_H) : Prop :=
  og_I h l0 [3] 2 (fun v28 =>
  oc_ h l0 [3] (f_X3_at K l0 v28 h (fun v29 h24 =>
  if v29 ≠ 32 then
    k26  h24
  else
    og_I h24 l0 [3] 2 (fun v30 =>
    op_V h24 l0 [3] 2 (.int (v30 + 1)) (fun h25 =>
    R  h25))) X))
def f_X3_step (K : Nat → Option Nat) (a0 : Option Nat) (h : zw_H) (Q : zw_H → Prop) (X : String → Nat → zw_H → Prop) : Prop :=
  og_I h a0 [3] 2 (fun v1 =>
  oc_ h a0 [3] (f_X3_at K a0 v1 h (fun v2 h1 =>
  if v2 ≠ 32 then
    og_I h1 a0 [3] 2 (fun v3 =>
    op_V h1 a0 [3] 3 (.int v3) (fun h2 =>
    op_V h2 a0 [3] 6 (va_rf (K 23)) (fun h3 =>
    og_I h3 a0 [3] 3 (fun v4 =>
    oc_ h3 a0 [3] (f_X3_at K a0 v4 h3 (fun v5 h4 =>
    if v5 ≠ (-1) then
      (f_X1_in K v5.toInt64 (97 : Int64) (122 : Int64) h4 (fun v6 h5 =>
      if v6 = 0 then
        (f_X1_in K v5.toInt64 (48 : Int64) (57 : Int64) h5 (fun v7 h6 =>
        if v7 = 0 then
          if v5 ≠ 59 then
            f_X3_step_J265 K Q X  a0 4 a0 h6
          else
            f_X3_step_J265 K Q X  a0 2 a0 h6
        else
          og_I h6 a0 [3] 3 (fun v9 =>
          oc_ h6 a0 [3] (f_X3_run K a0 v9 48 57 h6 (fun v10 h9 =>
          op_V h9 a0 [3] 2 (.int v10) (fun h10 =>
          og_I h10 a0 [3] 2 (fun v11 =>
          og_I h10 a0 [3] 3 (fun v12 =>
          if (3 : Int32) < (v11 - v12) then
            f_X3_step_J195 K Q X  a0 4 a0 h10
          else
            f_X3_step_J195 K Q X  a0 1 a0 h10)))) X))) X)
      else
        og_I h5 a0 [3] 3 (fun v19 =>
        oc_ h5 a0 [3] (f_X3_run K a0 v19 97 122 h5 (fun v20 h16 =>
        op_V h16 a0 [3] 2 (.int v20) (fun h17 =>
        og_I h17 a0 [3] 2 (fun v21 =>
        og_I h17 a0 [3] 3 (fun v22 =>
        if (6 : Int32) < (v21 - v22) then
          f_X3_step_J112 K Q X  a0 4 a0 h17
        else
          f_X3_step_J112 K Q X  a0 0 a0 h17)))) X))) X)
    else
      op_V h4 a0 [3] 4 (.int 3) (fun h22 =>
      Q h22)) X)))))
  else
    og_I h1 a0 [3] 2 (fun v27 =>
    op_V h1 a0 [3] 2 (.int (v27 + 1)) (fun h23 =>
    zl1 (f_X3_step_B0 K Q X (fun h26 =>
      og_I h26 a0 [3] 2 (fun v31 =>
      op_V h26 a0 [3] 3 (.int v31) (fun h27 =>
      op_V h27 a0 [3] 6 (va_rf (K 23)) (fun h28 =>
      og_I h28 a0 [3] 3 (fun v32 =>
      oc_ h28 a0 [3] (f_X3_at K a0 v32 h28 (fun v33 h29 =>
      if v33 ≠ (-1) then
        (f_X1_in K v33.toInt64 (97 : Int64) (122 : Int64) h29 (fun v34 h30 =>
        if v34 = 0 then
          (f_X1_in K v33.toInt64 (48 : Int64) (57 : Int64) h30 (fun v35 h31 =>
          if v35 = 0 then
            if v33 ≠ 59 then
              f_X3_step_J265 K Q X  a0 4 a0 h31
            else
              f_X3_step_J265 K Q X  a0 2 a0 h31
          else
            og_I h31 a0 [3] 3 (fun v36 =>
            oc_ h31 a0 [3] (f_X3_run K a0 v36 48 57 h31 (fun v37 h32 =>
            op_V h32 a0 [3] 2 (.int v37) (fun h33 =>
            og_I h33 a0 [3] 2 (fun v38 =>
            og_I h33 a0 [3] 3 (fun v39 =>
            if (3 : Int32) < (v38 - v39) then
              f_X3_step_J195 K Q X  a0 4 a0 h33
            else
              f_X3_step_J195 K Q X  a0 1 a0 h33)))) X))) X)
        else
          og_I h30 a0 [3] 3 (fun v40 =>
          oc_ h30 a0 [3] (f_X3_run K a0 v40 97 122 h30 (fun v41 h34 =>
          op_V h34 a0 [3] 2 (.int v41) (fun h35 =>
          og_I h35 a0 [3] 2 (fun v42 =>
          og_I h35 a0 [3] 3 (fun v43 =>
          if (6 : Int32) < (v42 - v43) then
            f_X3_step_J112 K Q X  a0 4 a0 h35
          else
            f_X3_step_J112 K Q X  a0 0 a0 h35)))) X))) X)
      else
        op_V h29 a0 [3] 4 (.int 3) (fun h36 =>
        Q h36)) X)))))) a0) zfu  h23))) X))
abbrev rm_X3_init : Room := { frames := 17, cells := 247, slots := 1297, locals := 382 }
def f_X3_init (K : Nat → Option Nat) (a0 : Option Nat) (a1 : Option Nat) (a2 : Int32) (h : zw_H) (Q : zw_H → Prop) (X : String → Nat → zw_H → Prop) : Prop :=
  op_V h a0 [3] 7 (va_rf a1) (fun h1 =>
  (a0 ≠ none ∧ 
  on_C h1 (.inr (2, [.null, .null, .int 0, .int 0, .int 0, .int 0, .int 0, .null, .null, .int 0])) (fun v1 h2 =>
  (f_X4_init K (some v1) h2 (fun h3 =>
  op_V h3 a0 [3] 0 (va_rf (some v1)) (fun h4 =>
  op_V h4 a0 [3] 6 (va_rf (K 23)) (fun h5 =>
  op_V h5 a0 [3] 1 (.int a2) (fun h6 =>
  oc_ h6 a0 [3] (f_X3_step K a0 h6 (fun h7 =>
  Q h7) X))))) X))))
abbrev rm_J16_equals : Room := { frames := 0, cells := 0, slots := 0, locals := 0 }
def f_J16_equals_B9 (K : Nat → Option Nat) (Q : Int32 → zw_H → Prop) (X : String → Nat → zw_H → Prop)  (k24 : zw_H → Prop) (k32 : zw_H → Prop) (l0 : Option Nat) (l1 : Option Nat) (R : Int32 → zw_H → Prop) (l2 : Int32) (h : zw_H) : Prop :=
  ol_ h l0 (fun v3 =>
  if v3 ≤ l2 then
    k32  h
  else
    oa_I h l0 [1, 10] l2 (fun v4 =>
    oa_I h l1 [1, 10] l2 (fun v5 =>
    if v4 = v5 then
      olet (l2 + 1) (fun v6 =>
      R v6 h)
    else
      k24  h)))
def f_J16_equals (K : Nat → Option Nat) (a0 : Option Nat) (a1 : Option Nat) (h : zw_H) (Q : Int32 → zw_H → Prop) (X : String → Nat → zw_H → Prop) : Prop :=
  ol_ h a0 (fun v1 =>
  ol_ h a1 (fun v2 =>
  if v1 ≠ v2 then
    Q 0 h
  else
    zl2 (f_J16_equals_B9 K Q X (fun h1 =>
      Q 0 h1) (fun h2 =>
      Q 1 h2) a0 a1) zfu 0 h))
abbrev rm_J4_equals : Room := { frames := 1, cells := 0, slots := 0, locals := 22 }
def f_J4_equals_J36 (K : Nat → Option Nat) (Q : Int32 → zw_H → Prop) (X : String → Nat → zw_H → Prop)  (l0 : Option Nat) (l2 : Option Nat)  (h : zw_H) : Prop :=
  og_A h l0 [11, 17] 0 (fun v2 =>
  og_A h l2 [11, 17] 0 (fun v3 =>
  (f_J16_equals K v2 v3 h (fun v4 h1 =>
  if v4 = 0 then
    Q 0 h1
  else
    Q 1 h1) X)))
def f_J4_equals (K : Nat → Option Nat) (a0 : Option Nat) (a1 : Option Nat) (h : zw_H) (Q : Int32 → zw_H → Prop) (X : String → Nat → zw_H → Prop) : Prop :=
  if a0 ≠ a1 then
    oi_ h a1 [11, 17] (fun v1 =>
    if v1 = 0 then
      Q 0 h
    else
      on_ h a1 [11, 17] (
      if (1 : Int32) = 0 then
        f_J4_equals_J36 K Q X  a0 a1  h
      else
        og_I h a0 [11, 17] 1 (fun v5 =>
        og_I h a1 [11, 17] 1 (fun v6 =>
        if v5 ≠ v6 then
          Q 0 h
        else
          f_J4_equals_J36 K Q X  a0 a1  h))))
  else
    Q 1 h
abbrev rm_J6_init_3 : Room := { frames := 1, cells := 0, slots := 0, locals := 20 }
def f_J6_init_3_J41 (K : Nat → Option Nat) (Q : zw_H → Prop) (X : String → Nat → zw_H → Prop)  (l0 : Option Nat) (l1 : Option Nat) (l2 : Option Nat) (l3 : Int32)  (h : zw_H) : Prop :=
  op_V h l0 [5] 3 (va_rf l1) (fun h5 =>
  op_V h5 l0 [5] 0 (va_rf l2) (fun h6 =>
  if l3 ≠ 0 then
    Q h6
  else
    op_V h6 l0 [5] 2 (va_rf none) (fun h7 =>
    Q h7)))
def f_J6_init_3 (K : Nat → Option Nat) (a0 : Option Nat) (a1 : Option Nat) (a2 : Option Nat) (a3 : Int32) (a4 : Int32) (h : zw_H) (Q : zw_H → Prop) (X : String → Nat → zw_H → Prop) : Prop :=
  (a0 ≠ none ∧ 
  op_V h a0 [5] 0 (va_rf a0) (fun h1 =>
  op_V h1 a0 [5] 1 (va_rf (K 0)) (fun h2 =>
  op_V h2 a0 [5] 2 (va_rf (K 1)) (fun h3 =>
  if a4 = 0 then
    op_V h3 a0 [5] 1 (va_rf none) (fun h4 =>
    f_J6_init_3_J41 K Q X  a0 a1 a2 a3  h4)
  else
    False))))
abbrev rm_J7_init_3 : Room := { frames := 2, cells := 0, slots := 0, locals := 44 }
def f_J7_init_3 (K : Nat → Option Nat) (a0 : Option Nat) (a1 : Option Nat) (a2 : Option Nat) (a3 : Int32) (a4 : Int32) (h : zw_H) (Q : zw_H → Prop) (X : String → Nat → zw_H → Prop) : Prop :=
  (a0 ≠ none ∧ f_J6_init_3 K a0 a1 a2 a3 a4 h (fun h1 =>
  Q h1) X)
abbrev rm_X6_init : Room := { frames := 3, cells := 0, slots := 0, locals := 68 }
def f_X6_init (K : Nat → Option Nat) (a0 : Option Nat) (a1 : Int32) (a2 : Int32) (h : zw_H) (Q : zw_H → Prop) (X : String → Nat → zw_H → Prop) : Prop :=
  (a0 ≠ none ∧ f_J7_init_3 K a0 none none 0 0 h (fun h1 =>
  op_V h1 a0 [5] 6 (.int a1) (fun h2 =>
  op_V h2 a0 [5] 7 (.int a2) (fun h3 =>
  Q h3))) X)
abbrev rm_X3_check : Room := { frames := 4, cells := 1, slots := 8, locals := 90 }
def f_X3_check (K : Nat → Option Nat) (a0 : Option Nat) (a1 : Int32) (a2 : Int32) (h : zw_H) (Q : zw_H → Prop) (X : String → Nat → zw_H → Prop) : Prop :=
  if a1 ≠ 0 then
    Q h
  else
    on_C h (.inr (5, [.null, .null, .null, .null, .null, .int 0, .int 0, .int 0])) (fun v1 h1 =>
    og_I h1 a0 [3] 3 (fun v2 =>
    (f_X6_init K (some v1) a2 v2 h1 (fun h2 =>
    oth_ h2 (some v1) 5 (fun v3 => X "MultipoleLine$Flaw" v3 h2)) X)))
abbrev rm_X4_low : Room := { frames := 0, cells := 0, slots := 0, locals := 0 }
def f_X4_low (K : Nat → Option Nat) (a0 : Int32) (h : zw_H) (Q : Int32 → zw_H → Prop) (X : String → Nat → zw_H → Prop) : Prop :=
  if a0 ≠ 3 then
    Q 0 h
  else
    Q 2 h
abbrev rm_X4_high : Room := { frames := 0, cells := 0, slots := 0, locals := 0 }
def f_X4_high (K : Nat → Option Nat) (a0 : Int32) (h : zw_H) (Q : Int32 → zw_H → Prop) (X : String → Nat → zw_H → Prop) : Prop :=
  if a0 ≠ 3 then
    if a0 ≠ 4 then
      Q 999 h
    else
      Q 4 h
  else
    Q 5 h
abbrev rm_X3_looks : Room := { frames := 5, cells := 2, slots := 16, locals := 112 }
def f_X3_looks_J14 (K : Nat → Option Nat) (Q : Int32 → zw_H → Prop) (X : String → Nat → zw_H → Prop)  (l0 : Option Nat) (l1 : Int32) (l2 : Int32) (s0 : Int32) (s1 : Option Nat) (h : zw_H) : Prop :=
  oc_ h s1 [3] (f_X3_check K s1 s0 1 h (fun h1 =>
  og_I h1 l0 [3] 5 (fun v2 =>
  (f_X1_in K v2.toInt64 l1.toInt64 l2.toInt64 h1 (fun v3 h2 =>
  oc_ h2 l0 [3] (f_X3_check K l0 v3 2 h2 (fun h3 =>
  og_I h3 l0 [3] 5 (fun v4 =>
  Q v4 h3)) X)) X))) X)
def f_X3_looks (K : Nat → Option Nat) (a0 : Option Nat) (a1 : Int32) (a2 : Int32) (h : zw_H) (Q : Int32 → zw_H → Prop) (X : String → Nat → zw_H → Prop) : Prop :=
  og_I h a0 [3] 4 (fun v1 =>
  if v1 ≠ 1 then
    f_X3_looks_J14 K Q X  a0 a1 a2 0 a0 h
  else
    f_X3_looks_J14 K Q X  a0 a1 a2 1 a0 h)
abbrev rm_X3_number : Room := { frames := 17, cells := 6, slots := 56, locals := 382 }
def f_X3_number (K : Nat → Option Nat) (a0 : Option Nat) (a1 : Int32) (a2 : Int32) (h : zw_H) (Q : Int32 → zw_H → Prop) (X : String → Nat → zw_H → Prop) : Prop :=
  oc_ h a0 [3] (f_X3_looks K a0 a1 a2 h (fun v1 h1 =>
  oc_ h1 a0 [3] (f_X3_step K a0 h1 (fun h2 =>
  Q v1 h2) X)) X)
abbrev rm_X4_sets : Room := { frames := 0, cells := 0, slots := 0, locals := 0 }
def f_X4_sets (K : Nat → Option Nat) (a0 : Option Nat) (a1 : Int32) (a2 : Int32) (h : zw_H) (Q : zw_H → Prop) (X : String → Nat → zw_H → Prop) : Prop :=
  if a1 = 3 then
    op_V h a0 [2] 2 (.int a2) (fun h1 =>
    Q h1)
  else if a1 = 4 then
    op_V h a0 [2] 3 (.int a2) (fun h2 =>
    Q h2)
  else (Op.lookupswitch.offset [(3, 27), (4, 35)] 43 a1.toInt = 43 ∧
    op_V h a0 [2] 4 (.int a2) (fun h3 =>
    Q h3))
abbrev rm_J12_size : Room := { frames := 0, cells := 0, slots := 0, locals := 0 }
def f_J12_size (K : Nat → Option Nat) (a0 : Option Nat) (h : zw_H) (Q : Int32 → zw_H → Prop) (X : String → Nat → zw_H → Prop) : Prop :=
  og_I h a0 [9] 2 (fun v1 =>
  Q v1 h)
abbrev rm_X4_size : Room := { frames := 1, cells := 0, slots := 0, locals := 20 }
def f_X4_size (K : Nat → Option Nat) (a0 : Option Nat) (h : zw_H) (Q : Int32 → zw_H → Prop) (X : String → Nat → zw_H → Prop) : Prop :=
  og_A h a0 [2] 0 (fun v1 =>
  oc_ h v1 [9] (f_J12_size K v1 h (fun v2 h1 =>
  Q v2 h1) X))
abbrev rm_J21_checkIndex : Room := { frames := 1, cells := 0, slots := 0, locals := 22 }
def f_J21_checkIndex (K : Nat → Option Nat) (a0 : Int32) (a1 : Int32) (h : zw_H) (Q : Int32 → zw_H → Prop) (X : String → Nat → zw_H → Prop) : Prop :=
  (f_J17_checkIndex K a0 a1 none h (fun v1 h1 =>
  Q v1 h1) X)
abbrev rm_J12_elementData : Room := { frames := 0, cells := 0, slots := 0, locals := 0 }
def f_J12_elementData (K : Nat → Option Nat) (a0 : Option Nat) (a1 : Int32) (h : zw_H) (Q : Option Nat → zw_H → Prop) (X : String → Nat → zw_H → Prop) : Prop :=
  og_A h a0 [9] 1 (fun v1 =>
  oa_A h v1 [5, 12] a1 (fun v2 =>
  Q v2 h))
abbrev rm_J12_get : Room := { frames := 2, cells := 0, slots := 0, locals := 43 }
def f_J12_get (K : Nat → Option Nat) (a0 : Option Nat) (a1 : Int32) (h : zw_H) (Q : Option Nat → zw_H → Prop) (X : String → Nat → zw_H → Prop) : Prop :=
  og_I h a0 [9] 2 (fun v1 =>
  (f_J21_checkIndex K a1 v1 h (fun v2 h1 =>
  oc_ h1 a0 [9] (f_J12_elementData K a0 a1 h1 (fun v3 h2 =>
  Q v3 h2) X)) X))
abbrev rm_X4_at : Room := { frames := 3, cells := 0, slots := 0, locals := 64 }
def f_X4_at (K : Nat → Option Nat) (a0 : Option Nat) (a1 : Int32) (h : zw_H) (Q : Option Nat → zw_H → Prop) (X : String → Nat → zw_H → Prop) : Prop :=
  og_A h a0 [2] 0 (fun v1 =>
  oc_ h v1 [9] (f_J12_get K v1 a1 h (fun v2 h1 =>
  on_ h1 v2 [6, 7] (
  Q v2 h1)) X))
abbrev rm_X4_hasFixed : Room := { frames := 4, cells := 0, slots := 0, locals := 85 }
def f_X4_hasFixed_J44 (K : Nat → Option Nat) (Q : Int32 → zw_H → Prop) (X : String → Nat → zw_H → Prop) (R : Int32 → Int32 → zw_H → Prop) (k51 : Int32 → zw_H → Prop) (l0 : Option Nat) (l1 : Int32) (l3 : Int32) (s0 : Int32) (h : zw_H) : Prop :=
  olet (l3 + 1) (fun v2 =>
  R s0 v2 h)
def f_X4_hasFixed_J39 (K : Nat → Option Nat) (Q : Int32 → zw_H → Prop) (X : String → Nat → zw_H → Prop) (R : Int32 → Int32 → zw_H → Prop) (k51 : Int32 → zw_H → Prop) (l0 : Option Nat) (l1 : Int32) (l3 : Int32)  (h : zw_H) : Prop :=
  f_X4_hasFixed_J44 K Q X R k51 l0 l1 l3 1 h
def f_X4_hasFixed_J43 (K : Nat → Option Nat) (Q : Int32 → zw_H → Prop) (X : String → Nat → zw_H → Prop) (R : Int32 → Int32 → zw_H → Prop) (k51 : Int32 → zw_H → Prop) (l0 : Option Nat) (l1 : Int32) (l3 : Int32)  (h : zw_H) : Prop :=
  f_X4_hasFixed_J44 K Q X R k51 l0 l1 l3 0 h
def f_X4_hasFixed_B4 (K : Nat → Option Nat) (Q : Int32 → zw_H → Prop) (X : String → Nat → zw_H → Prop)  (k51 : Int32 → zw_H → Prop) (l0 : Option Nat) (l1 : Int32) (R : Int32 → Int32 → zw_H → Prop) (l2 : Int32) (l3 : Int32) (h : zw_H) : Prop :=
  oc_ h l0 [2] (f_X4_size K l0 h (fun v1 h1 =>
  if v1 ≤ l3 then
    k51 l2 h1
  else
    if l2 ≠ 0 then
      f_X4_hasFixed_J39 K Q X R k51 l0 l1 l3  h1
    else
      oc_ h1 l0 [2] (f_X4_at K l0 l3 h1 (fun v3 h2 =>
      og_I h2 v3 [6, 7] 0 (fun v4 =>
      if v4 ≠ l1 then
        f_X4_hasFixed_J43 K Q X R k51 l0 l1 l3  h2
      else
        oc_ h2 l0 [2] (f_X4_at K l0 l3 h2 (fun v5 h3 =>
        og_I h3 v5 [6, 7] 3 (fun v6 =>
        if v6 ≠ 0 then
          f_X4_hasFixed_J43 K Q X R k51 l0 l1 l3  h3
        else
          f_X4_hasFixed_J39 K Q X R k51 l0 l1 l3  h3)) X))) X)) X)
def f_X4_hasFixed (K : Nat → Option Nat) (a0 : Option Nat) (a1 : Int32) (h : zw_H) (Q : Int32 → zw_H → Prop) (X : String → Nat → zw_H → Prop) : Prop :=
  zl3 (f_X4_hasFixed_B4 K Q X (fun v7 h4 =>
    ((v7 = 0 ∨ v7 = 1) ∧ Q v7 h4)) a0 a1) zfu 0 0 h
abbrev rm_X7_init : Room := { frames := 1, cells := 0, slots := 0, locals := 20 }
def f_X7_init (K : Nat → Option Nat) (a0 : Option Nat) (h : zw_H) (Q : zw_H → Prop) (X : String → Nat → zw_H → Prop) : Prop :=
  (a0 ≠ none ∧ 
  Q h)
abbrev rm_X8_init : Room := { frames := 2, cells := 0, slots := 0, locals := 40 }
def f_X8_init (K : Nat → Option Nat) (a0 : Option Nat) (h : zw_H) (Q : zw_H → Prop) (X : String → Nat → zw_H → Prop) : Prop :=
  (a0 ≠ none ∧ f_X7_init K a0 h (fun h1 =>
  Q h1) X)
abbrev rm_X9_init : Room := { frames := 2, cells := 0, slots := 0, locals := 40 }
def f_X9_init (K : Nat → Option Nat) (a0 : Option Nat) (h : zw_H) (Q : zw_H → Prop) (X : String → Nat → zw_H → Prop) : Prop :=
  (a0 ≠ none ∧ f_X7_init K a0 h (fun h1 =>
  Q h1) X)
abbrev rm_X1_isFree : Room := { frames := 7, cells := 3, slots := 30, locals := 10250 }
def f_X1_isFree (K : Nat → Option Nat) (a0 : Option Nat) (a1 : Option Nat) (h : zw_H) (Q : Int32 → zw_H → Prop) (X : String → Nat → zw_H → Prop) : Prop :=
  os_AW h a1 0 a0 (fun h1 =>
  Q 1 h1)
    (fun E9 q9 h9 =>
      if E9 = "java/lang/ArrayStoreException" then
        Q 0 h9
      else False)
abbrev rm_X1_body : Room := { frames := 8, cells := 5, slots := 35, locals := 10272 }
def f_X1_body_J21 (K : Nat → Option Nat) (Q : Option Nat → zw_H → Prop) (X : String → Nat → zw_H → Prop)   (s0 : Option Nat) (h : zw_H) : Prop :=
  on_A h 9 1 1 (fun v2 h3 =>
  (f_X1_isFree K s0 (some v2) h3 (fun v3 h4 =>
  ((narrow .boolean (.int v3) = .int v3 ∧ fits .boolean (.int v3) = true) ∧ 
  op_V h4 s0 [6, 7] 3 (.int v3) (fun h5 =>
  Q s0 h5))) X))
def f_X1_body (K : Nat → Option Nat) (a0 : Int32) (h : zw_H) (Q : Option Nat → zw_H → Prop) (X : String → Nat → zw_H → Prop) : Prop :=
  if a0 = 0 then
    on_C h (.inr (7, [.int 0, .int 0, .int 0, .int 0])) (fun v1 h1 =>
    (f_X9_init K (some v1) h1 (fun h2 =>
    f_X1_body_J21 K Q X   (some v1) h2) X))
  else
    on_C h (.inr (6, [.int 0, .int 0, .int 0, .int 0])) (fun v4 h6 =>
    (f_X8_init K (some v4) h6 (fun h7 =>
    f_X1_body_J21 K Q X   (some v4) h7) X))
abbrev rm_X7_be : Room := { frames := 0, cells := 0, slots := 0, locals := 0 }
def f_X7_be (K : Nat → Option Nat) (a0 : Option Nat) (a1 : Int32) (a2 : Int32) (a3 : Int32) (h : zw_H) (Q : Option Nat → zw_H → Prop) (X : String → Nat → zw_H → Prop) : Prop :=
  op_V h a0 [6, 7] 0 (.int a1) (fun h1 =>
  op_V h1 a0 [6, 7] 1 (.int a2) (fun h2 =>
  op_V h2 a0 [6, 7] 2 (.int a3) (fun h3 =>
  Q a0 h3)))
abbrev rm_J15_copyOf_3 : Room := { frames := 2, cells := 1, slots := 40, locals := 100 }
def f_J15_copyOf_3_J24 (K : Nat → Option Nat) (Q : Option Nat → zw_H → Prop) (X : String → Nat → zw_H → Prop)  (l0 : Option Nat) (l1 : Int32) (s0 : Option Nat) (h : zw_H) : Prop :=
  ol_ h l0 (fun v2 =>
  (f_J14_min K v2 l1 h (fun v3 h2 =>
  ocp_O h2 [0, 1, 2, 3, 4, 5, 6, 7, 8, 9, 10, 11, 12, 13, 14, 15, 16, 17, 18] l0 0 s0 0 v3 (fun h3 =>
  Q s0 h3)) X))
def f_J15_copyOf_3 (K : Nat → Option Nat) (a0 : Option Nat) (a1 : Int32) (a2 : Option Nat) (h : zw_H) (Q : Option Nat → zw_H → Prop) (X : String → Nat → zw_H → Prop) : Prop :=
  if a2 ≠ (K 7) then
    False
  else
    on_A h 5 a1 40 (fun v1 h1 =>
    f_J15_copyOf_3_J24 K Q X  a0 a1 (some v1) h1)
abbrev rm_J15_copyOf_2 : Room := { frames := 3, cells := 1, slots := 40, locals := 123 }
def f_J15_copyOf_2 (K : Nat → Option Nat) (a0 : Option Nat) (a1 : Int32) (h : zw_H) (Q : Option Nat → zw_H → Prop) (X : String → Nat → zw_H → Prop) : Prop :=
  ogc_ h a0 (
  (f_J15_copyOf_3 K a0 a1 (K 7) h (fun v1 h1 =>
  Q v1 h1) X))
abbrev rm_J12_grow_2 : Room := { frames := 4, cells := 1, slots := 40, locals := 144 }
def f_J12_grow_2_J20 (K : Nat → Option Nat) (Q : Option Nat → zw_H → Prop) (X : String → Nat → zw_H → Prop)  (l0 : Option Nat) (l1 : Int32) (l2 : Int32)  (h : zw_H) : Prop :=
  (f_J13_newLength K l2 (l1 - l2) (l2 >>> (1 &&& 31)) h (fun v3 h1 =>
  og_A h1 l0 [9] 1 (fun v4 =>
  (f_J15_copyOf_2 K v4 v3 h1 (fun v5 h2 =>
  op_V h2 l0 [9] 1 (va_rf v5) (fun h3 =>
  Q v5 h3)) X))) X)
def f_J12_grow_2 (K : Nat → Option Nat) (a0 : Option Nat) (a1 : Int32) (h : zw_H) (Q : Option Nat → zw_H → Prop) (X : String → Nat → zw_H → Prop) : Prop :=
  og_A h a0 [9] 1 (fun v1 =>
  ol_ h v1 (fun v2 =>
  if (0 : Int32) < v2 then
    f_J12_grow_2_J20 K Q X  a0 a1 v2  h
  else
    og_A h a0 [9] 1 (fun v6 =>
    if v6 = (K 2) then
      (f_J14_max K 10 a1 h (fun v7 h4 =>
      on_A h4 5 v7 40 (fun v8 h5 =>
      op_V h5 a0 [9] 1 (va_rf (some v8)) (fun h6 =>
      Q (some v8) h6))) X)
    else
      f_J12_grow_2_J20 K Q X  a0 a1 v2  h)))
abbrev rm_J12_grow : Room := { frames := 5, cells := 1, slots := 40, locals := 167 }
def f_J12_grow (K : Nat → Option Nat) (a0 : Option Nat) (h : zw_H) (Q : Option Nat → zw_H → Prop) (X : String → Nat → zw_H → Prop) : Prop :=
  og_I h a0 [9] 2 (fun v1 =>
  oc_ h a0 [9] (f_J12_grow_2 K a0 (v1 + 1) h (fun v2 h1 =>
  Q v2 h1) X))
abbrev rm_J12_add_2 : Room := { frames := 6, cells := 1, slots := 40, locals := 187 }
def f_J12_add_2_J11 (K : Nat → Option Nat) (Q : zw_H → Prop) (X : String → Nat → zw_H → Prop)  (l0 : Option Nat) (l1 : Option Nat) (l2 : Option Nat) (l3 : Int32)  (h : zw_H) : Prop :=
  os_A h l2 5 [0, 1, 2, 3, 4, 5, 6, 7, 8, 9, 10, 11, 12, 13, 14, 15, 16, 17, 18] [] l3 l1 (fun h1 =>
  op_V h1 l0 [9] 2 (.int (l3 + 1)) (fun h2 =>
  Q h2))
def f_J12_add_2 (K : Nat → Option Nat) (a0 : Option Nat) (a1 : Option Nat) (a2 : Option Nat) (a3 : Int32) (h : zw_H) (Q : zw_H → Prop) (X : String → Nat → zw_H → Prop) : Prop :=
  ol_ h a2 (fun v1 =>
  if a3 ≠ v1 then
    f_J12_add_2_J11 K Q X  a0 a1 a2 a3  h
  else
    oc_ h a0 [9] (f_J12_grow K a0 h (fun v2 h3 =>
    f_J12_add_2_J11 K Q X  a0 a1 v2 a3  h3) X))
abbrev rm_J12_add : Room := { frames := 7, cells := 1, slots := 40, locals := 210 }
def f_J12_add (K : Nat → Option Nat) (a0 : Option Nat) (a1 : Option Nat) (h : zw_H) (Q : Int32 → zw_H → Prop) (X : String → Nat → zw_H → Prop) : Prop :=
  og_I h a0 [9] 0 (fun v1 =>
  op_V h a0 [9] 0 (.int (v1 + 1)) (fun h1 =>
  og_A h1 a0 [9] 1 (fun v2 =>
  og_I h1 a0 [9] 2 (fun v3 =>
  oc_ h1 a0 [9] (f_J12_add_2 K a0 a1 v2 v3 h1 (fun h2 =>
  Q 1 h2) X)))))
abbrev rm_X3_line : Room := { frames := 18, cells := 29, slots := 291, locals := 10293 }
def f_X3_line_J151 (K : Nat → Option Nat) (Q : zw_H → Prop) (X : String → Nat → zw_H → Prop)   (s0 : Int32) (s1 : Int32) (s2 : Option Nat) (s3 : Option Nat) (h : zw_H) : Prop :=
  od_ h s2 [6] [7]
    (f_X7_be K s2 s1 s0 0 h (fun v12 h12 =>
      oc_ h12 s3 [9] (f_J12_add K s3 v12 h12 (fun v13 h13 =>
      Q h13) X)) X)
    (f_X7_be K s2 s1 s0 0 h (fun v12 h12 =>
      oc_ h12 s3 [9] (f_J12_add K s3 v12 h12 (fun v13 h13 =>
      Q h13) X)) X)
def f_X3_line_J118 (K : Nat → Option Nat) (Q : zw_H → Prop) (X : String → Nat → zw_H → Prop)  (l0 : Option Nat) (l1 : Int32) (l2 : Int32) (l3 : Int32)  (h : zw_H) : Prop :=
  oc_ h l0 [3] (f_X3_number K l0 1 99 h (fun v8 h10 =>
  og_A h10 l0 [3] 0 (fun v9 =>
  og_A h10 v9 [2] 0 (fun v10 =>
  (f_X1_body K l1 h10 (fun v11 h11 =>
  if l3 = 0 then
    f_X3_line_J151 K Q X   v8 l2 v11 v10 h11
  else
    f_X3_line_J151 K Q X   (-v8) l2 v11 v10 h11) X)))) X)
def f_X3_line_J92 (K : Nat → Option Nat) (Q : zw_H → Prop) (X : String → Nat → zw_H → Prop)  (l0 : Option Nat) (l1 : Int32) (l2 : Int32) (s0 : Int32) (s1 : Option Nat) (h : zw_H) : Prop :=
  oc_ h s1 [3] (f_X3_check K s1 s0 3 h (fun h7 =>
  oc_ h7 l0 [3] (f_X3_step K l0 h7 (fun h8 =>
  og_A h8 l0 [3] 6 (fun v6 =>
  oc_ h8 v6 [11, 17] (f_J4_equals K v6 (K 27) h8 (fun v7 h9 =>
  if v7 = 0 then
    f_X3_line_J118 K Q X  l0 l1 l2 v7  h9
  else
    oc_ h9 l0 [3] (f_X3_step K l0 h9 (fun h14 =>
    f_X3_line_J118 K Q X  l0 l1 l2 v7  h14) X)) X))) X)) X)
def f_X3_line_J87 (K : Nat → Option Nat) (Q : zw_H → Prop) (X : String → Nat → zw_H → Prop)  (l0 : Option Nat) (l1 : Int32) (l2 : Int32) (s0 : Option Nat) (h : zw_H) : Prop :=
  f_X3_line_J92 K Q X  l0 l1 l2 1 s0 h
def f_X3_line_J54 (K : Nat → Option Nat) (Q : zw_H → Prop) (X : String → Nat → zw_H → Prop)  (l0 : Option Nat) (l1 : Int32) (s0 : Int32) (s1 : Option Nat) (h : zw_H) : Prop :=
  oc_ h s1 [3] (f_X3_check K s1 s0 4 h (fun h4 =>
  oc_ h4 l0 [3] (f_X3_step K l0 h4 (fun h5 =>
  oc_ h5 l0 [3] (f_X3_looks K l0 0 255 h5 (fun v5 h6 =>
  if l1 = 0 then
    f_X3_line_J87 K Q X  l0 l1 v5 l0 h6
  else
    og_A h6 l0 [3] 0 (fun v14 =>
    oc_ h6 v14 [2] (f_X4_hasFixed K v14 v5 h6 (fun v15 h15 =>
    if v15 ≠ 0 then
      f_X3_line_J92 K Q X  l0 l1 v5 0 l0 h15
    else
      f_X3_line_J87 K Q X  l0 l1 v5 l0 h15) X))) X)) X)) X)
def f_X3_line_J32 (K : Nat → Option Nat) (Q : zw_H → Prop) (X : String → Nat → zw_H → Prop)  (l0 : Option Nat) (l1 : Int32) (s0 : Int32) (s1 : Option Nat) (h : zw_H) : Prop :=
  oc_ h s1 [3] (f_X3_check K s1 s0 1 h (fun h2 =>
  og_A h2 l0 [3] 0 (fun v3 =>
  oc_ h2 v3 [2] (f_X4_size K v3 h2 (fun v4 h3 =>
  if (24 : Int32) ≤ v4 then
    f_X3_line_J54 K Q X  l0 l1 0 l0 h3
  else
    f_X3_line_J54 K Q X  l0 l1 1 l0 h3) X))) X)
def f_X3_line_J27 (K : Nat → Option Nat) (Q : zw_H → Prop) (X : String → Nat → zw_H → Prop)  (l0 : Option Nat) (l1 : Int32) (s0 : Option Nat) (h : zw_H) : Prop :=
  f_X3_line_J32 K Q X  l0 l1 1 s0 h
def f_X3_line (K : Nat → Option Nat) (a0 : Option Nat) (h : zw_H) (Q : zw_H → Prop) (X : String → Nat → zw_H → Prop) : Prop :=
  og_A h a0 [3] 6 (fun v1 =>
  oc_ h v1 [11, 17] (f_J4_equals K v1 (K 25) h (fun v2 h1 =>
  if v2 ≠ 0 then
    f_X3_line_J27 K Q X  a0 v2 a0 h1
  else
    og_A h1 a0 [3] 6 (fun v16 =>
    oc_ h1 v16 [11, 17] (f_J4_equals K v16 (K 26) h1 (fun v17 h16 =>
    if v17 = 0 then
      f_X3_line_J32 K Q X  a0 v2 0 a0 h16
    else
      f_X3_line_J27 K Q X  a0 v2 a0 h16) X))) X))
abbrev rm_X3_parse : Room := { frames := 19, cells := 889, slots := 8894, locals := 10317 }
def f_X3_parse_B20 (K : Nat → Option Nat) (Q : Option Nat → zw_H → Prop) (X : String → Nat → zw_H → Prop)  (k52 : zw_H → Prop) (l0 : Option Nat) (R : Int32 → zw_H → Prop) (l1 : Int32) (h : zw_H) : Prop :=
  if (6 : Int32) ≤ l1 then
    k52  h
  else
    og_A h l0 [3] 0 (fun v3 =>
    (f_X4_low K l1 h (fun v4 h4 =>
    (f_X4_high K l1 h4 (fun v5 h5 =>
    oc_ h5 l0 [3] (f_X3_number K l0 v4 v5 h5 (fun v6 h6 =>
    oc_ h6 v3 [2] (f_X4_sets K v3 l1 v6 h6 (fun h7 =>
    olet (l1 + 1) (fun v7 =>
    R v7 h7)) X)) X)) X)) X))
def f_X3_parse_B52 (K : Nat → Option Nat) (Q : Option Nat → zw_H → Prop) (X : String → Nat → zw_H → Prop)  (k71 : zw_H → Prop) (l0 : Option Nat) (R : zw_H → Prop)  (h : zw_H) : Prop :=
  og_I h l0 [3] 4 (fun v8 =>
  if v8 ≠ 2 then
    k71  h
  else
    oc_ h l0 [3] (f_X3_step K l0 h (fun h9 =>
    oc_ h9 l0 [3] (f_X3_line K l0 h9 (fun h10 =>
    R  h10) X)) X))
def f_X3_parse_J105 (K : Nat → Option Nat) (Q : Option Nat → zw_H → Prop) (X : String → Nat → zw_H → Prop)  (l0 : Option Nat) (s0 : Int32) (s1 : Option Nat) (h : zw_H) : Prop :=
  oc_ h s1 [3] (f_X3_check K s1 s0 5 h (fun h14 =>
  og_A h14 l0 [3] 0 (fun v12 =>
  Q v12 h14)) X)
def f_X3_parse_J85 (K : Nat → Option Nat) (Q : Option Nat → zw_H → Prop) (X : String → Nat → zw_H → Prop)  (l0 : Option Nat) (s0 : Int32) (s1 : Option Nat) (h : zw_H) : Prop :=
  oc_ h s1 [3] (f_X3_check K s1 s0 1 h (fun h12 =>
  og_A h12 l0 [3] 0 (fun v10 =>
  oc_ h12 v10 [2] (f_X4_size K v10 h12 (fun v11 h13 =>
  if v11 ≤ 0 then
    f_X3_parse_J105 K Q X  l0 0 l0 h13
  else
    f_X3_parse_J105 K Q X  l0 1 l0 h13) X))) X)
def f_X3_parse (K : Nat → Option Nat) (a0 : Option Nat) (h : zw_H) (Q : Option Nat → zw_H → Prop) (X : String → Nat → zw_H → Prop) : Prop :=
  og_A h a0 [3] 6 (fun v1 =>
  oc_ h v1 [11, 17] (f_J4_equals K v1 (K 24) h (fun v2 h1 =>
  oc_ h1 a0 [3] (f_X3_check K a0 v2 1 h1 (fun h2 =>
  oc_ h2 a0 [3] (f_X3_step K a0 h2 (fun h3 =>
  zl2 (f_X3_parse_B20 K Q X (fun h8 =>
    zl1 (f_X3_parse_B52 K Q X (fun h11 =>
      og_I h11 a0 [3] 4 (fun v9 =>
      if v9 ≠ 3 then
        f_X3_parse_J85 K Q X  a0 0 a0 h11
      else
        f_X3_parse_J85 K Q X  a0 1 a0 h11)) a0) 26  h8) a0) 4 3 h3) X)) X)) X))
abbrev rm_J1_circularClear : Room := { frames := 0, cells := 0, slots := 0, locals := 0 }
def f_J1_circularClear_B12 (K : Nat → Option Nat) (Q : zw_H → Prop) (X : String → Nat → zw_H → Prop)  (k32 : zw_H → Prop) (l0 : Option Nat) (l2 : Int32) (R : Int32 → Int32 → zw_H → Prop) (l1 : Int32) (l3 : Int32) (h : zw_H) : Prop :=
  if l3 ≤ l1 then
    if l3 ≠ l2 then
      R 0 l2 h
    else
      k32  h
  else
    os_A h l0 5 [0, 1, 2, 3, 4, 5, 6, 7, 8, 9, 10, 11, 12, 13, 14, 15, 16, 17, 18] [] l1 none (fun h1 =>
    olet (l1 + 1) (fun v2 =>
    R v2 l3 h1))
def f_J1_circularClear_J11 (K : Nat → Option Nat) (Q : zw_H → Prop) (X : String → Nat → zw_H → Prop)  (l0 : Option Nat) (l1 : Int32) (l2 : Int32) (s0 : Int32) (h : zw_H) : Prop :=
  zl3 (f_J1_circularClear_B12 K Q X (fun h2 =>
    Q h2) l0 l2) zfu l1 s0 h
def f_J1_circularClear (K : Nat → Option Nat) (a0 : Option Nat) (a1 : Int32) (a2 : Int32) (h : zw_H) (Q : zw_H → Prop) (X : String → Nat → zw_H → Prop) : Prop :=
  if a2 < a1 then
    ol_ h a0 (fun v1 =>
    f_J1_circularClear_J11 K Q X  a0 a1 a2 v1 h)
  else
    f_J1_circularClear_J11 K Q X  a0 a1 a2 a2 h
abbrev rm_J1_clear : Room := { frames := 1, cells := 0, slots := 0, locals := 23 }
def f_J1_clear (K : Nat → Option Nat) (a0 : Option Nat) (h : zw_H) (Q : zw_H → Prop) (X : String → Nat → zw_H → Prop) : Prop :=
  og_A h a0 [8] 0 (fun v1 =>
  og_I h a0 [8] 1 (fun v2 =>
  og_I h a0 [8] 2 (fun v3 =>
  (f_J1_circularClear K v1 v2 v3 h (fun h1 =>
  op_V h1 a0 [8] 2 (.int 0) (fun h2 =>
  op_V h2 a0 [8] 1 (.int 0) (fun h3 =>
  Q h3))) X))))
abbrev rm_J18_init_2 : Room := { frames := 4, cells := 0, slots := 0, locals := 80 }
def f_J18_init_2 (K : Nat → Option Nat) (a0 : Option Nat) (h : zw_H) (Q : zw_H → Prop) (X : String → Nat → zw_H → Prop) : Prop :=
  (a0 ≠ none ∧ f_J8_init_2 K a0 h (fun h1 =>
  Q h1) X)
abbrev rm_X1_load : Room := { frames := 20, cells := 1139, slots := 10211, locals := 10338 }
def f_X1_load_J76 (K : Nat → Option Nat) (Q : Int32 → zw_H → Prop) (X : String → Nat → zw_H → Prop)  (l0 : Option Nat) (s0 : Option Nat) (h : zw_H) : Prop :=
  og_I h s0 [5] 6 (fun v3 =>
  op_V h l0 [1] 2 (.int v3) (fun h7 =>
  og_I h7 s0 [5] 7 (fun v4 =>
  op_V h7 l0 [1] 3 (.int v4) (fun h8 =>
  (∀ q9 : Nat, X "java/lang/IllegalArgumentException" q9 h8)))))
def f_X1_load_B50 (K : Nat → Option Nat) (Q : Int32 → zw_H → Prop) (X : String → Nat → zw_H → Prop)  (k68 : zw_H → Prop) (l0 : Option Nat) (R : Int32 → zw_H → Prop) (l2 : Int32) (h : zw_H) : Prop :=
  if (2 : Int32) ≤ l2 then
    k68  h
  else
    og_A h l0 [1] 6 (fun v7 =>
    os_A h v7 8 [2] [] l2 none (fun h12 =>
    olet (l2 + 1) (fun v8 =>
    R v8 h12)))
def f_X1_load (K : Nat → Option Nat) (a0 : Option Nat) (a1 : Int32) (h : zw_H) (Q : Int32 → zw_H → Prop) (X : String → Nat → zw_H → Prop) : Prop :=
  og_I h a0 [1] 1 (fun v1 =>
  (f_X1_checkIndex K a1 (v1 + 1) h (fun h1 =>
  op_V h1 a0 [1] 1 (.int 0) (fun h2 =>
  op_V h2 a0 [1] 2 (.int 0) (fun h3 =>
  op_V h3 a0 [1] 3 (.int (-1)) (fun h4 =>
  on_C h4 (.inr (3, [.null, .int 0, .int 0, .int 0, .int 0, .int 0, .null, .null])) (fun v2 h5 =>
  (f_X3_init K (some v2) a0 a1 h5 (fun h6 =>
  oc_ h6 (some v2) [3] (f_X3_parse K (some v2) h6 (fun v5 h9 =>
  op_V h9 a0 [1] 4 (va_rf v5) (fun h10 =>
  og_A h10 a0 [1] 5 (fun v6 =>
  oc_ h10 v6 [8] (f_J1_clear K v6 h10 (fun h11 =>
  zl2 (f_X1_load_B50 K Q X (fun h13 =>
    og_A h13 a0 [1] 4 (fun v9 =>
    oc_ h13 v9 [2] (f_X4_size K v9 h13 (fun v10 h14 =>
    Q v10 h14)
      (fun E9 q9 h9 =>
        if E9 = "MultipoleLine$Flaw" then
          f_X1_load_J76 K Q X  a0 (some q9) h9
        else False)))) a0) zfu 0 h11)
    (fun E9 q9 h9 =>
      if E9 = "MultipoleLine$Flaw" then
        f_X1_load_J76 K Q X  a0 (some q9) h9
      else False)))))
    (fun E9 q9 h9 =>
      if E9 = "MultipoleLine$Flaw" then
        f_X1_load_J76 K Q X  a0 (some q9) h9
      else False)))
    (fun E9 q9 h9 =>
      if E9 = "MultipoleLine$Flaw" then
        f_X1_load_J76 K Q X  a0 (some q9) h9
      else False))))))) X))
abbrev rm_J24_init : Room := { frames := 4, cells := 0, slots := 0, locals := 80 }
def f_J24_init (K : Nat → Option Nat) (a0 : Option Nat) (h : zw_H) (Q : zw_H → Prop) (X : String → Nat → zw_H → Prop) : Prop :=
  (a0 ≠ none ∧ f_J8_init_2 K a0 h (fun h1 =>
  Q h1) X)
abbrev rm_X1_checkState : Room := { frames := 6, cells := 1, slots := 6, locals := 120 }
def f_X1_checkState (K : Nat → Option Nat) (a0 : Int32) (h : zw_H) (Q : zw_H → Prop) (X : String → Nat → zw_H → Prop) : Prop :=
  if a0 ≠ 0 then
    Q h
  else
    (∀ q9 : Nat, X "java/lang/IllegalStateException" q9 h)
abbrev rm_X1_loaded : Room := { frames := 7, cells := 1, slots := 6, locals := 140 }
def f_X1_loaded_J12 (K : Nat → Option Nat) (Q : Option Nat → zw_H → Prop) (X : String → Nat → zw_H → Prop)  (l0 : Option Nat) (s0 : Int32) (h : zw_H) : Prop :=
  (f_X1_checkState K s0 h (fun h1 =>
  og_A h1 l0 [1] 4 (fun v2 =>
  Q v2 h1)) X)
def f_X1_loaded (K : Nat → Option Nat) (a0 : Option Nat) (h : zw_H) (Q : Option Nat → zw_H → Prop) (X : String → Nat → zw_H → Prop) : Prop :=
  og_A h a0 [1] 4 (fun v1 =>
  if v1 = none then
    f_X1_loaded_J12 K Q X  a0 0 h
  else
    f_X1_loaded_J12 K Q X  a0 1 h)
abbrev rm_X1_flag : Room := { frames := 0, cells := 0, slots := 0, locals := 0 }
def f_X1_flag (K : Nat → Option Nat) (a0 : Int32) (h : zw_H) (Q : Int32 → zw_H → Prop) (X : String → Nat → zw_H → Prop) : Prop :=
  if a0 = 0 then
    Q 0 h
  else
    Q 1 h
abbrev rm_X4_freeMany : Room := { frames := 4, cells := 0, slots := 0, locals := 85 }
def f_X4_freeMany_B4 (K : Nat → Option Nat) (Q : Int32 → zw_H → Prop) (X : String → Nat → zw_H → Prop)  (k32 : Int32 → zw_H → Prop) (l0 : Option Nat) (R : Int32 → Int32 → zw_H → Prop) (l1 : Int32) (l2 : Int32) (h : zw_H) : Prop :=
  oc_ h l0 [2] (f_X4_size K l0 h (fun v1 h1 =>
  if v1 ≤ l2 then
    k32 l1 h1
  else
    oc_ h1 l0 [2] (f_X4_at K l0 l2 h1 (fun v2 h2 =>
    og_I h2 v2 [6, 7] 3 (fun v3 =>
    (f_X1_flag K v3 h2 (fun v4 h3 =>
    olet (l1 + v4 : Int32) (fun v5 =>
    olet (l2 + 1) (fun v6 =>
    R v5 v6 h3))) X))) X)) X)
def f_X4_freeMany (K : Nat → Option Nat) (a0 : Option Nat) (h : zw_H) (Q : Int32 → zw_H → Prop) (X : String → Nat → zw_H → Prop) : Prop :=
  zl3 (f_X4_freeMany_B4 K Q X (fun v7 h4 =>
    Q v7 h4) a0) zfu 0 0 h
abbrev rm_X4_number : Room := { frames := 0, cells := 0, slots := 0, locals := 0 }
def f_X4_number (K : Nat → Option Nat) (a0 : Option Nat) (a1 : Int32) (h : zw_H) (Q : Int32 → zw_H → Prop) (X : String → Nat → zw_H → Prop) : Prop :=
  if a1 ≠ 3 then
    if a1 ≠ 4 then
      og_I h a0 [2] 4 (fun v1 =>
      Q v1 h)
    else
      og_I h a0 [2] 3 (fun v2 =>
      Q v2 h)
  else
    og_I h a0 [2] 2 (fun v3 =>
    Q v3 h)
abbrev rm_X4_charges : Room := { frames := 4, cells := 0, slots := 0, locals := 85 }
def f_X4_charges_B4 (K : Nat → Option Nat) (Q : Int32 → zw_H → Prop) (X : String → Nat → zw_H → Prop)  (k29 : Int32 → zw_H → Prop) (l0 : Option Nat) (R : Int32 → Int32 → zw_H → Prop) (l1 : Int32) (l2 : Int32) (h : zw_H) : Prop :=
  oc_ h l0 [2] (f_X4_size K l0 h (fun v1 h1 =>
  if v1 ≤ l2 then
    k29 l1 h1
  else
    oc_ h1 l0 [2] (f_X4_at K l0 l2 h1 (fun v2 h2 =>
    og_I h2 v2 [6, 7] 1 (fun v3 =>
    olet (l1 + v3 : Int32) (fun v4 =>
    olet (l2 + 1) (fun v5 =>
    R v4 v5 h2)))) X)) X)
def f_X4_charges (K : Nat → Option Nat) (a0 : Option Nat) (h : zw_H) (Q : Int32 → zw_H → Prop) (X : String → Nat → zw_H → Prop) : Prop :=
  zl3 (f_X4_charges_B4 K Q X (fun v6 h3 =>
    Q v6 h3) a0) zfu 0 0 h
abbrev rm_J14_abs : Room := { frames := 0, cells := 0, slots := 0, locals := 0 }
def f_J14_abs (K : Nat → Option Nat) (a0 : Int32) (h : zw_H) (Q : Int32 → zw_H → Prop) (X : String → Nat → zw_H → Prop) : Prop :=
  if (0 : Int32) ≤ a0 then
    Q a0 h
  else
    Q (-a0) h
abbrev rm_X4_weights : Room := { frames := 4, cells := 0, slots := 0, locals := 85 }
def f_X4_weights_B4 (K : Nat → Option Nat) (Q : Int32 → zw_H → Prop) (X : String → Nat → zw_H → Prop)  (k32 : Int32 → zw_H → Prop) (l0 : Option Nat) (R : Int32 → Int32 → zw_H → Prop) (l1 : Int32) (l2 : Int32) (h : zw_H) : Prop :=
  oc_ h l0 [2] (f_X4_size K l0 h (fun v1 h1 =>
  if v1 ≤ l2 then
    k32 l1 h1
  else
    oc_ h1 l0 [2] (f_X4_at K l0 l2 h1 (fun v2 h2 =>
    og_I h2 v2 [6, 7] 1 (fun v3 =>
    (f_J14_abs K v3 h2 (fun v4 h3 =>
    olet (l1 + v4 : Int32) (fun v5 =>
    olet (l2 + 1) (fun v6 =>
    R v5 v6 h3))) X))) X)) X)
def f_X4_weights (K : Nat → Option Nat) (a0 : Option Nat) (h : zw_H) (Q : Int32 → zw_H → Prop) (X : String → Nat → zw_H → Prop) : Prop :=
  zl3 (f_X4_weights_B4 K Q X (fun v7 h4 =>
    Q v7 h4) a0) zfu 0 0 h
abbrev rm_J25_wordIndex : Room := { frames := 0, cells := 0, slots := 0, locals := 0 }
def f_J25_wordIndex (K : Nat → Option Nat) (a0 : Int32) (h : zw_H) (Q : Int32 → zw_H → Prop) (X : String → Nat → zw_H → Prop) : Prop :=
  Q (a0 >>> (6 &&& 31)) h
abbrev rm_J25_initWords : Room := { frames := 1, cells := 1, slots := 4, locals := 20 }
def f_J25_initWords (K : Nat → Option Nat) (a0 : Option Nat) (a1 : Int32) (h : zw_H) (Q : zw_H → Prop) (X : String → Nat → zw_H → Prop) : Prop :=
  (f_J25_wordIndex K (a1 - 1) h (fun v1 h1 =>
  on_J h1 3 (v1 + 1) 4 (fun v2 h2 =>
  op_V h2 a0 [16] 0 (va_rf (some v2)) (fun h3 =>
  Q h3))) X)
abbrev rm_J25_init : Room := { frames := 15, cells := 1, slots := 4, locals := 336 }
def f_J25_init (K : Nat → Option Nat) (a0 : Option Nat) (a1 : Int32) (h : zw_H) (Q : zw_H → Prop) (X : String → Nat → zw_H → Prop) : Prop :=
  (a0 ≠ none ∧ 
  op_V h a0 [16] 1 (.int 0) (fun h1 =>
  op_V h1 a0 [16] 2 (.int 0) (fun h2 =>
  if (0 : Int32) ≤ a1 then
    oc_ h2 a0 [16] (f_J25_initWords K a0 a1 h2 (fun h3 =>
    op_V h3 a0 [16] 2 (.int 1) (fun h4 =>
    Q h4)) X)
  else
    False)))
abbrev rm_X4_around : Room := { frames := 0, cells := 0, slots := 0, locals := 0 }
def f_X4_around (K : Nat → Option Nat) (a0 : Option Nat) (a1 : Int32) (a2 : Int32) (h : zw_H) (Q : Option Nat → zw_H → Prop) (X : String → Nat → zw_H → Prop) : Prop :=
  og_A h a0 [2] 1 (fun v1 =>
  oa_A h v1 [7] a1 (fun v2 =>
  (((256 : Int32) >>> (a1 &&& 31) : Int32) ≠ 0 ∧ 
  oa_A h v2 [6] (a2 / ((256 : Int32) >>> (a1 &&& 31))) (fun v3 =>
  Q v3 h))))
abbrev rm_X4_leaf : Room := { frames := 1, cells := 0, slots := 0, locals := 22 }
def f_X4_leaf (K : Nat → Option Nat) (a0 : Option Nat) (a1 : Int32) (h : zw_H) (Q : Option Nat → zw_H → Prop) (X : String → Nat → zw_H → Prop) : Prop :=
  og_I h a0 [2] 2 (fun v1 =>
  oc_ h a0 [2] (f_X4_around K a0 v1 a1 h (fun v2 h1 =>
  Q v2 h1) X))
abbrev rm_J9_init : Room := { frames := 4, cells := 0, slots := 0, locals := 83 }
def f_J9_init (K : Nat → Option Nat) (a0 : Option Nat) (a1 : Option Nat) (h : zw_H) (Q : zw_H → Prop) (X : String → Nat → zw_H → Prop) : Prop :=
  (a0 ≠ none ∧ f_J8_init K a0 a1 h (fun h1 =>
  Q h1) X)
abbrev rm_J15_copyOf_4 : Room := { frames := 2, cells := 0, slots := 0, locals := 100 }
def f_J15_copyOf_4 (K : Nat → Option Nat) (a0 : Option Nat) (a1 : Int32) (h : zw_H) (Q : Option Nat → zw_H → Prop) (X : String → Nat → zw_H → Prop) : Prop :=
  False
abbrev rm_J25_ensureCapacity : Room := { frames := 3, cells := 0, slots := 0, locals := 122 }
def f_J25_ensureCapacity (K : Nat → Option Nat) (a0 : Option Nat) (a1 : Int32) (h : zw_H) (Q : zw_H → Prop) (X : String → Nat → zw_H → Prop) : Prop :=
  og_A h a0 [16] 0 (fun v1 =>
  ol_ h v1 (fun v2 =>
  if a1 ≤ v2 then
    Q h
  else
    og_A h a0 [16] 0 (fun v3 =>
    ol_ h v3 (fun v4 =>
    (f_J14_max K ((2 : Int32) * v4) a1 h (fun v5 h1 =>
    og_A h1 a0 [16] 0 (fun v6 =>
    (f_J15_copyOf_4 K v6 v5 h1 (fun v7 h2 =>
    op_V h2 a0 [16] 0 (va_rf v7) (fun h3 =>
    op_V h3 a0 [16] 2 (.int 0) (fun h4 =>
    Q h4))) X))) X)))))
abbrev rm_J25_expandTo : Room := { frames := 4, cells := 0, slots := 0, locals := 144 }
def f_J25_expandTo (K : Nat → Option Nat) (a0 : Option Nat) (a1 : Int32) (h : zw_H) (Q : zw_H → Prop) (X : String → Nat → zw_H → Prop) : Prop :=
  olet (a1 + 1 : Int32) (fun v1 =>
  og_I h a0 [16] 1 (fun v2 =>
  if v1 ≤ v2 then
    Q h
  else
    oc_ h a0 [16] (f_J25_ensureCapacity K a0 v1 h (fun h1 =>
    op_V h1 a0 [16] 1 (.int v1) (fun h2 =>
    Q h2)) X)))
abbrev rm_J25_checkInvariants : Room := { frames := 0, cells := 0, slots := 0, locals := 0 }
def f_J25_checkInvariants_J70 (K : Nat → Option Nat) (Q : zw_H → Prop) (X : String → Nat → zw_H → Prop)  (l0 : Option Nat)  (h : zw_H) : Prop :=
  if (1 : Int32) ≠ 0 then
    Q h
  else
    og_I h l0 [16] 1 (fun v1 =>
    og_A h l0 [16] 0 (fun v2 =>
    ol_ h v2 (fun v3 =>
    if v1 = v3 then
      Q h
    else
      og_A h l0 [16] 0 (fun v4 =>
      og_I h l0 [16] 1 (fun v5 =>
      oa_J h v4 [3] v5 (fun v6 =>
      if (lg_cmp v6 0) = 0 then
        Q h
      else
        False))))))
def f_J25_checkInvariants_J37 (K : Nat → Option Nat) (Q : zw_H → Prop) (X : String → Nat → zw_H → Prop)  (l0 : Option Nat)  (h : zw_H) : Prop :=
  if (1 : Int32) ≠ 0 then
    f_J25_checkInvariants_J70 K Q X  l0  h
  else
    og_I h l0 [16] 1 (fun v7 =>
    if v7 < 0 then
      False
    else
      og_I h l0 [16] 1 (fun v8 =>
      og_A h l0 [16] 0 (fun v9 =>
      ol_ h v9 (fun v10 =>
      if v8 ≤ v10 then
        f_J25_checkInvariants_J70 K Q X  l0  h
      else
        False))))
def f_J25_checkInvariants (K : Nat → Option Nat) (a0 : Option Nat) (h : zw_H) (Q : zw_H → Prop) (X : String → Nat → zw_H → Prop) : Prop :=
  if (1 : Int32) ≠ 0 then
    f_J25_checkInvariants_J37 K Q X  a0  h
  else
    og_I h a0 [16] 1 (fun v11 =>
    if v11 = 0 then
      f_J25_checkInvariants_J37 K Q X  a0  h
    else
      og_A h a0 [16] 0 (fun v12 =>
      og_I h a0 [16] 1 (fun v13 =>
      oa_J h v12 [3] (v13 - 1) (fun v14 =>
      if (lg_cmp v14 0) ≠ 0 then
        f_J25_checkInvariants_J37 K Q X  a0  h
      else
        False))))
abbrev rm_J25_set : Room := { frames := 15, cells := 0, slots := 0, locals := 336 }
def f_J25_set (K : Nat → Option Nat) (a0 : Option Nat) (a1 : Int32) (h : zw_H) (Q : zw_H → Prop) (X : String → Nat → zw_H → Prop) : Prop :=
  if (0 : Int32) ≤ a1 then
    (f_J25_wordIndex K a1 h (fun v1 h1 =>
    oc_ h1 a0 [16] (f_J25_expandTo K a0 v1 h1 (fun h2 =>
    og_A h2 a0 [16] 0 (fun v2 =>
    oa_J h2 v2 [3] v1 (fun v3 =>
    os_J h2 v2 [3] v1 (v3 ||| ((1 : Int64) <<< (a1.toInt64 &&& 63))) (fun h3 =>
    oc_ h3 a0 [16] (f_J25_checkInvariants K a0 h3 (fun h4 =>
    Q h4) X))))) X)) X)
  else
    False
abbrev rm_X4_leaves : Room := { frames := 16, cells := 2, slots := 7, locals := 358 }
def f_X4_leaves_B16 (K : Nat → Option Nat) (Q : Option Nat → zw_H → Prop) (X : String → Nat → zw_H → Prop)  (k49 : zw_H → Prop) (l0 : Option Nat) (l1 : Option Nat) (R : Int32 → zw_H → Prop) (l2 : Int32) (h : zw_H) : Prop :=
  oc_ h l0 [2] (f_X4_size K l0 h (fun v3 h3 =>
  if v3 ≤ l2 then
    k49  h3
  else
    oc_ h3 l0 [2] (f_X4_at K l0 l2 h3 (fun v4 h4 =>
    og_I h4 v4 [6, 7] 0 (fun v5 =>
    oc_ h4 l0 [2] (f_X4_leaf K l0 v5 h4 (fun v6 h5 =>
    og_I h5 v6 [4] 1 (fun v7 =>
    oc_ h5 l1 [16] (f_J25_set K l1 v7 h5 (fun h6 =>
    olet (l2 + 1) (fun v8 =>
    R v8 h6)) X))) X))) X)) X)
def f_X4_leaves (K : Nat → Option Nat) (a0 : Option Nat) (h : zw_H) (Q : Option Nat → zw_H → Prop) (X : String → Nat → zw_H → Prop) : Prop :=
  on_C h (.inr (16, [.null, .int 0, .int 0])) (fun v1 h1 =>
  og_I h1 a0 [2] 2 (fun v2 =>
  (f_J25_init K (some v1) ((1 : Int32) <<< (v2 &&& 31)) h1 (fun h2 =>
  zl2 (f_X4_leaves_B16 K Q X (fun h7 =>
    Q (some v1) h7) a0 (some v1)) zfu 0 h2) X)))
abbrev rm_J26_bitCount : Room := { frames := 0, cells := 0, slots := 0, locals := 0 }
def f_J26_bitCount (K : Nat → Option Nat) (a0 : Int64) (h : zw_H) (Q : Int32 → zw_H → Prop) (X : String → Nat → zw_H → Prop) : Prop :=
  olet (a0 - (((a0.toUInt64 >>> ((1 : Int32).toInt64.toUInt64 &&& Int64.toUInt64 63)).toInt64) &&& (6148914691236517205 : Int64)) : Int64) (fun v1 =>
  olet ((v1 &&& (3689348814741910323 : Int64)) + (((v1.toUInt64 >>> ((2 : Int32).toInt64.toUInt64 &&& Int64.toUInt64 63)).toInt64) &&& (3689348814741910323 : Int64)) : Int64) (fun v2 =>
  olet ((v2 + ((v2.toUInt64 >>> ((4 : Int32).toInt64.toUInt64 &&& Int64.toUInt64 63)).toInt64)) &&& (1085102592571150095 : Int64) : Int64) (fun v3 =>
  olet (v3 + ((v3.toUInt64 >>> ((8 : Int32).toInt64.toUInt64 &&& Int64.toUInt64 63)).toInt64) : Int64) (fun v4 =>
  olet (v4 + ((v4.toUInt64 >>> ((16 : Int32).toInt64.toUInt64 &&& Int64.toUInt64 63)).toInt64) : Int64) (fun v5 =>
  olet (v5 + ((v5.toUInt64 >>> ((32 : Int32).toInt64.toUInt64 &&& Int64.toUInt64 63)).toInt64) : Int64) (fun v6 =>
  Q (v6.toInt32 &&& 127) h))))))
abbrev rm_J25_cardinality : Room := { frames := 1, cells := 0, slots := 0, locals := 21 }
def f_J25_cardinality_B4 (K : Nat → Option Nat) (Q : Int32 → zw_H → Prop) (X : String → Nat → zw_H → Prop)  (k30 : Int32 → zw_H → Prop) (l0 : Option Nat) (R : Int32 → Int32 → zw_H → Prop) (l1 : Int32) (l2 : Int32) (h : zw_H) : Prop :=
  og_I h l0 [16] 1 (fun v1 =>
  if v1 ≤ l2 then
    k30 l1 h
  else
    og_A h l0 [16] 0 (fun v2 =>
    oa_J h v2 [3] l2 (fun v3 =>
    (f_J26_bitCount K v3 h (fun v4 h1 =>
    olet (l1 + v4 : Int32) (fun v5 =>
    olet (l2 + 1) (fun v6 =>
    R v5 v6 h1))) X))))
def f_J25_cardinality (K : Nat → Option Nat) (a0 : Option Nat) (h : zw_H) (Q : Int32 → zw_H → Prop) (X : String → Nat → zw_H → Prop) : Prop :=
  zl3 (f_J25_cardinality_B4 K Q X (fun v7 h2 =>
    Q v7 h2) a0) zfu 0 0 h
abbrev rm_X1_extreme : Room := { frames := 4, cells := 0, slots := 0, locals := 85 }
def f_X1_extreme_J49 (K : Nat → Option Nat) (Q : Int32 → zw_H → Prop) (X : String → Nat → zw_H → Prop) (R : Int32 → Int32 → zw_H → Prop) (k55 : Int32 → zw_H → Prop) (l0 : Option Nat) (l1 : Int32) (l2 : Int32) (l3 : Int32)  (h : zw_H) : Prop :=
  olet (l3 + 1) (fun v4 =>
  R l2 v4 h)
def f_X1_extreme_J46 (K : Nat → Option Nat) (Q : Int32 → zw_H → Prop) (X : String → Nat → zw_H → Prop) (R : Int32 → Int32 → zw_H → Prop) (k55 : Int32 → zw_H → Prop) (l0 : Option Nat) (l1 : Int32) (l3 : Int32) (l4 : Int32)  (h : zw_H) : Prop :=
  f_X1_extreme_J49 K Q X R k55 l0 l1 l4 l3  h
def f_X1_extreme_B4 (K : Nat → Option Nat) (Q : Int32 → zw_H → Prop) (X : String → Nat → zw_H → Prop)  (k55 : Int32 → zw_H → Prop) (l0 : Option Nat) (l1 : Int32) (R : Int32 → Int32 → zw_H → Prop) (l2 : Int32) (l3 : Int32) (h : zw_H) : Prop :=
  oc_ h l0 [2] (f_X4_size K l0 h (fun v1 h1 =>
  if v1 ≤ l3 then
    k55 l2 h1
  else
    oc_ h1 l0 [2] (f_X4_at K l0 l3 h1 (fun v2 h2 =>
    og_I h2 v2 [6, 7] 0 (fun v3 =>
    if l2 = (-1) then
      f_X1_extreme_J46 K Q X R k55 l0 l1 l3 v3  h2
    else
      if l1 = 0 then
        if l2 ≤ v3 then
          f_X1_extreme_J49 K Q X R k55 l0 l1 l2 l3  h2
        else
          f_X1_extreme_J46 K Q X R k55 l0 l1 l3 v3  h2
      else
        if v3 ≤ l2 then
          f_X1_extreme_J49 K Q X R k55 l0 l1 l2 l3  h2
        else
          f_X1_extreme_J46 K Q X R k55 l0 l1 l3 v3  h2)) X)) X)
def f_X1_extreme (K : Nat → Option Nat) (a0 : Option Nat) (a1 : Int32) (h : zw_H) (Q : Int32 → zw_H → Prop) (X : String → Nat → zw_H → Prop) : Prop :=
  zl3 (f_X1_extreme_B4 K Q X (fun v5 h3 =>
    Q v5 h3) a0 a1) zfu (-1) 0 h
abbrev rm_X1_count : Room := { frames := 17, cells := 3, slots := 13, locals := 380 }
def f_X1_count_J160 (K : Nat → Option Nat) (Q : Int32 → zw_H → Prop) (X : String → Nat → zw_H → Prop)   (s0 : Int32) (s1 : Option Nat) (h : zw_H) : Prop :=
  (f_X1_extreme K s1 s0 h (fun v15 h13 =>
  Q v15 h13) X)
def f_X1_count (K : Nat → Option Nat) (a0 : Option Nat) (a1 : Int32) (h : zw_H) (Q : Int32 → zw_H → Prop) (X : String → Nat → zw_H → Prop) : Prop :=
  oc_ h a0 [1] (f_X1_loaded K a0 h (fun v1 h1 =>
  if a1 = 0 then
    oc_ h1 v1 [2] (f_X4_size K v1 h1 (fun v2 h2 =>
    Q v2 h2) X)
  else if a1 = 1 then
    oc_ h1 v1 [2] (f_X4_freeMany K v1 h1 (fun v3 h3 =>
    Q v3 h3) X)
  else if a1 = 2 then
    oc_ h1 v1 [2] (f_X4_size K v1 h1 (fun v4 h4 =>
    oc_ h4 v1 [2] (f_X4_freeMany K v1 h4 (fun v5 h5 =>
    Q (v4 - v5) h5) X)) X)
  else if a1 = 3 then
    oc_ h1 v1 [2] (f_X4_number K v1 a1 h1 (fun v6 h6 =>
    Q v6 h6) X)
  else if a1 = 4 then
    oc_ h1 v1 [2] (f_X4_number K v1 a1 h1 (fun v7 h7 =>
    Q v7 h7) X)
  else if a1 = 5 then
    oc_ h1 v1 [2] (f_X4_number K v1 a1 h1 (fun v8 h8 =>
    Q v8 h8) X)
  else if a1 = 6 then
    og_I h1 v1 [2] 5 (fun v9 =>
    Q v9 h1)
  else if a1 = 7 then
    oc_ h1 v1 [2] (f_X4_charges K v1 h1 (fun v10 h9 =>
    Q v10 h9) X)
  else if a1 = 8 then
    oc_ h1 v1 [2] (f_X4_weights K v1 h1 (fun v11 h10 =>
    Q v11 h10) X)
  else if a1 = 9 then
    oc_ h1 v1 [2] (f_X4_leaves K v1 h1 (fun v12 h11 =>
    oc_ h11 v12 [16] (f_J25_cardinality K v12 h11 (fun v13 h12 =>
    Q v13 h12) X)) X)
  else if a1 = 10 then
    og_I h1 v1 [2] 6 (fun v14 =>
    Q v14 h1)
  else if a1 = 11 then
    if a1 ≠ 12 then
      f_X1_count_J160 K Q X   0 v1 h1
    else
      f_X1_count_J160 K Q X   1 v1 h1
  else if a1 = 12 then
    if a1 ≠ 12 then
      f_X1_count_J160 K Q X   0 v1 h1
    else
      f_X1_count_J160 K Q X   1 v1 h1
  else if a1 = 13 then
    og_I h1 v1 [2] 2 (fun v16 =>
    Q ((256 : Int32) >>> (v16 &&& 31)) h1)
  else ((a1.toInt < 0 ∨ 13 < a1.toInt) ∧
    (∀ q9 : Nat, X "java/lang/IllegalArgumentException" q9 h1))) X)
abbrev rm_X1_bodyOf : Room := { frames := 8, cells := 2, slots := 12, locals := 160 }
def f_X1_bodyOf (K : Nat → Option Nat) (a0 : Option Nat) (a1 : Int32) (h : zw_H) (Q : Option Nat → zw_H → Prop) (X : String → Nat → zw_H → Prop) : Prop :=
  oc_ h a0 [1] (f_X1_loaded K a0 h (fun v1 h1 =>
  oc_ h1 v1 [2] (f_X4_size K v1 h1 (fun v2 h2 =>
  (f_X1_checkIndex K a1 v2 h2 (fun h3 =>
  og_A h3 a0 [1] 4 (fun v3 =>
  oc_ h3 v3 [2] (f_X4_at K v3 a1 h3 (fun v4 h4 =>
  Q v4 h4) X))) X)) X)) X)
abbrev rm_X1_body_2 : Room := { frames := 9, cells := 3, slots := 18, locals := 181 }
def f_X1_body_2 (K : Nat → Option Nat) (a0 : Option Nat) (a1 : Int32) (a2 : Int32) (h : zw_H) (Q : Int32 → zw_H → Prop) (X : String → Nat → zw_H → Prop) : Prop :=
  oc_ h a0 [1] (f_X1_bodyOf K a0 a1 h (fun v1 h1 =>
  if a2 = 0 then
    og_I h1 v1 [6, 7] 0 (fun v2 =>
    Q v2 h1)
  else if a2 = 1 then
    og_I h1 v1 [6, 7] 1 (fun v3 =>
    Q v3 h1)
  else if a2 = 2 then
    og_I h1 v1 [6, 7] 3 (fun v4 =>
    (f_X1_flag K v4 h1 (fun v5 h2 =>
    Q ((1 : Int32) - v5) h2) X))
  else if a2 = 3 then
    og_A h1 a0 [1] 4 (fun v6 =>
    og_I h1 v1 [6, 7] 0 (fun v7 =>
    oc_ h1 v6 [2] (f_X4_leaf K v6 v7 h1 (fun v8 h3 =>
    og_I h3 v8 [4] 1 (fun v9 =>
    Q v9 h3)) X)))
  else if a2 = 4 then
    og_I h1 v1 [6, 7] 2 (fun v10 =>
    Q v10 h1)
  else ((a2.toInt < 0 ∨ 4 < a2.toInt) ∧
    (∀ q9 : Nat, X "java/lang/IllegalArgumentException" q9 h1))) X)
abbrev rm_X1_isPoint : Room := { frames := 1, cells := 0, slots := 0, locals := 25 }
def f_X1_isPoint (K : Nat → Option Nat) (a0 : Int32) (h : zw_H) (Q : Int32 → zw_H → Prop) (X : String → Nat → zw_H → Prop) : Prop :=
  (f_X1_in K a0.toInt64 0 (255 : Int64) h (fun v1 h1 =>
  ((v1 = 0 ∨ v1 = 1) ∧ Q v1 h1)) X)
abbrev rm_X1_checkArgument : Room := { frames := 6, cells := 1, slots := 6, locals := 120 }
def f_X1_checkArgument (K : Nat → Option Nat) (a0 : Int32) (h : zw_H) (Q : zw_H → Prop) (X : String → Nat → zw_H → Prop) : Prop :=
  if a0 ≠ 0 then
    Q h
  else
    (∀ q9 : Nat, X "java/lang/IllegalArgumentException" q9 h)
abbrev rm_X1_at : Room := { frames := 8, cells := 2, slots := 12, locals := 160 }
def f_X1_at (K : Nat → Option Nat) (a0 : Option Nat) (a1 : Int32) (h : zw_H) (Q : Option Nat → zw_H → Prop) (X : String → Nat → zw_H → Prop) : Prop :=
  oc_ h a0 [1] (f_X1_loaded K a0 h (fun v1 h1 =>
  (f_X1_isPoint K a1 h1 (fun v2 h2 =>
  (f_X1_checkArgument K v2 h2 (fun h3 =>
  Q v1 h3) X)) X)) X)
abbrev rm_X1_bodyAt : Room := { frames := 9, cells := 2, slots := 12, locals := 182 }
def f_X1_bodyAt_B8 (K : Nat → Option Nat) (Q : Int32 → zw_H → Prop) (X : String → Nat → zw_H → Prop)  (k28 : Int32 → zw_H → Prop) (k36 : zw_H → Prop) (l1 : Int32) (l2 : Option Nat) (R : Int32 → zw_H → Prop) (l3 : Int32) (h : zw_H) : Prop :=
  oc_ h l2 [2] (f_X4_size K l2 h (fun v2 h2 =>
  if v2 ≤ l3 then
    k36  h2
  else
    oc_ h2 l2 [2] (f_X4_at K l2 l3 h2 (fun v3 h3 =>
    og_I h3 v3 [6, 7] 0 (fun v4 =>
    if v4 ≠ l1 then
      olet (l3 + 1) (fun v5 =>
      R v5 h3)
    else
      k28 l3 h3)) X)) X)
def f_X1_bodyAt (K : Nat → Option Nat) (a0 : Option Nat) (a1 : Int32) (h : zw_H) (Q : Int32 → zw_H → Prop) (X : String → Nat → zw_H → Prop) : Prop :=
  oc_ h a0 [1] (f_X1_at K a0 a1 h (fun v1 h1 =>
  zl2 (f_X1_bodyAt_B8 K Q X (fun v6 h4 =>
    Q v6 h4) (fun h5 =>
    Q (-1) h5) a1 v1) zfu 0 h1) X)
abbrev rm_X4_box : Room := { frames := 0, cells := 0, slots := 0, locals := 0 }
def f_X4_box (K : Nat → Option Nat) (a0 : Option Nat) (a1 : Int32) (a2 : Int32) (h : zw_H) (Q : Option Nat → zw_H → Prop) (X : String → Nat → zw_H → Prop) : Prop :=
  og_A h a0 [2] 1 (fun v1 =>
  oa_A h v1 [7] a1 (fun v2 =>
  oa_A h v2 [6] a2 (fun v3 =>
  Q v3 h)))
abbrev rm_X1_boxOf : Room := { frames := 8, cells := 3, slots := 18, locals := 160 }
def f_X1_boxOf (K : Nat → Option Nat) (a0 : Option Nat) (a1 : Int32) (a2 : Int32) (h : zw_H) (Q : Option Nat → zw_H → Prop) (X : String → Nat → zw_H → Prop) : Prop :=
  oc_ h a0 [1] (f_X1_loaded K a0 h (fun v1 h1 =>
  og_I h1 v1 [2] 2 (fun v2 =>
  (f_X1_checkIndex K a1 (v2 + 1) h1 (fun h2 =>
  (f_X1_checkIndex K a2 ((1 : Int32) <<< (a1 &&& 31)) h2 (fun h3 =>
  og_A h3 a0 [1] 4 (fun v3 =>
  oc_ h3 v3 [2] (f_X4_box K v3 a1 a2 h3 (fun v4 h4 =>
  Q v4 h4) X))) X)) X))) X)
abbrev rm_X5_first : Room := { frames := 0, cells := 0, slots := 0, locals := 0 }
def f_X5_first (K : Nat → Option Nat) (a0 : Option Nat) (h : zw_H) (Q : Int32 → zw_H → Prop) (X : String → Nat → zw_H → Prop) : Prop :=
  og_I h a0 [4] 1 (fun v1 =>
  og_I h a0 [4] 2 (fun v2 =>
  Q (v1 * v2) h))
abbrev rm_X5_has : Room := { frames := 0, cells := 0, slots := 0, locals := 0 }
def f_X5_has (K : Nat → Option Nat) (a0 : Option Nat) (a1 : Int32) (h : zw_H) (Q : Int32 → zw_H → Prop) (X : String → Nat → zw_H → Prop) : Prop :=
  og_I h a0 [4] 2 (fun v1 =>
  ((v1 : Int32) ≠ 0 ∧ 
  og_I h a0 [4] 1 (fun v2 =>
  if (a1 / v1) ≠ v2 then
    Q 0 h
  else
    Q 1 h)))
abbrev rm_X4_bodiesIn : Room := { frames := 4, cells := 0, slots := 0, locals := 85 }
def f_X4_bodiesIn_B4 (K : Nat → Option Nat) (Q : Int32 → zw_H → Prop) (X : String → Nat → zw_H → Prop)  (k36 : Int32 → zw_H → Prop) (l0 : Option Nat) (l1 : Option Nat) (R : Int32 → Int32 → zw_H → Prop) (l2 : Int32) (l3 : Int32) (h : zw_H) : Prop :=
  oc_ h l0 [2] (f_X4_size K l0 h (fun v1 h1 =>
  if v1 ≤ l3 then
    k36 l2 h1
  else
    oc_ h1 l0 [2] (f_X4_at K l0 l3 h1 (fun v2 h2 =>
    og_I h2 v2 [6, 7] 0 (fun v3 =>
    oc_ h2 l1 [4] (f_X5_has K l1 v3 h2 (fun v4 h3 =>
    (f_X1_flag K v4 h3 (fun v5 h4 =>
    olet (l2 + v5 : Int32) (fun v6 =>
    olet (l3 + 1) (fun v7 =>
    R v6 v7 h4))) X)) X))) X)) X)
def f_X4_bodiesIn (K : Nat → Option Nat) (a0 : Option Nat) (a1 : Option Nat) (h : zw_H) (Q : Int32 → zw_H → Prop) (X : String → Nat → zw_H → Prop) : Prop :=
  zl3 (f_X4_bodiesIn_B4 K Q X (fun v8 h5 =>
    Q v8 h5) a0 a1) zfu 0 0 h
abbrev rm_X4_raised : Room := { frames := 0, cells := 0, slots := 0, locals := 0 }
def f_X4_raised_B5 (K : Nat → Option Nat) (Q : Int64 → zw_H → Prop) (X : String → Nat → zw_H → Prop)  (k21 : Int64 → zw_H → Prop) (l0 : Int64) (l2 : Int32) (R : Int64 → Int32 → zw_H → Prop) (l3 : Int64) (l5 : Int32) (h : zw_H) : Prop :=
  if l2 ≤ l5 then
    k21 l3 h
  else
    olet (l3 * l0 : Int64) (fun v1 =>
    olet (l5 + 1) (fun v2 =>
    R v1 v2 h))
def f_X4_raised (K : Nat → Option Nat) (a0 : Int64) (a1 : Int32) (h : zw_H) (Q : Int64 → zw_H → Prop) (X : String → Nat → zw_H → Prop) : Prop :=
  zl3 (f_X4_raised_B5 K Q X (fun v3 h1 =>
    Q v3 h1) a0 a1) zfu 1 0 h
abbrev rm_X4_moment : Room := { frames := 4, cells := 0, slots := 0, locals := 85 }
def f_X4_moment_J59 (K : Nat → Option Nat) (Q : Int64 → zw_H → Prop) (X : String → Nat → zw_H → Prop) (R : Int64 → Int32 → zw_H → Prop) (k65 : Int64 → zw_H → Prop) (l0 : Option Nat) (l1 : Option Nat) (l2 : Int32) (l3 : Int64) (l5 : Int32)  (h : zw_H) : Prop :=
  olet (l5 + 1) (fun v5 =>
  R l3 v5 h)
def f_X4_moment_B5 (K : Nat → Option Nat) (Q : Int64 → zw_H → Prop) (X : String → Nat → zw_H → Prop)  (k65 : Int64 → zw_H → Prop) (l0 : Option Nat) (l1 : Option Nat) (l2 : Int32) (R : Int64 → Int32 → zw_H → Prop) (l3 : Int64) (l5 : Int32) (h : zw_H) : Prop :=
  oc_ h l0 [2] (f_X4_size K l0 h (fun v1 h1 =>
  if v1 ≤ l5 then
    k65 l3 h1
  else
    oc_ h1 l0 [2] (f_X4_at K l0 l5 h1 (fun v2 h2 =>
    og_I h2 v2 [6, 7] 0 (fun v3 =>
    oc_ h2 l1 [4] (f_X5_has K l1 v3 h2 (fun v4 h3 =>
    if v4 = 0 then
      f_X4_moment_J59 K Q X R k65 l0 l1 l2 l3 l5  h3
    else
      og_I h3 v2 [6, 7] 1 (fun v6 =>
      og_I h3 v2 [6, 7] 0 (fun v7 =>
      og_I h3 l1 [4] 3 (fun v8 =>
      (f_X4_raised K ((v7 - v8).toInt64) l2 h3 (fun v9 h4 =>
      olet (l3 + (v6.toInt64 * v9) : Int64) (fun v10 =>
      f_X4_moment_J59 K Q X R k65 l0 l1 l2 v10 l5  h4)) X))))) X))) X)) X)
def f_X4_moment (K : Nat → Option Nat) (a0 : Option Nat) (a1 : Option Nat) (a2 : Int32) (h : zw_H) (Q : Int64 → zw_H → Prop) (X : String → Nat → zw_H → Prop) : Prop :=
  zl3 (f_X4_moment_B5 K Q X (fun v11 h5 =>
    Q v11 h5) a0 a1 a2) zfu 0 0 h
abbrev rm_X4_chargesIn : Room := { frames := 5, cells := 0, slots := 0, locals := 111 }
def f_X4_chargesIn (K : Nat → Option Nat) (a0 : Option Nat) (a1 : Option Nat) (h : zw_H) (Q : Int32 → zw_H → Prop) (X : String → Nat → zw_H → Prop) : Prop :=
  oc_ h a0 [2] (f_X4_moment K a0 a1 0 h (fun v1 h1 =>
  Q v1.toInt32 h1) X)
abbrev rm_X4_weightsIn : Room := { frames := 4, cells := 0, slots := 0, locals := 85 }
def f_X4_weightsIn_J43 (K : Nat → Option Nat) (Q : Int32 → zw_H → Prop) (X : String → Nat → zw_H → Prop) (R : Int32 → Int32 → zw_H → Prop) (k51 : Int32 → zw_H → Prop) (l0 : Option Nat) (l1 : Option Nat) (l3 : Int32) (s0 : Int32) (s1 : Int32) (h : zw_H) : Prop :=
  olet (s1 + s0 : Int32) (fun v5 =>
  olet (l3 + 1) (fun v6 =>
  R v5 v6 h))
def f_X4_weightsIn_B4 (K : Nat → Option Nat) (Q : Int32 → zw_H → Prop) (X : String → Nat → zw_H → Prop)  (k51 : Int32 → zw_H → Prop) (l0 : Option Nat) (l1 : Option Nat) (R : Int32 → Int32 → zw_H → Prop) (l2 : Int32) (l3 : Int32) (h : zw_H) : Prop :=
  oc_ h l0 [2] (f_X4_size K l0 h (fun v1 h1 =>
  if v1 ≤ l3 then
    k51 l2 h1
  else
    oc_ h1 l0 [2] (f_X4_at K l0 l3 h1 (fun v2 h2 =>
    og_I h2 v2 [6, 7] 0 (fun v3 =>
    oc_ h2 l1 [4] (f_X5_has K l1 v3 h2 (fun v4 h3 =>
    if v4 = 0 then
      f_X4_weightsIn_J43 K Q X R k51 l0 l1 l3 0 l2 h3
    else
      oc_ h3 l0 [2] (f_X4_at K l0 l3 h3 (fun v7 h4 =>
      og_I h4 v7 [6, 7] 1 (fun v8 =>
      (f_J14_abs K v8 h4 (fun v9 h5 =>
      f_X4_weightsIn_J43 K Q X R k51 l0 l1 l3 v9 l2 h5) X))) X)) X))) X)) X)
def f_X4_weightsIn (K : Nat → Option Nat) (a0 : Option Nat) (a1 : Option Nat) (h : zw_H) (Q : Int32 → zw_H → Prop) (X : String → Nat → zw_H → Prop) : Prop :=
  zl3 (f_X4_weightsIn_B4 K Q X (fun v10 h6 =>
    Q v10 h6) a0 a1) zfu 0 0 h
abbrev rm_X1_box : Room := { frames := 9, cells := 4, slots := 24, locals := 182 }
def f_X1_box (K : Nat → Option Nat) (a0 : Option Nat) (a1 : Int32) (a2 : Int32) (a3 : Int32) (h : zw_H) (Q : Int32 → zw_H → Prop) (X : String → Nat → zw_H → Prop) : Prop :=
  oc_ h a0 [1] (f_X1_boxOf K a0 a1 a2 h (fun v1 h1 =>
  if a3 = 0 then
    oc_ h1 v1 [4] (f_X5_first K v1 h1 (fun v2 h2 =>
    Q v2 h2) X)
  else if a3 = 1 then
    og_I h1 v1 [4] 2 (fun v3 =>
    Q v3 h1)
  else if a3 = 2 then
    og_I h1 v1 [4] 3 (fun v4 =>
    Q v4 h1)
  else if a3 = 3 then
    og_A h1 a0 [1] 4 (fun v5 =>
    oc_ h1 v5 [2] (f_X4_bodiesIn K v5 v1 h1 (fun v6 h3 =>
    Q v6 h3) X))
  else if a3 = 4 then
    og_A h1 a0 [1] 4 (fun v7 =>
    oc_ h1 v7 [2] (f_X4_chargesIn K v7 v1 h1 (fun v8 h4 =>
    Q v8 h4) X))
  else if a3 = 5 then
    og_A h1 a0 [1] 4 (fun v9 =>
    oc_ h1 v9 [2] (f_X4_weightsIn K v9 v1 h1 (fun v10 h5 =>
    Q v10 h5) X))
  else ((a3.toInt < 0 ∨ 5 < a3.toInt) ∧
    (∀ q9 : Nat, X "java/lang/IllegalArgumentException" q9 h1))) X)
abbrev rm_X1_boxAt : Room := { frames := 9, cells := 5, slots := 30, locals := 182 }
def f_X1_boxAt (K : Nat → Option Nat) (a0 : Option Nat) (a1 : Int32) (a2 : Int32) (h : zw_H) (Q : Int32 → zw_H → Prop) (X : String → Nat → zw_H → Prop) : Prop :=
  oc_ h a0 [1] (f_X1_boxOf K a0 a1 0 h (fun v1 h1 =>
  oc_ h1 a0 [1] (f_X1_at K a0 a2 h1 (fun v2 h2 =>
  oc_ h2 v2 [2] (f_X4_around K v2 a1 a2 h2 (fun v3 h3 =>
  og_I h3 v3 [4] 1 (fun v4 =>
  Q v4 h3)) X)) X)) X)
abbrev rm_J20_numberOfTrailingZeros : Room := { frames := 0, cells := 0, slots := 0, locals := 0 }
def f_J20_numberOfTrailingZeros_J74 (K : Nat → Option Nat) (Q : Int32 → zw_H → Prop) (X : String → Nat → zw_H → Prop)  (l0 : Int32) (l1 : Int32)  (h : zw_H) : Prop :=
  Q (l1 + ((l0.toUInt32 >>> ((1 : Int32).toUInt32 &&& Int32.toUInt32 31)).toInt32)) h
def f_J20_numberOfTrailingZeros_J62 (K : Nat → Option Nat) (Q : Int32 → zw_H → Prop) (X : String → Nat → zw_H → Prop)  (l0 : Int32) (l1 : Int32)  (h : zw_H) : Prop :=
  if l0 ≤ 4 then
    f_J20_numberOfTrailingZeros_J74 K Q X  l0 l1  h
  else
    olet (l1 + 2) (fun v2 =>
    olet ((l0.toUInt32 >>> ((2 : Int32).toUInt32 &&& Int32.toUInt32 31)).toInt32 : Int32) (fun v3 =>
    f_J20_numberOfTrailingZeros_J74 K Q X  v3 v2  h))
def f_J20_numberOfTrailingZeros_J49 (K : Nat → Option Nat) (Q : Int32 → zw_H → Prop) (X : String → Nat → zw_H → Prop)  (l0 : Int32) (l1 : Int32)  (h : zw_H) : Prop :=
  if l0 ≤ 16 then
    f_J20_numberOfTrailingZeros_J62 K Q X  l0 l1  h
  else
    olet (l1 + 4) (fun v4 =>
    olet ((l0.toUInt32 >>> ((4 : Int32).toUInt32 &&& Int32.toUInt32 31)).toInt32 : Int32) (fun v5 =>
    f_J20_numberOfTrailingZeros_J62 K Q X  v5 v4  h))
def f_J20_numberOfTrailingZeros_J34 (K : Nat → Option Nat) (Q : Int32 → zw_H → Prop) (X : String → Nat → zw_H → Prop)  (l0 : Int32) (l1 : Int32)  (h : zw_H) : Prop :=
  if l0 ≤ 256 then
    f_J20_numberOfTrailingZeros_J49 K Q X  l0 l1  h
  else
    olet (l1 + 8) (fun v6 =>
    olet ((l0.toUInt32 >>> ((8 : Int32).toUInt32 &&& Int32.toUInt32 31)).toInt32 : Int32) (fun v7 =>
    f_J20_numberOfTrailingZeros_J49 K Q X  v7 v6  h))
def f_J20_numberOfTrailingZeros (K : Nat → Option Nat) (a0 : Int32) (h : zw_H) (Q : Int32 → zw_H → Prop) (X : String → Nat → zw_H → Prop) : Prop :=
  olet ((a0 ^^^ (-1)) &&& (a0 - 1) : Int32) (fun v1 =>
  if (0 : Int32) < v1 then
    if v1 ≤ (65536 : Int32) then
      f_J20_numberOfTrailingZeros_J34 K Q X  v1 1  h
    else
      olet (1 + 16) (fun v8 =>
      olet ((v1.toUInt32 >>> ((16 : Int32).toUInt32 &&& Int32.toUInt32 31)).toInt32 : Int32) (fun v9 =>
      f_J20_numberOfTrailingZeros_J34 K Q X  v9 v8  h))
  else
    Q (v1 &&& 32) h)
abbrev rm_J26_numberOfTrailingZeros : Room := { frames := 1, cells := 0, slots := 0, locals := 21 }
def f_J26_numberOfTrailingZeros (K : Nat → Option Nat) (a0 : Int64) (h : zw_H) (Q : Int32 → zw_H → Prop) (X : String → Nat → zw_H → Prop) : Prop :=
  if a0.toInt32 ≠ 0 then
    (f_J20_numberOfTrailingZeros K a0.toInt32 h (fun v1 h1 =>
    Q v1 h1) X)
  else
    (f_J20_numberOfTrailingZeros K (((a0.toUInt64 >>> ((32 : Int32).toInt64.toUInt64 &&& Int64.toUInt64 63)).toInt64).toInt32) h (fun v2 h2 =>
    Q ((32 : Int32) + v2) h2) X)
abbrev rm_J25_nextClearBit : Room := { frames := 15, cells := 0, slots := 0, locals := 336 }
def f_J25_nextClearBit_B67 (K : Nat → Option Nat) (Q : Int32 → zw_H → Prop) (X : String → Nat → zw_H → Prop)  (k73 : Int32 → Int64 → zw_H → Prop) (k94 : zw_H → Prop) (l0 : Option Nat) (R : Int32 → Int64 → zw_H → Prop) (l2 : Int32) (l3 : Int64) (h : zw_H) : Prop :=
  if (lg_cmp l3 0) = 0 then
    olet (l2 + 1) (fun v6 =>
    og_I h l0 [16] 1 (fun v7 =>
    if v6 ≠ v7 then
      og_A h l0 [16] 0 (fun v8 =>
      oa_J h v8 [3] v6 (fun v9 =>
      olet (v9 ^^^ (-1 : Int64) : Int64) (fun v10 =>
      R v6 v10 h)))
    else
      k94  h))
  else
    k73 l2 l3 h
def f_J25_nextClearBit (K : Nat → Option Nat) (a0 : Option Nat) (a1 : Int32) (h : zw_H) (Q : Int32 → zw_H → Prop) (X : String → Nat → zw_H → Prop) : Prop :=
  if (0 : Int32) ≤ a1 then
    oc_ h a0 [16] (f_J25_checkInvariants K a0 h (fun h1 =>
    (f_J25_wordIndex K a1 h1 (fun v1 h2 =>
    og_I h2 a0 [16] 1 (fun v2 =>
    if v1 < v2 then
      og_A h2 a0 [16] 0 (fun v3 =>
      oa_J h2 v3 [3] v1 (fun v4 =>
      olet ((v4 ^^^ (-1 : Int64)) &&& ((-1 : Int64) <<< (a1.toInt64 &&& 63)) : Int64) (fun v5 =>
      zl3 (f_J25_nextClearBit_B67 K Q X (fun v11 v12 h3 =>
        (f_J26_numberOfTrailingZeros K v12 h3 (fun v13 h4 =>
        Q ((v11 * 64) + v13) h4) X)) (fun h5 =>
        og_I h5 a0 [16] 1 (fun v14 =>
        Q (v14 * 64) h5)) a0) zfu v1 v5 h2)))
    else
      Q a1 h2)) X)) X)
  else
    False
abbrev rm_X1_firstEmpty : Room := { frames := 17, cells := 3, slots := 13, locals := 380 }
def f_X1_firstEmpty (K : Nat → Option Nat) (a0 : Option Nat) (h : zw_H) (Q : Int32 → zw_H → Prop) (X : String → Nat → zw_H → Prop) : Prop :=
  oc_ h a0 [1] (f_X1_loaded K a0 h (fun v1 h1 =>
  oc_ h1 v1 [2] (f_X4_leaves K v1 h1 (fun v2 h2 =>
  oc_ h2 v2 [16] (f_J25_nextClearBit K v2 0 h2 (fun v3 h3 =>
  og_A h3 a0 [1] 4 (fun v4 =>
  og_I h3 v4 [2] 2 (fun v5 =>
  if ((1 : Int32) <<< (v5 &&& 31)) ≤ v3 then
    Q (-1) h3
  else
    Q v3 h3))) X)) X)) X)
abbrev rm_J25_nextSetBit : Room := { frames := 15, cells := 0, slots := 0, locals := 336 }
def f_J25_nextSetBit_B63 (K : Nat → Option Nat) (Q : Int32 → zw_H → Prop) (X : String → Nat → zw_H → Prop)  (k69 : Int32 → Int64 → zw_H → Prop) (k90 : zw_H → Prop) (l0 : Option Nat) (R : Int32 → Int64 → zw_H → Prop) (l2 : Int32) (l3 : Int64) (h : zw_H) : Prop :=
  if (lg_cmp l3 0) = 0 then
    olet (l2 + 1) (fun v6 =>
    og_I h l0 [16] 1 (fun v7 =>
    if v6 ≠ v7 then
      og_A h l0 [16] 0 (fun v8 =>
      oa_J h v8 [3] v6 (fun v9 =>
      R v6 v9 h))
    else
      k90  h))
  else
    k69 l2 l3 h
def f_J25_nextSetBit (K : Nat → Option Nat) (a0 : Option Nat) (a1 : Int32) (h : zw_H) (Q : Int32 → zw_H → Prop) (X : String → Nat → zw_H → Prop) : Prop :=
  if (0 : Int32) ≤ a1 then
    oc_ h a0 [16] (f_J25_checkInvariants K a0 h (fun h1 =>
    (f_J25_wordIndex K a1 h1 (fun v1 h2 =>
    og_I h2 a0 [16] 1 (fun v2 =>
    if v1 < v2 then
      og_A h2 a0 [16] 0 (fun v3 =>
      oa_J h2 v3 [3] v1 (fun v4 =>
      olet (v4 &&& ((-1 : Int64) <<< (a1.toInt64 &&& 63)) : Int64) (fun v5 =>
      zl3 (f_J25_nextSetBit_B63 K Q X (fun v10 v11 h3 =>
        (f_J26_numberOfTrailingZeros K v11 h3 (fun v12 h4 =>
        Q ((v10 * 64) + v12) h4) X)) (fun h5 =>
        Q (-1) h5) a0) zfu v1 v5 h2)))
    else
      Q (-1) h2)) X)) X)
  else
    False
abbrev rm_X1_densest : Room := { frames := 17, cells := 3, slots := 13, locals := 380 }
def f_X1_densest_J64 (K : Nat → Option Nat) (Q : Int32 → zw_H → Prop) (X : String → Nat → zw_H → Prop) (R : Int32 → Int32 → Int32 → zw_H → Prop) (k77 : Int32 → zw_H → Prop) (l0 : Option Nat) (l1 : Option Nat) (l2 : Int32) (l3 : Int32) (l4 : Int32)  (h : zw_H) : Prop :=
  oc_ h l1 [16] (f_J25_nextSetBit K l1 (l4 + 1) h (fun v10 h6 =>
  R l2 l3 v10 h6) X)
def f_X1_densest_B19 (K : Nat → Option Nat) (Q : Int32 → zw_H → Prop) (X : String → Nat → zw_H → Prop)  (k77 : Int32 → zw_H → Prop) (l0 : Option Nat) (l1 : Option Nat) (R : Int32 → Int32 → Int32 → zw_H → Prop) (l2 : Int32) (l3 : Int32) (l4 : Int32) (h : zw_H) : Prop :=
  if l4 < 0 then
    k77 l2 h
  else
    og_A h l0 [1] 4 (fun v4 =>
    og_A h l0 [1] 4 (fun v5 =>
    og_A h l0 [1] 4 (fun v6 =>
    og_I h v6 [2] 2 (fun v7 =>
    oc_ h v5 [2] (f_X4_box K v5 v7 l4 h (fun v8 h4 =>
    oc_ h4 v4 [2] (f_X4_bodiesIn K v4 v8 h4 (fun v9 h5 =>
    if l3 < v9 then
      f_X1_densest_J64 K Q X R k77 l0 l1 l4 v9 l4  h5
    else
      f_X1_densest_J64 K Q X R k77 l0 l1 l2 l3 l4  h5) X)) X)))))
def f_X1_densest (K : Nat → Option Nat) (a0 : Option Nat) (h : zw_H) (Q : Int32 → zw_H → Prop) (X : String → Nat → zw_H → Prop) : Prop :=
  oc_ h a0 [1] (f_X1_loaded K a0 h (fun v1 h1 =>
  oc_ h1 v1 [2] (f_X4_leaves K v1 h1 (fun v2 h2 =>
  oc_ h2 v2 [16] (f_J25_nextSetBit K v2 0 h2 (fun v3 h3 =>
  zl4 (f_X1_densest_B19 K Q X (fun v11 h7 =>
    Q v11 h7) a0 v2) zfu (-1) 0 v3 h3) X)) X)) X)
abbrev rm_X1_checkOrder : Room := { frames := 7, cells := 1, slots := 6, locals := 140 }
def f_X1_checkOrder (K : Nat → Option Nat) (a0 : Int32) (h : zw_H) (Q : zw_H → Prop) (X : String → Nat → zw_H → Prop) : Prop :=
  (f_X1_in K a0.toInt64 0 (4 : Int64) h (fun v1 h1 =>
  (f_X1_checkArgument K v1 h1 (fun h2 =>
  Q h2) X)) X)
abbrev rm_X1_moment : Room := { frames := 9, cells := 4, slots := 24, locals := 182 }
def f_X1_moment (K : Nat → Option Nat) (a0 : Option Nat) (a1 : Int32) (a2 : Int32) (a3 : Int32) (h : zw_H) (Q : Int64 → zw_H → Prop) (X : String → Nat → zw_H → Prop) : Prop :=
  oc_ h a0 [1] (f_X1_boxOf K a0 a1 a2 h (fun v1 h1 =>
  (f_X1_checkOrder K a3 h1 (fun h2 =>
  og_A h2 a0 [1] 4 (fun v2 =>
  oc_ h2 v2 [2] (f_X4_moment K v2 v1 a3 h2 (fun v3 h3 =>
  Q v3 h3) X))) X)) X)
abbrev rm_X1_choose : Room := { frames := 0, cells := 0, slots := 0, locals := 0 }
def f_X1_choose_B5 (K : Nat → Option Nat) (Q : Int64 → zw_H → Prop) (X : String → Nat → zw_H → Prop)  (k31 : Int64 → zw_H → Prop) (l0 : Int32) (l1 : Int32) (R : Int64 → Int32 → zw_H → Prop) (l2 : Int64) (l4 : Int32) (h : zw_H) : Prop :=
  if l1 < l4 then
    k31 l2 h
  else
    ((l4.toInt64 : Int64) ≠ 0 ∧ 
    olet ((l2 * (((l0 - l1) + l4).toInt64)) / l4.toInt64 : Int64) (fun v1 =>
    olet (l4 + 1) (fun v2 =>
    R v1 v2 h)))
def f_X1_choose (K : Nat → Option Nat) (a0 : Int32) (a1 : Int32) (h : zw_H) (Q : Int64 → zw_H → Prop) (X : String → Nat → zw_H → Prop) : Prop :=
  zl3 (f_X1_choose_B5 K Q X (fun v3 h1 =>
    Q v3 h1) a0 a1) zfu 1 1 h
abbrev rm_X4_shifts5 : Room := { frames := 1, cells := 0, slots := 0, locals := 25 }
def f_X4_shifts5_B6 (K : Nat → Option Nat) (Q : Int64 → zw_H → Prop) (X : String → Nat → zw_H → Prop)  (k55 : Int64 → zw_H → Prop) (l0 : Option Nat) (l1 : Option Nat) (l2 : Option Nat) (l3 : Int32) (R : Int64 → Int32 → zw_H → Prop) (l4 : Int64) (l6 : Int32) (h : zw_H) : Prop :=
  if l3 < l6 then
    k55 l4 h
  else
    False
def f_X4_shifts5 (K : Nat → Option Nat) (a0 : Option Nat) (a1 : Option Nat) (a2 : Option Nat) (a3 : Int32) (h : zw_H) (Q : Int64 → zw_H → Prop) (X : String → Nat → zw_H → Prop) : Prop :=
  zl3 (f_X4_shifts5_B6 K Q X (fun v1 h1 =>
    Q v1 h1) a0 a1 a2 a3) zfu 0 0 h
abbrev rm_X4_shifteds5 : Room := { frames := 5, cells := 0, slots := 0, locals := 111 }
def f_X4_shifteds5 (K : Nat → Option Nat) (a0 : Option Nat) (a1 : Option Nat) (a2 : Int32) (h : zw_H) (Q : Int64 → zw_H → Prop) (X : String → Nat → zw_H → Prop) : Prop :=
  og_I h a1 [4] 0 (fun v1 =>
  og_I h a0 [2] 2 (fun v2 =>
  if v1 ≠ v2 then
    og_I h a1 [4] 0 (fun v3 =>
    og_I h a1 [4] 1 (fun v4 =>
    oc_ h a0 [2] (f_X4_box K a0 (v3 + 1) ((2 : Int32) * v4) h (fun v5 h1 =>
    oc_ h1 a0 [2] (f_X4_shifts5 K a0 v5 a1 a2 h1 (fun v6 h2 =>
    og_I h2 a1 [4] 0 (fun v7 =>
    og_I h2 a1 [4] 1 (fun v8 =>
    oc_ h2 a0 [2] (f_X4_box K a0 (v7 + 1) (((2 : Int32) * v8) + 1) h2 (fun v9 h3 =>
    oc_ h3 a0 [2] (f_X4_shifts5 K a0 v9 a1 a2 h3 (fun v10 h4 =>
    Q (v6 + v10) h4) X)) X)))) X)) X)))
  else
    oc_ h a0 [2] (f_X4_moment K a0 a1 a2 h (fun v11 h5 =>
    Q v11 h5) X)))
abbrev rm_X4_shifts4 : Room := { frames := 6, cells := 0, slots := 0, locals := 133 }
def f_X4_shifts4_B6 (K : Nat → Option Nat) (Q : Int64 → zw_H → Prop) (X : String → Nat → zw_H → Prop)  (k55 : Int64 → zw_H → Prop) (l0 : Option Nat) (l1 : Option Nat) (l2 : Option Nat) (l3 : Int32) (R : Int64 → Int32 → zw_H → Prop) (l4 : Int64) (l6 : Int32) (h : zw_H) : Prop :=
  if l3 < l6 then
    k55 l4 h
  else
    (f_X1_choose K l3 l6 h (fun v1 h1 =>
    oc_ h1 l0 [2] (f_X4_shifteds5 K l0 l1 l6 h1 (fun v2 h2 =>
    og_I h2 l1 [4] 3 (fun v3 =>
    og_I h2 l2 [4] 3 (fun v4 =>
    (f_X4_raised K ((v3 - v4).toInt64) (l3 - l6) h2 (fun v5 h3 =>
    olet (l4 + ((v1 * v2) * v5) : Int64) (fun v6 =>
    olet (l6 + 1) (fun v7 =>
    R v6 v7 h3))) X)))) X)) X)
def f_X4_shifts4 (K : Nat → Option Nat) (a0 : Option Nat) (a1 : Option Nat) (a2 : Option Nat) (a3 : Int32) (h : zw_H) (Q : Int64 → zw_H → Prop) (X : String → Nat → zw_H → Prop) : Prop :=
  zl3 (f_X4_shifts4_B6 K Q X (fun v8 h4 =>
    Q v8 h4) a0 a1 a2 a3) zfu 0 0 h
abbrev rm_X4_shifteds4 : Room := { frames := 7, cells := 0, slots := 0, locals := 159 }
def f_X4_shifteds4 (K : Nat → Option Nat) (a0 : Option Nat) (a1 : Option Nat) (a2 : Int32) (h : zw_H) (Q : Int64 → zw_H → Prop) (X : String → Nat → zw_H → Prop) : Prop :=
  og_I h a1 [4] 0 (fun v1 =>
  og_I h a0 [2] 2 (fun v2 =>
  if v1 ≠ v2 then
    og_I h a1 [4] 0 (fun v3 =>
    og_I h a1 [4] 1 (fun v4 =>
    oc_ h a0 [2] (f_X4_box K a0 (v3 + 1) ((2 : Int32) * v4) h (fun v5 h1 =>
    oc_ h1 a0 [2] (f_X4_shifts4 K a0 v5 a1 a2 h1 (fun v6 h2 =>
    og_I h2 a1 [4] 0 (fun v7 =>
    og_I h2 a1 [4] 1 (fun v8 =>
    oc_ h2 a0 [2] (f_X4_box K a0 (v7 + 1) (((2 : Int32) * v8) + 1) h2 (fun v9 h3 =>
    oc_ h3 a0 [2] (f_X4_shifts4 K a0 v9 a1 a2 h3 (fun v10 h4 =>
    Q (v6 + v10) h4) X)) X)))) X)) X)))
  else
    oc_ h a0 [2] (f_X4_moment K a0 a1 a2 h (fun v11 h5 =>
    Q v11 h5) X)))
abbrev rm_X4_shifts3 : Room := { frames := 8, cells := 0, slots := 0, locals := 181 }
def f_X4_shifts3_B6 (K : Nat → Option Nat) (Q : Int64 → zw_H → Prop) (X : String → Nat → zw_H → Prop)  (k55 : Int64 → zw_H → Prop) (l0 : Option Nat) (l1 : Option Nat) (l2 : Option Nat) (l3 : Int32) (R : Int64 → Int32 → zw_H → Prop) (l4 : Int64) (l6 : Int32) (h : zw_H) : Prop :=
  if l3 < l6 then
    k55 l4 h
  else
    (f_X1_choose K l3 l6 h (fun v1 h1 =>
    oc_ h1 l0 [2] (f_X4_shifteds4 K l0 l1 l6 h1 (fun v2 h2 =>
    og_I h2 l1 [4] 3 (fun v3 =>
    og_I h2 l2 [4] 3 (fun v4 =>
    (f_X4_raised K ((v3 - v4).toInt64) (l3 - l6) h2 (fun v5 h3 =>
    olet (l4 + ((v1 * v2) * v5) : Int64) (fun v6 =>
    olet (l6 + 1) (fun v7 =>
    R v6 v7 h3))) X)))) X)) X)
def f_X4_shifts3 (K : Nat → Option Nat) (a0 : Option Nat) (a1 : Option Nat) (a2 : Option Nat) (a3 : Int32) (h : zw_H) (Q : Int64 → zw_H → Prop) (X : String → Nat → zw_H → Prop) : Prop :=
  zl3 (f_X4_shifts3_B6 K Q X (fun v8 h4 =>
    Q v8 h4) a0 a1 a2 a3) zfu 0 0 h
abbrev rm_X4_shifteds3 : Room := { frames := 9, cells := 0, slots := 0, locals := 207 }
def f_X4_shifteds3 (K : Nat → Option Nat) (a0 : Option Nat) (a1 : Option Nat) (a2 : Int32) (h : zw_H) (Q : Int64 → zw_H → Prop) (X : String → Nat → zw_H → Prop) : Prop :=
  og_I h a1 [4] 0 (fun v1 =>
  og_I h a0 [2] 2 (fun v2 =>
  if v1 ≠ v2 then
    og_I h a1 [4] 0 (fun v3 =>
    og_I h a1 [4] 1 (fun v4 =>
    oc_ h a0 [2] (f_X4_box K a0 (v3 + 1) ((2 : Int32) * v4) h (fun v5 h1 =>
    oc_ h1 a0 [2] (f_X4_shifts3 K a0 v5 a1 a2 h1 (fun v6 h2 =>
    og_I h2 a1 [4] 0 (fun v7 =>
    og_I h2 a1 [4] 1 (fun v8 =>
    oc_ h2 a0 [2] (f_X4_box K a0 (v7 + 1) (((2 : Int32) * v8) + 1) h2 (fun v9 h3 =>
    oc_ h3 a0 [2] (f_X4_shifts3 K a0 v9 a1 a2 h3 (fun v10 h4 =>
    Q (v6 + v10) h4) X)) X)))) X)) X)))
  else
    oc_ h a0 [2] (f_X4_moment K a0 a1 a2 h (fun v11 h5 =>
    Q v11 h5) X)))
abbrev rm_X4_shifts2 : Room := { frames := 10, cells := 0, slots := 0, locals := 229 }
def f_X4_shifts2_B6 (K : Nat → Option Nat) (Q : Int64 → zw_H → Prop) (X : String → Nat → zw_H → Prop)  (k55 : Int64 → zw_H → Prop) (l0 : Option Nat) (l1 : Option Nat) (l2 : Option Nat) (l3 : Int32) (R : Int64 → Int32 → zw_H → Prop) (l4 : Int64) (l6 : Int32) (h : zw_H) : Prop :=
  if l3 < l6 then
    k55 l4 h
  else
    (f_X1_choose K l3 l6 h (fun v1 h1 =>
    oc_ h1 l0 [2] (f_X4_shifteds3 K l0 l1 l6 h1 (fun v2 h2 =>
    og_I h2 l1 [4] 3 (fun v3 =>
    og_I h2 l2 [4] 3 (fun v4 =>
    (f_X4_raised K ((v3 - v4).toInt64) (l3 - l6) h2 (fun v5 h3 =>
    olet (l4 + ((v1 * v2) * v5) : Int64) (fun v6 =>
    olet (l6 + 1) (fun v7 =>
    R v6 v7 h3))) X)))) X)) X)
def f_X4_shifts2 (K : Nat → Option Nat) (a0 : Option Nat) (a1 : Option Nat) (a2 : Option Nat) (a3 : Int32) (h : zw_H) (Q : Int64 → zw_H → Prop) (X : String → Nat → zw_H → Prop) : Prop :=
  zl3 (f_X4_shifts2_B6 K Q X (fun v8 h4 =>
    Q v8 h4) a0 a1 a2 a3) zfu 0 0 h
abbrev rm_X4_shifteds2 : Room := { frames := 11, cells := 0, slots := 0, locals := 255 }
def f_X4_shifteds2 (K : Nat → Option Nat) (a0 : Option Nat) (a1 : Option Nat) (a2 : Int32) (h : zw_H) (Q : Int64 → zw_H → Prop) (X : String → Nat → zw_H → Prop) : Prop :=
  og_I h a1 [4] 0 (fun v1 =>
  og_I h a0 [2] 2 (fun v2 =>
  if v1 ≠ v2 then
    og_I h a1 [4] 0 (fun v3 =>
    og_I h a1 [4] 1 (fun v4 =>
    oc_ h a0 [2] (f_X4_box K a0 (v3 + 1) ((2 : Int32) * v4) h (fun v5 h1 =>
    oc_ h1 a0 [2] (f_X4_shifts2 K a0 v5 a1 a2 h1 (fun v6 h2 =>
    og_I h2 a1 [4] 0 (fun v7 =>
    og_I h2 a1 [4] 1 (fun v8 =>
    oc_ h2 a0 [2] (f_X4_box K a0 (v7 + 1) (((2 : Int32) * v8) + 1) h2 (fun v9 h3 =>
    oc_ h3 a0 [2] (f_X4_shifts2 K a0 v9 a1 a2 h3 (fun v10 h4 =>
    Q (v6 + v10) h4) X)) X)))) X)) X)))
  else
    oc_ h a0 [2] (f_X4_moment K a0 a1 a2 h (fun v11 h5 =>
    Q v11 h5) X)))
abbrev rm_X4_shifts1 : Room := { frames := 12, cells := 0, slots := 0, locals := 277 }
def f_X4_shifts1_B6 (K : Nat → Option Nat) (Q : Int64 → zw_H → Prop) (X : String → Nat → zw_H → Prop)  (k55 : Int64 → zw_H → Prop) (l0 : Option Nat) (l1 : Option Nat) (l2 : Option Nat) (l3 : Int32) (R : Int64 → Int32 → zw_H → Prop) (l4 : Int64) (l6 : Int32) (h : zw_H) : Prop :=
  if l3 < l6 then
    k55 l4 h
  else
    (f_X1_choose K l3 l6 h (fun v1 h1 =>
    oc_ h1 l0 [2] (f_X4_shifteds2 K l0 l1 l6 h1 (fun v2 h2 =>
    og_I h2 l1 [4] 3 (fun v3 =>
    og_I h2 l2 [4] 3 (fun v4 =>
    (f_X4_raised K ((v3 - v4).toInt64) (l3 - l6) h2 (fun v5 h3 =>
    olet (l4 + ((v1 * v2) * v5) : Int64) (fun v6 =>
    olet (l6 + 1) (fun v7 =>
    R v6 v7 h3))) X)))) X)) X)
def f_X4_shifts1 (K : Nat → Option Nat) (a0 : Option Nat) (a1 : Option Nat) (a2 : Option Nat) (a3 : Int32) (h : zw_H) (Q : Int64 → zw_H → Prop) (X : String → Nat → zw_H → Prop) : Prop :=
  zl3 (f_X4_shifts1_B6 K Q X (fun v8 h4 =>
    Q v8 h4) a0 a1 a2 a3) zfu 0 0 h
abbrev rm_X4_shifteds1 : Room := { frames := 13, cells := 0, slots := 0, locals := 303 }
def f_X4_shifteds1 (K : Nat → Option Nat) (a0 : Option Nat) (a1 : Option Nat) (a2 : Int32) (h : zw_H) (Q : Int64 → zw_H → Prop) (X : String → Nat → zw_H → Prop) : Prop :=
  og_I h a1 [4] 0 (fun v1 =>
  og_I h a0 [2] 2 (fun v2 =>
  if v1 ≠ v2 then
    og_I h a1 [4] 0 (fun v3 =>
    og_I h a1 [4] 1 (fun v4 =>
    oc_ h a0 [2] (f_X4_box K a0 (v3 + 1) ((2 : Int32) * v4) h (fun v5 h1 =>
    oc_ h1 a0 [2] (f_X4_shifts1 K a0 v5 a1 a2 h1 (fun v6 h2 =>
    og_I h2 a1 [4] 0 (fun v7 =>
    og_I h2 a1 [4] 1 (fun v8 =>
    oc_ h2 a0 [2] (f_X4_box K a0 (v7 + 1) (((2 : Int32) * v8) + 1) h2 (fun v9 h3 =>
    oc_ h3 a0 [2] (f_X4_shifts1 K a0 v9 a1 a2 h3 (fun v10 h4 =>
    Q (v6 + v10) h4) X)) X)))) X)) X)))
  else
    oc_ h a0 [2] (f_X4_moment K a0 a1 a2 h (fun v11 h5 =>
    Q v11 h5) X)))
abbrev rm_X4_shifts0 : Room := { frames := 14, cells := 0, slots := 0, locals := 325 }
def f_X4_shifts0_B6 (K : Nat → Option Nat) (Q : Int64 → zw_H → Prop) (X : String → Nat → zw_H → Prop)  (k55 : Int64 → zw_H → Prop) (l0 : Option Nat) (l1 : Option Nat) (l2 : Option Nat) (l3 : Int32) (R : Int64 → Int32 → zw_H → Prop) (l4 : Int64) (l6 : Int32) (h : zw_H) : Prop :=
  if l3 < l6 then
    k55 l4 h
  else
    (f_X1_choose K l3 l6 h (fun v1 h1 =>
    oc_ h1 l0 [2] (f_X4_shifteds1 K l0 l1 l6 h1 (fun v2 h2 =>
    og_I h2 l1 [4] 3 (fun v3 =>
    og_I h2 l2 [4] 3 (fun v4 =>
    (f_X4_raised K ((v3 - v4).toInt64) (l3 - l6) h2 (fun v5 h3 =>
    olet (l4 + ((v1 * v2) * v5) : Int64) (fun v6 =>
    olet (l6 + 1) (fun v7 =>
    R v6 v7 h3))) X)))) X)) X)
def f_X4_shifts0 (K : Nat → Option Nat) (a0 : Option Nat) (a1 : Option Nat) (a2 : Option Nat) (a3 : Int32) (h : zw_H) (Q : Int64 → zw_H → Prop) (X : String → Nat → zw_H → Prop) : Prop :=
  zl3 (f_X4_shifts0_B6 K Q X (fun v8 h4 =>
    Q v8 h4) a0 a1 a2 a3) zfu 0 0 h
abbrev rm_X4_shifteds0 : Room := { frames := 15, cells := 0, slots := 0, locals := 351 }
def f_X4_shifteds0 (K : Nat → Option Nat) (a0 : Option Nat) (a1 : Option Nat) (a2 : Int32) (h : zw_H) (Q : Int64 → zw_H → Prop) (X : String → Nat → zw_H → Prop) : Prop :=
  og_I h a1 [4] 0 (fun v1 =>
  og_I h a0 [2] 2 (fun v2 =>
  if v1 ≠ v2 then
    og_I h a1 [4] 0 (fun v3 =>
    og_I h a1 [4] 1 (fun v4 =>
    oc_ h a0 [2] (f_X4_box K a0 (v3 + 1) ((2 : Int32) * v4) h (fun v5 h1 =>
    oc_ h1 a0 [2] (f_X4_shifts0 K a0 v5 a1 a2 h1 (fun v6 h2 =>
    og_I h2 a1 [4] 0 (fun v7 =>
    og_I h2 a1 [4] 1 (fun v8 =>
    oc_ h2 a0 [2] (f_X4_box K a0 (v7 + 1) (((2 : Int32) * v8) + 1) h2 (fun v9 h3 =>
    oc_ h3 a0 [2] (f_X4_shifts0 K a0 v9 a1 a2 h3 (fun v10 h4 =>
    Q (v6 + v10) h4) X)) X)))) X)) X)))
  else
    oc_ h a0 [2] (f_X4_moment K a0 a1 a2 h (fun v11 h5 =>
    Q v11 h5) X)))
abbrev rm_X1_shifted : Room := { frames := 16, cells := 4, slots := 24, locals := 373 }
def f_X1_shifted (K : Nat → Option Nat) (a0 : Option Nat) (a1 : Int32) (a2 : Int32) (a3 : Int32) (h : zw_H) (Q : Int64 → zw_H → Prop) (X : String → Nat → zw_H → Prop) : Prop :=
  oc_ h a0 [1] (f_X1_boxOf K a0 a1 a2 h (fun v1 h1 =>
  (f_X1_checkOrder K a3 h1 (fun h2 =>
  og_A h2 a0 [1] 4 (fun v2 =>
  oc_ h2 v2 [2] (f_X4_shifteds0 K v2 v1 a3 h2 (fun v3 h3 =>
  Q v3 h3) X))) X)) X)
abbrev rm_J14_abs_2 : Room := { frames := 0, cells := 0, slots := 0, locals := 0 }
def f_J14_abs_2 (K : Nat → Option Nat) (a0 : Int64) (h : zw_H) (Q : Int64 → zw_H → Prop) (X : String → Nat → zw_H → Prop) : Prop :=
  if (0 : Int32) ≤ (lg_cmp a0 0) then
    Q a0 h
  else
    Q (-a0) h
abbrev rm_X4_momentGap : Room := { frames := 16, cells := 0, slots := 0, locals := 373 }
def f_X4_momentGap_B45 (K : Nat → Option Nat) (Q : Int64 → zw_H → Prop) (X : String → Nat → zw_H → Prop)  (k80 : Int64 → zw_H → Prop) (l0 : Option Nat) (l3 : Int32) (l4 : Option Nat) (l5 : Int32) (l6 : Int32) (l7 : Option Nat) (R : Int64 → Int32 → zw_H → Prop) (l1 : Int64) (l8 : Int32) (h : zw_H) : Prop :=
  if (4 : Int32) < l8 then
    k80 l1 h
  else
    oc_ h l0 [2] (f_X4_moment K l0 l7 l8 h (fun v6 h1 =>
    oc_ h1 l0 [2] (f_X4_shifteds0 K l0 l7 l8 h1 (fun v7 h2 =>
    (f_J14_abs_2 K (v6 - v7) h2 (fun v8 h3 =>
    olet (l1 + v8 : Int64) (fun v9 =>
    olet (l8 + 1) (fun v10 =>
    R v9 v10 h3))) X)) X)) X)
def f_X4_momentGap_B28 (K : Nat → Option Nat) (Q : Int64 → zw_H → Prop) (X : String → Nat → zw_H → Prop)  (k86 : Int64 → zw_H → Prop) (l0 : Option Nat) (l3 : Int32) (l4 : Option Nat) (l5 : Int32) (R : Int64 → Int32 → zw_H → Prop) (l1 : Int64) (l6 : Int32) (h : zw_H) : Prop :=
  if l5 ≤ l6 then
    k86 l1 h
  else
    oa_A h l4 [6] l6 (fun v5 =>
    zl3 (f_X4_momentGap_B45 K Q X (fun v11 h4 =>
      olet (l6 + 1) (fun v12 =>
      R v11 v12 h4)) l0 l3 l4 l5 l6 v5) zfu l1 0 h)
def f_X4_momentGap_B4 (K : Nat → Option Nat) (Q : Int64 → zw_H → Prop) (X : String → Nat → zw_H → Prop)  (k92 : Int64 → zw_H → Prop) (l0 : Option Nat) (R : Int64 → Int32 → zw_H → Prop) (l1 : Int64) (l3 : Int32) (h : zw_H) : Prop :=
  og_I h l0 [2] 2 (fun v1 =>
  if v1 < l3 then
    k92 l1 h
  else
    og_A h l0 [2] 1 (fun v2 =>
    oa_A h v2 [7] l3 (fun v3 =>
    ol_ h v3 (fun v4 =>
    zl3 (f_X4_momentGap_B28 K Q X (fun v13 h5 =>
      olet (l3 + 1) (fun v14 =>
      R v13 v14 h5)) l0 l3 v3 v4) zfu l1 0 h))))
def f_X4_momentGap (K : Nat → Option Nat) (a0 : Option Nat) (h : zw_H) (Q : Int64 → zw_H → Prop) (X : String → Nat → zw_H → Prop) : Prop :=
  zl3 (f_X4_momentGap_B4 K Q X (fun v15 h6 =>
    Q v15 h6) a0) zfu 0 0 h
abbrev rm_X1_momentGap : Room := { frames := 17, cells := 1, slots := 6, locals := 401 }
def f_X1_momentGap (K : Nat → Option Nat) (a0 : Option Nat) (h : zw_H) (Q : Int64 → zw_H → Prop) (X : String → Nat → zw_H → Prop) : Prop :=
  oc_ h a0 [1] (f_X1_loaded K a0 h (fun v1 h1 =>
  oc_ h1 v1 [2] (f_X4_momentGap K v1 h1 (fun v2 h2 =>
  Q v2 h2) X)) X)
abbrev rm_J27_init : Room := { frames := 3, cells := 0, slots := 0, locals := 60 }
def f_J27_init (K : Nat → Option Nat) (a0 : Option Nat) (h : zw_H) (Q : zw_H → Prop) (X : String → Nat → zw_H → Prop) : Prop :=
  (a0 ≠ none ∧ f_J11_init K a0 h (fun h1 =>
  Q h1) X)
abbrev rm_J28_init : Room := { frames := 4, cells := 0, slots := 0, locals := 80 }
def f_J28_init (K : Nat → Option Nat) (a0 : Option Nat) (h : zw_H) (Q : zw_H → Prop) (X : String → Nat → zw_H → Prop) : Prop :=
  (a0 ≠ none ∧ f_J27_init K a0 h (fun h1 =>
  op_V h1 a0 [14] 1 (.int 0) (fun h2 =>
  Q h2)) X)
abbrev rm_X4_isNear : Room := { frames := 2, cells := 0, slots := 0, locals := 43 }
def f_X4_isNear (K : Nat → Option Nat) (a0 : Option Nat) (a1 : Option Nat) (a2 : Int32) (h : zw_H) (Q : Int32 → zw_H → Prop) (X : String → Nat → zw_H → Prop) : Prop :=
  og_I h a1 [6, 7] 0 (fun v1 =>
  oc_ h a0 [2] (f_X4_leaf K a0 v1 h (fun v2 h1 =>
  og_I h1 v2 [4] 1 (fun v3 =>
  oc_ h1 a0 [2] (f_X4_leaf K a0 a2 h1 (fun v4 h2 =>
  og_I h2 v4 [4] 1 (fun v5 =>
  (f_X1_in K ((v3 - v5).toInt64) (-1 : Int64) 1 h2 (fun v6 h3 =>
  ((v6 = 0 ∨ v6 = 1) ∧ Q v6 h3)) X))) X))) X))
abbrev rm_J19_init : Room := { frames := 1, cells := 0, slots := 0, locals := 20 }
def f_J19_init (K : Nat → Option Nat) (a0 : Option Nat) (h : zw_H) (Q : zw_H → Prop) (X : String → Nat → zw_H → Prop) : Prop :=
  (a0 ≠ none ∧ 
  Q h)
abbrev rm_J20_init : Room := { frames := 2, cells := 0, slots := 0, locals := 40 }
def f_J20_init (K : Nat → Option Nat) (a0 : Option Nat) (a1 : Int32) (h : zw_H) (Q : zw_H → Prop) (X : String → Nat → zw_H → Prop) : Prop :=
  (a0 ≠ none ∧ f_J19_init K a0 h (fun h1 =>
  op_V h1 a0 [12] 0 (.int a1) (fun h2 =>
  Q h2)) X)
abbrev rm_J20_valueOf : Room := { frames := 3, cells := 1, slots := 1, locals := 61 }
def f_J20_valueOf_J23 (K : Nat → Option Nat) (Q : Option Nat → zw_H → Prop) (X : String → Nat → zw_H → Prop)  (l0 : Int32)  (h : zw_H) : Prop :=
  on_C h (.inr (12, [.int 0])) (fun v1 h1 =>
  (f_J20_init K (some v1) l0 h1 (fun h2 =>
  Q (some v1) h2) X))
def f_J20_valueOf (K : Nat → Option Nat) (a0 : Int32) (h : zw_H) (Q : Option Nat → zw_H → Prop) (X : String → Nat → zw_H → Prop) : Prop :=
  if a0 < (-128) then
    f_J20_valueOf_J23 K Q X  a0  h
  else
    if (127 : Int32) < a0 then
      f_J20_valueOf_J23 K Q X  a0  h
    else
      oa_A h (K 6) [13] (a0 + 128) (fun v2 =>
      Q v2 h)
abbrev rm_J23_init : Room := { frames := 1, cells := 0, slots := 0, locals := 20 }
def f_J23_init (K : Nat → Option Nat) (a0 : Option Nat) (a1 : Option Nat) (a2 : Option Nat) (a3 : Option Nat) (h : zw_H) (Q : zw_H → Prop) (X : String → Nat → zw_H → Prop) : Prop :=
  (a0 ≠ none ∧ 
  op_V h a0 [13] 0 (va_rf a2) (fun h1 =>
  op_V h1 a0 [13] 1 (va_rf a3) (fun h2 =>
  op_V h2 a0 [13] 2 (va_rf a1) (fun h3 =>
  Q h3))))
abbrev rm_J28_linkLast : Room := { frames := 2, cells := 1, slots := 3, locals := 43 }
def f_J28_linkLast_J38 (K : Nat → Option Nat) (Q : zw_H → Prop) (X : String → Nat → zw_H → Prop)  (l0 : Option Nat)  (h : zw_H) : Prop :=
  og_I h l0 [14] 1 (fun v3 =>
  op_V h l0 [14] 1 (.int (v3 + 1)) (fun h5 =>
  og_I h5 l0 [14] 0 (fun v4 =>
  op_V h5 l0 [14] 0 (.int (v4 + 1)) (fun h6 =>
  Q h6))))
def f_J28_linkLast (K : Nat → Option Nat) (a0 : Option Nat) (a1 : Option Nat) (h : zw_H) (Q : zw_H → Prop) (X : String → Nat → zw_H → Prop) : Prop :=
  og_A h a0 [14] 3 (fun v1 =>
  on_C h (.inr (13, [.null, .null, .null])) (fun v2 h1 =>
  (f_J23_init K (some v2) v1 a1 none h1 (fun h2 =>
  op_V h2 a0 [14] 3 (va_rf (some v2)) (fun h3 =>
  if v1 ≠ none then
    op_V h3 v1 [13] 1 (va_rf (some v2)) (fun h4 =>
    f_J28_linkLast_J38 K Q X  a0  h4)
  else
    op_V h3 a0 [14] 2 (va_rf (some v2)) (fun h7 =>
    f_J28_linkLast_J38 K Q X  a0  h7))) X)))
abbrev rm_J28_addLast : Room := { frames := 3, cells := 1, slots := 3, locals := 66 }
def f_J28_addLast (K : Nat → Option Nat) (a0 : Option Nat) (a1 : Option Nat) (h : zw_H) (Q : zw_H → Prop) (X : String → Nat → zw_H → Prop) : Prop :=
  oc_ h a0 [14] (f_J28_linkLast K a0 a1 h (fun h1 =>
  Q h1) X)
abbrev rm_X4_near : Room := { frames := 5, cells := 51, slots := 104, locals := 100 }
def f_X4_near_J39 (K : Nat → Option Nat) (Q : Option Nat → zw_H → Prop) (X : String → Nat → zw_H → Prop) (R : Int32 → zw_H → Prop) (k45 : zw_H → Prop) (l0 : Option Nat) (l1 : Int32) (l2 : Option Nat) (l3 : Int32)  (h : zw_H) : Prop :=
  olet (l3 + 1) (fun v5 =>
  R v5 h)
def f_X4_near_B10 (K : Nat → Option Nat) (Q : Option Nat → zw_H → Prop) (X : String → Nat → zw_H → Prop)  (k45 : zw_H → Prop) (l0 : Option Nat) (l1 : Int32) (l2 : Option Nat) (R : Int32 → zw_H → Prop) (l3 : Int32) (h : zw_H) : Prop :=
  oc_ h l0 [2] (f_X4_size K l0 h (fun v2 h3 =>
  if v2 ≤ l3 then
    k45  h3
  else
    oc_ h3 l0 [2] (f_X4_at K l0 l3 h3 (fun v3 h4 =>
    oc_ h4 l0 [2] (f_X4_isNear K l0 v3 l1 h4 (fun v4 h5 =>
    if v4 = 0 then
      f_X4_near_J39 K Q X R k45 l0 l1 l2 l3  h5
    else
      (f_J20_valueOf K l3 h5 (fun v6 h6 =>
      oc_ h6 l2 [14] (f_J28_addLast K l2 v6 h6 (fun h7 =>
      f_X4_near_J39 K Q X R k45 l0 l1 l2 l3  h7) X)) X)) X)) X)) X)
def f_X4_near (K : Nat → Option Nat) (a0 : Option Nat) (a1 : Int32) (h : zw_H) (Q : Option Nat → zw_H → Prop) (X : String → Nat → zw_H → Prop) : Prop :=
  on_C h (.inr (14, [.int 0, .int 0, .null, .null])) (fun v1 h1 =>
  (f_J28_init K (some v1) h1 (fun h2 =>
  zl2 (f_X4_near_B10 K Q X (fun h8 =>
    Q (some v1) h8) a0 a1 (some v1)) 25 0 h2) X))
abbrev rm_J28_size : Room := { frames := 0, cells := 0, slots := 0, locals := 0 }
def f_J28_size (K : Nat → Option Nat) (a0 : Option Nat) (h : zw_H) (Q : Int32 → zw_H → Prop) (X : String → Nat → zw_H → Prop) : Prop :=
  og_I h a0 [14] 1 (fun v1 =>
  Q v1 h)
abbrev rm_X1_nearMany : Room := { frames := 9, cells := 53, slots := 116, locals := 182 }
def f_X1_nearMany (K : Nat → Option Nat) (a0 : Option Nat) (a1 : Int32) (h : zw_H) (Q : Int32 → zw_H → Prop) (X : String → Nat → zw_H → Prop) : Prop :=
  oc_ h a0 [1] (f_X1_at K a0 a1 h (fun v1 h1 =>
  oc_ h1 v1 [2] (f_X4_near K v1 a1 h1 (fun v2 h2 =>
  oc_ h2 v2 [14] (f_J28_size K v2 h2 (fun v3 h3 =>
  Q v3 h3) X)) X)) X)
abbrev rm_J12_rangeCheckForAdd : Room := { frames := 5, cells := 0, slots := 0, locals := 104 }
def f_J12_rangeCheckForAdd (K : Nat → Option Nat) (a0 : Option Nat) (a1 : Int32) (h : zw_H) (Q : zw_H → Prop) (X : String → Nat → zw_H → Prop) : Prop :=
  og_I h a0 [9] 2 (fun v1 =>
  if v1 < a1 then
    False
  else
    if (0 : Int32) ≤ a1 then
      Q h
    else
      False)
abbrev rm_J30_init : Room := { frames := 1, cells := 0, slots := 0, locals := 20 }
def f_J30_init (K : Nat → Option Nat) (a0 : Option Nat) (a1 : Option Nat) (h : zw_H) (Q : zw_H → Prop) (X : String → Nat → zw_H → Prop) : Prop :=
  False
abbrev rm_J31_init : Room := { frames := 2, cells := 0, slots := 0, locals := 41 }
def f_J31_init (K : Nat → Option Nat) (a0 : Option Nat) (a1 : Option Nat) (a2 : Int32) (h : zw_H) (Q : zw_H → Prop) (X : String → Nat → zw_H → Prop) : Prop :=
  False
abbrev rm_J12_listIterator : Room := { frames := 6, cells := 0, slots := 0, locals := 125 }
def f_J12_listIterator (K : Nat → Option Nat) (a0 : Option Nat) (a1 : Int32) (h : zw_H) (Q : Option Nat → zw_H → Prop) (X : String → Nat → zw_H → Prop) : Prop :=
  False
abbrev rm_J28_isPositionIndex : Room := { frames := 0, cells := 0, slots := 0, locals := 0 }
def f_J28_isPositionIndex (K : Nat → Option Nat) (a0 : Option Nat) (a1 : Int32) (h : zw_H) (Q : Int32 → zw_H → Prop) (X : String → Nat → zw_H → Prop) : Prop :=
  if a1 < 0 then
    Q 0 h
  else
    og_I h a0 [14] 1 (fun v1 =>
    if v1 < a1 then
      Q 0 h
    else
      Q 1 h)
abbrev rm_J28_checkPositionIndex : Room := { frames := 5, cells := 0, slots := 0, locals := 104 }
def f_J28_checkPositionIndex (K : Nat → Option Nat) (a0 : Option Nat) (a1 : Int32) (h : zw_H) (Q : zw_H → Prop) (X : String → Nat → zw_H → Prop) : Prop :=
  oc_ h a0 [14] (f_J28_isPositionIndex K a0 a1 h (fun v1 h1 =>
  if v1 ≠ 0 then
    Q h1
  else
    False) X)
abbrev rm_J28_node : Room := { frames := 0, cells := 0, slots := 0, locals := 0 }
def f_J28_node_B47 (K : Nat → Option Nat) (Q : Option Nat → zw_H → Prop) (X : String → Nat → zw_H → Prop)  (k63 : Option Nat → zw_H → Prop) (l1 : Int32) (R : Option Nat → Int32 → zw_H → Prop) (l2 : Option Nat) (l3 : Int32) (h : zw_H) : Prop :=
  if l3 ≤ l1 then
    k63 l2 h
  else
    og_A h l2 [13] 2 (fun v5 =>
    olet (l3 + (-1)) (fun v6 =>
    R v5 v6 h))
def f_J28_node_B17 (K : Nat → Option Nat) (Q : Option Nat → zw_H → Prop) (X : String → Nat → zw_H → Prop)  (k33 : Option Nat → zw_H → Prop) (l1 : Int32) (R : Option Nat → Int32 → zw_H → Prop) (l2 : Option Nat) (l3 : Int32) (h : zw_H) : Prop :=
  if l1 ≤ l3 then
    k33 l2 h
  else
    og_A h l2 [13] 1 (fun v9 =>
    olet (l3 + 1) (fun v10 =>
    R v9 v10 h))
def f_J28_node (K : Nat → Option Nat) (a0 : Option Nat) (a1 : Int32) (h : zw_H) (Q : Option Nat → zw_H → Prop) (X : String → Nat → zw_H → Prop) : Prop :=
  og_I h a0 [14] 1 (fun v1 =>
  if (v1 >>> (1 &&& 31)) ≤ a1 then
    og_A h a0 [14] 3 (fun v2 =>
    og_I h a0 [14] 1 (fun v3 =>
    olet (v3 - 1 : Int32) (fun v4 =>
    zl3 (f_J28_node_B47 K Q X (fun v7 h1 =>
      Q v7 h1) a1) zfu v2 v4 h)))
  else
    og_A h a0 [14] 2 (fun v8 =>
    zl3 (f_J28_node_B17 K Q X (fun v11 h2 =>
      Q v11 h2) a1) zfu v8 0 h))
abbrev rm_J32_init : Room := { frames := 1, cells := 0, slots := 0, locals := 23 }
def f_J32_init_J38 (K : Nat → Option Nat) (Q : zw_H → Prop) (X : String → Nat → zw_H → Prop)  (l0 : Option Nat) (l2 : Int32) (s0 : Option Nat) (s1 : Option Nat) (h : zw_H) : Prop :=
  op_V h s1 [15] 1 (va_rf s0) (fun h4 =>
  op_V h4 l0 [15] 2 (.int l2) (fun h5 =>
  Q h5))
def f_J32_init (K : Nat → Option Nat) (a0 : Option Nat) (a1 : Option Nat) (a2 : Int32) (h : zw_H) (Q : zw_H → Prop) (X : String → Nat → zw_H → Prop) : Prop :=
  op_V h a0 [15] 4 (va_rf a1) (fun h1 =>
  (a0 ≠ none ∧ 
  og_A h1 a0 [15] 4 (fun v1 =>
  og_I h1 v1 [14] 0 (fun v2 =>
  op_V h1 a0 [15] 3 (.int v2) (fun h2 =>
  og_I h2 a1 [14] 1 (fun v3 =>
  if a2 ≠ v3 then
    oc_ h2 a1 [14] (f_J28_node K a1 a2 h2 (fun v4 h3 =>
    f_J32_init_J38 K Q X  a0 a2 v4 a0 h3) X)
  else
    f_J32_init_J38 K Q X  a0 a2 none a0 h2))))))
abbrev rm_J28_listIterator : Room := { frames := 6, cells := 1, slots := 5, locals := 125 }
def f_J28_listIterator (K : Nat → Option Nat) (a0 : Option Nat) (a1 : Int32) (h : zw_H) (Q : Option Nat → zw_H → Prop) (X : String → Nat → zw_H → Prop) : Prop :=
  oc_ h a0 [14] (f_J28_checkPositionIndex K a0 a1 h (fun h1 =>
  on_C h1 (.inr (15, [.null, .null, .int 0, .int 0, .null])) (fun v1 h2 =>
  (f_J32_init K (some v1) a0 a1 h2 (fun h3 =>
  Q (some v1) h3) X))) X)
abbrev rm_J11_listIterator : Room := { frames := 7, cells := 1, slots := 5, locals := 146 }
def f_J11_listIterator (K : Nat → Option Nat) (a0 : Option Nat) (h : zw_H) (Q : Option Nat → zw_H → Prop) (X : String → Nat → zw_H → Prop) : Prop :=
  od_ h a0 [9] [14]
    (f_J12_listIterator K a0 0 h (fun v1 h1 =>
      Q v1 h1) X)
    (f_J28_listIterator K a0 0 h (fun v1 h1 =>
      Q v1 h1) X)
abbrev rm_J27_iterator : Room := { frames := 8, cells := 1, slots := 5, locals := 166 }
def f_J27_iterator (K : Nat → Option Nat) (a0 : Option Nat) (h : zw_H) (Q : Option Nat → zw_H → Prop) (X : String → Nat → zw_H → Prop) : Prop :=
  oc_ h a0 [14] (f_J11_listIterator K a0 h (fun v1 h1 =>
  Q v1 h1) X)
abbrev rm_J32_hasNext : Room := { frames := 0, cells := 0, slots := 0, locals := 0 }
def f_J32_hasNext (K : Nat → Option Nat) (a0 : Option Nat) (h : zw_H) (Q : Int32 → zw_H → Prop) (X : String → Nat → zw_H → Prop) : Prop :=
  og_I h a0 [15] 2 (fun v1 =>
  og_A h a0 [15] 4 (fun v2 =>
  og_I h v2 [14] 1 (fun v3 =>
  if v3 ≤ v1 then
    Q 0 h
  else
    Q 1 h)))
abbrev rm_J32_checkForComodification : Room := { frames := 0, cells := 0, slots := 0, locals := 0 }
def f_J32_checkForComodification (K : Nat → Option Nat) (a0 : Option Nat) (h : zw_H) (Q : zw_H → Prop) (X : String → Nat → zw_H → Prop) : Prop :=
  og_A h a0 [15] 4 (fun v1 =>
  og_I h v1 [14] 0 (fun v2 =>
  og_I h a0 [15] 3 (fun v3 =>
  if v2 = v3 then
    Q h
  else
    False)))
abbrev rm_J32_next : Room := { frames := 1, cells := 0, slots := 0, locals := 20 }
def f_J32_next (K : Nat → Option Nat) (a0 : Option Nat) (h : zw_H) (Q : Option Nat → zw_H → Prop) (X : String → Nat → zw_H → Prop) : Prop :=
  oc_ h a0 [15] (f_J32_checkForComodification K a0 h (fun h1 =>
  oc_ h1 a0 [15] (f_J32_hasNext K a0 h1 (fun v1 h2 =>
  if v1 ≠ 0 then
    og_A h2 a0 [15] 1 (fun v2 =>
    op_V h2 a0 [15] 0 (va_rf v2) (fun h3 =>
    og_A h3 a0 [15] 1 (fun v3 =>
    og_A h3 v3 [13] 1 (fun v4 =>
    op_V h3 a0 [15] 1 (va_rf v4) (fun h4 =>
    og_I h4 a0 [15] 2 (fun v5 =>
    op_V h4 a0 [15] 2 (.int (v5 + 1)) (fun h5 =>
    og_A h5 a0 [15] 0 (fun v6 =>
    og_A h5 v6 [13] 0 (fun v7 =>
    Q v7 h5)))))))))
  else
    False) X)) X)
abbrev rm_J20_intValue : Room := { frames := 0, cells := 0, slots := 0, locals := 0 }
def f_J20_intValue (K : Nat → Option Nat) (a0 : Option Nat) (h : zw_H) (Q : Int32 → zw_H → Prop) (X : String → Nat → zw_H → Prop) : Prop :=
  og_I h a0 [12, 18] 0 (fun v1 =>
  Q v1 h)
abbrev rm_X1_nearBody : Room := { frames := 9, cells := 54, slots := 121, locals := 186 }
def f_X1_nearBody_B16 (K : Nat → Option Nat) (Q : Int32 → zw_H → Prop) (X : String → Nat → zw_H → Prop)  (k44 : Int32 → zw_H → Prop) (k53 : zw_H → Prop) (l3 : Option Nat) (R : Int32 → zw_H → Prop) (l4 : Int32) (h : zw_H) : Prop :=
  oc_ h l3 [15] (f_J32_hasNext K l3 h (fun v4 h4 =>
  if v4 = 0 then
    k53  h4
  else
    oc_ h4 l3 [15] (f_J32_next K l3 h4 (fun v5 h5 =>
    on_ h5 v5 [12, 18] (
    oc_ h5 v5 [12, 18] (f_J20_intValue K v5 h5 (fun v6 h6 =>
    if l4 ≠ 0 then
      olet (l4 + (-1)) (fun v7 =>
      R v7 h6)
    else
      k44 v6 h6) X))) X)) X)
def f_X1_nearBody (K : Nat → Option Nat) (a0 : Option Nat) (a1 : Int32) (a2 : Int32) (h : zw_H) (Q : Int32 → zw_H → Prop) (X : String → Nat → zw_H → Prop) : Prop :=
  oc_ h a0 [1] (f_X1_at K a0 a1 h (fun v1 h1 =>
  oc_ h1 v1 [2] (f_X4_near K v1 a1 h1 (fun v2 h2 =>
  oc_ h2 v2 [14] (f_J27_iterator K v2 h2 (fun v3 h3 =>
  zl2 (f_X1_nearBody_B16 K Q X (fun v8 h7 =>
    Q v8 h7) (fun h8 =>
    Q (-1) h8) v3) zfu a2 h3) X)) X)) X)
abbrev rm_X5_isFarFrom : Room := { frames := 1, cells := 0, slots := 0, locals := 25 }
def f_X5_isFarFrom (K : Nat → Option Nat) (a0 : Option Nat) (a1 : Int32) (h : zw_H) (Q : Int32 → zw_H → Prop) (X : String → Nat → zw_H → Prop) : Prop :=
  og_I h a0 [4] 1 (fun v1 =>
  (f_X1_in K ((a1 - v1).toInt64) (-1 : Int64) 1 h (fun v2 h1 =>
  if v2 ≠ 0 then
    Q 0 h1
  else
    ((2 : Int32) ≠ 0 ∧ 
    og_I h1 a0 [4] 1 (fun v3 =>
    ((2 : Int32) ≠ 0 ∧ 
    (f_X1_in K (((a1 / 2) - (v3 / 2)).toInt64) (-1 : Int64) 1 h1 (fun v4 h2 =>
    if v4 = 0 then
      Q 0 h2
    else
      Q 1 h2) X))))) X))
abbrev rm_X4_laysFar_2 : Room := { frames := 5, cells := 0, slots := 0, locals := 108 }
def f_X4_laysFar_2_J84 (K : Nat → Option Nat) (Q : zw_H → Prop) (X : String → Nat → zw_H → Prop) (R : Int32 → zw_H → Prop) (k90 : zw_H → Prop) (l0 : Option Nat) (l1 : Int32) (l3 : Int32) (l4 : Int32)  (h : zw_H) : Prop :=
  olet (l4 + 1) (fun v7 =>
  R v7 h)
def f_X4_laysFar_2_B19 (K : Nat → Option Nat) (Q : zw_H → Prop) (X : String → Nat → zw_H → Prop)  (k90 : zw_H → Prop) (l0 : Option Nat) (l1 : Int32) (l3 : Int32) (R : Int32 → zw_H → Prop) (l4 : Int32) (h : zw_H) : Prop :=
  (f_J14_min K ((1 : Int32) <<< (l1 &&& 31)) (l3 + 4) h (fun v4 h3 =>
  if v4 ≤ l4 then
    k90  h3
  else
    oc_ h3 l0 [2] (f_X4_box K l0 l1 l4 h3 (fun v5 h4 =>
    oc_ h4 v5 [4] (f_X5_isFarFrom K v5 l3 h4 (fun v6 h5 =>
    if v6 = 0 then
      f_X4_laysFar_2_J84 K Q X R k90 l0 l1 l3 l4  h5
    else
      oc_ h5 l0 [2] (f_X4_bodiesIn K l0 v5 h5 (fun v8 h6 =>
      if v8 ≠ 0 then
        og_A h6 l0 [2] 7 (fun v9 =>
        og_I h6 l0 [2] 9 (fun v10 =>
        os_A h6 v9 6 [4] [] v10 v5 (fun h7 =>
        og_I h7 l0 [2] 9 (fun v11 =>
        op_V h7 l0 [2] 9 (.int (v11 + 1)) (fun h8 =>
        f_X4_laysFar_2_J84 K Q X R k90 l0 l1 l3 l4  h8)))))
      else
        f_X4_laysFar_2_J84 K Q X R k90 l0 l1 l3 l4  h6) X)) X)) X)) X)
def f_X4_laysFar_2 (K : Nat → Option Nat) (a0 : Option Nat) (a1 : Int32) (a2 : Int32) (h : zw_H) (Q : zw_H → Prop) (X : String → Nat → zw_H → Prop) : Prop :=
  oc_ h a0 [2] (f_X4_around K a0 a1 a2 h (fun v1 h1 =>
  og_I h1 v1 [4] 1 (fun v2 =>
  (f_J14_max K 0 (v2 - 3) h1 (fun v3 h2 =>
  zl2 (f_X4_laysFar_2_B19 K Q X (fun h9 =>
    Q h9) a0 a1 v2) zfu v3 h2) X))) X)
abbrev rm_X4_laysFar : Room := { frames := 6, cells := 0, slots := 0, locals := 133 }
def f_X4_laysFar_B7 (K : Nat → Option Nat) (Q : Int32 → zw_H → Prop) (X : String → Nat → zw_H → Prop)  (k27 : zw_H → Prop) (l0 : Option Nat) (l1 : Int32) (R : Int32 → zw_H → Prop) (l2 : Int32) (h : zw_H) : Prop :=
  og_I h l0 [2] 2 (fun v1 =>
  if v1 < l2 then
    k27  h
  else
    oc_ h l0 [2] (f_X4_laysFar_2 K l0 l2 l1 h (fun h2 =>
    olet (l2 + 1) (fun v2 =>
    R v2 h2)) X))
def f_X4_laysFar (K : Nat → Option Nat) (a0 : Option Nat) (a1 : Int32) (h : zw_H) (Q : Int32 → zw_H → Prop) (X : String → Nat → zw_H → Prop) : Prop :=
  op_V h a0 [2] 9 (.int 0) (fun h1 =>
  zl2 (f_X4_laysFar_B7 K Q X (fun h3 =>
    og_I h3 a0 [2] 9 (fun v3 =>
    Q v3 h3)) a0 a1) zfu 2 h1)
abbrev rm_X1_farMany : Room := { frames := 9, cells := 2, slots := 12, locals := 182 }
def f_X1_farMany (K : Nat → Option Nat) (a0 : Option Nat) (a1 : Int32) (h : zw_H) (Q : Int32 → zw_H → Prop) (X : String → Nat → zw_H → Prop) : Prop :=
  oc_ h a0 [1] (f_X1_at K a0 a1 h (fun v1 h1 =>
  oc_ h1 v1 [2] (f_X4_laysFar K v1 a1 h1 (fun v2 h2 =>
  Q v2 h2) X)) X)
abbrev rm_X1_farBox : Room := { frames := 9, cells := 2, slots := 12, locals := 182 }
def f_X1_farBox (K : Nat → Option Nat) (a0 : Option Nat) (a1 : Int32) (a2 : Int32) (h : zw_H) (Q : Int32 → zw_H → Prop) (X : String → Nat → zw_H → Prop) : Prop :=
  oc_ h a0 [1] (f_X1_at K a0 a1 h (fun v1 h1 =>
  oc_ h1 v1 [2] (f_X4_laysFar K v1 a1 h1 (fun v2 h2 =>
  (f_X1_in K a2.toInt64 0 ((v2 - 1).toInt64) h2 (fun v3 h3 =>
  if v3 = 0 then
    Q (-1) h3
  else
    og_A h3 v1 [2] 7 (fun v4 =>
    oa_A h3 v4 [6] a2 (fun v5 =>
    og_I h3 v5 [4] 0 (fun v6 =>
    og_A h3 v1 [2] 7 (fun v7 =>
    oa_A h3 v7 [6] a2 (fun v8 =>
    og_I h3 v8 [4] 1 (fun v9 =>
    Q (((100 : Int32) * v6) + v9) h3))))))) X)) X)) X)
abbrev rm_X4_farBodies : Room := { frames := 7, cells := 0, slots := 0, locals := 155 }
def f_X4_farBodies_B4 (K : Nat → Option Nat) (Q : Int32 → zw_H → Prop) (X : String → Nat → zw_H → Prop)  (k32 : Int32 → zw_H → Prop) (l0 : Option Nat) (l1 : Int32) (R : Int32 → Int32 → zw_H → Prop) (l2 : Int32) (l3 : Int32) (h : zw_H) : Prop :=
  oc_ h l0 [2] (f_X4_laysFar K l0 l1 h (fun v1 h1 =>
  if v1 ≤ l3 then
    k32 l2 h1
  else
    og_A h1 l0 [2] 7 (fun v2 =>
    oa_A h1 v2 [6] l3 (fun v3 =>
    oc_ h1 l0 [2] (f_X4_bodiesIn K l0 v3 h1 (fun v4 h2 =>
    olet (l2 + v4 : Int32) (fun v5 =>
    olet (l3 + 1) (fun v6 =>
    R v5 v6 h2))) X)))) X)
def f_X4_farBodies (K : Nat → Option Nat) (a0 : Option Nat) (a1 : Int32) (h : zw_H) (Q : Int32 → zw_H → Prop) (X : String → Nat → zw_H → Prop) : Prop :=
  zl3 (f_X4_farBodies_B4 K Q X (fun v7 h3 =>
    Q v7 h3) a0 a1) zfu 0 0 h
abbrev rm_X1_farBodies : Room := { frames := 9, cells := 2, slots := 12, locals := 182 }
def f_X1_farBodies (K : Nat → Option Nat) (a0 : Option Nat) (a1 : Int32) (h : zw_H) (Q : Int32 → zw_H → Prop) (X : String → Nat → zw_H → Prop) : Prop :=
  oc_ h a0 [1] (f_X1_at K a0 a1 h (fun v1 h1 =>
  oc_ h1 v1 [2] (f_X4_farBodies K v1 a1 h1 (fun v2 h2 =>
  Q v2 h2) X)) X)
abbrev rm_X4_cost : Room := { frames := 7, cells := 0, slots := 0, locals := 155 }
def f_X4_cost_J51 (K : Nat → Option Nat) (Q : Int32 → zw_H → Prop) (X : String → Nat → zw_H → Prop) (R : Int32 → Int32 → zw_H → Prop) (k62 : Int32 → zw_H → Prop) (l0 : Option Nat) (l1 : Int32) (l2 : Int32) (l4 : Int32) (s0 : Int32) (s1 : Int32) (h : zw_H) : Prop :=
  (f_X1_flag K s0 h (fun v4 h3 =>
  olet (s1 + v4 : Int32) (fun v5 =>
  olet (l4 + 1) (fun v6 =>
  R v5 v6 h3))) X)
def f_X4_cost_J50 (K : Nat → Option Nat) (Q : Int32 → zw_H → Prop) (X : String → Nat → zw_H → Prop) (R : Int32 → Int32 → zw_H → Prop) (k62 : Int32 → zw_H → Prop) (l0 : Option Nat) (l1 : Int32) (l2 : Int32) (l4 : Int32) (s0 : Int32) (h : zw_H) : Prop :=
  f_X4_cost_J51 K Q X R k62 l0 l1 l2 l4 0 s0 h
def f_X4_cost_J46 (K : Nat → Option Nat) (Q : Int32 → zw_H → Prop) (X : String → Nat → zw_H → Prop) (R : Int32 → Int32 → zw_H → Prop) (k62 : Int32 → zw_H → Prop) (l0 : Option Nat) (l1 : Int32) (l2 : Int32) (l4 : Int32) (s0 : Int32) (h : zw_H) : Prop :=
  f_X4_cost_J51 K Q X R k62 l0 l1 l2 l4 1 s0 h
def f_X4_cost_B5 (K : Nat → Option Nat) (Q : Int32 → zw_H → Prop) (X : String → Nat → zw_H → Prop)  (k62 : Int32 → zw_H → Prop) (l0 : Option Nat) (l1 : Int32) (l2 : Int32) (R : Int32 → Int32 → zw_H → Prop) (l3 : Int32) (l4 : Int32) (h : zw_H) : Prop :=
  oc_ h l0 [2] (f_X4_size K l0 h (fun v1 h1 =>
  if v1 ≤ l4 then
    k62 l3 h1
  else
    oc_ h1 l0 [2] (f_X4_at K l0 l4 h1 (fun v2 h2 =>
    og_I h2 v2 [6, 7] 0 (fun v3 =>
    if v3 = l1 then
      f_X4_cost_J50 K Q X R k62 l0 l1 l2 l4 l3 h2
    else
      if l2 ≠ 0 then
        f_X4_cost_J46 K Q X R k62 l0 l1 l2 l4 l3 h2
      else
        oc_ h2 l0 [2] (f_X4_at K l0 l4 h2 (fun v7 h4 =>
        oc_ h4 l0 [2] (f_X4_isNear K l0 v7 l1 h4 (fun v8 h5 =>
        if v8 = 0 then
          f_X4_cost_J50 K Q X R k62 l0 l1 l2 l4 l3 h5
        else
          f_X4_cost_J46 K Q X R k62 l0 l1 l2 l4 l3 h5) X)) X))) X)) X)
def f_X4_cost (K : Nat → Option Nat) (a0 : Option Nat) (a1 : Int32) (a2 : Int32) (h : zw_H) (Q : Int32 → zw_H → Prop) (X : String → Nat → zw_H → Prop) : Prop :=
  zl3 (f_X4_cost_B5 K Q X (fun v9 h6 =>
    if a2 = 0 then
      og_I h6 a0 [2] 3 (fun v10 =>
      oc_ h6 a0 [2] (f_X4_laysFar K a0 a1 h6 (fun v11 h7 =>
      Q (v9 + ((v10 + 1) * v11)) h7) X))
    else
      Q v9 h6) a0 a1 a2) zfu 0 0 h
abbrev rm_X1_cost : Room := { frames := 9, cells := 2, slots := 12, locals := 182 }
def f_X1_cost (K : Nat → Option Nat) (a0 : Option Nat) (a1 : Int32) (a2 : Int32) (h : zw_H) (Q : Int32 → zw_H → Prop) (X : String → Nat → zw_H → Prop) : Prop :=
  oc_ h a0 [1] (f_X1_at K a0 a1 h (fun v1 h1 =>
  oc_ h1 v1 [2] (f_X4_cost K v1 a1 a2 h1 (fun v2 h2 =>
  Q v2 h2) X)) X)
abbrev rm_X7_distance : Room := { frames := 0, cells := 0, slots := 0, locals := 0 }
def f_X7_distance (K : Nat → Option Nat) (a0 : Option Nat) (a1 : Int32) (h : zw_H) (Q : Int32 → zw_H → Prop) (X : String → Nat → zw_H → Prop) : Prop :=
  og_I h a0 [6, 7] 0 (fun v1 =>
  if a1 ≤ v1 then
    og_I h a0 [6, 7] 0 (fun v2 =>
    Q (v2 - a1) h)
  else
    og_I h a0 [6, 7] 0 (fun v3 =>
    Q (a1 - v3) h))
abbrev rm_X4_sum : Room := { frames := 4, cells := 0, slots := 0, locals := 85 }
def f_X4_sum_J74 (K : Nat → Option Nat) (Q : UInt64 → zw_H → Prop) (X : String → Nat → zw_H → Prop) (R : UInt64 → Int32 → zw_H → Prop) (k80 : UInt64 → zw_H → Prop) (l0 : Option Nat) (l1 : Int32) (l2 : Int32) (l3 : Int32) (l4 : UInt64) (l6 : Int32)  (h : zw_H) : Prop :=
  olet (l6 + 1) (fun v3 =>
  R l4 v3 h)
def f_X4_sum_J55 (K : Nat → Option Nat) (Q : UInt64 → zw_H → Prop) (X : String → Nat → zw_H → Prop) (R : UInt64 → Int32 → zw_H → Prop) (k80 : UInt64 → zw_H → Prop) (l0 : Option Nat) (l1 : Int32) (l2 : Int32) (l3 : Int32) (l4 : UInt64) (l6 : Int32) (l7 : Option Nat)  (h : zw_H) : Prop :=
  og_I h l7 [6, 7] 1 (fun v5 =>
  od_ h l7 [6] [7]
    (f_X7_distance K l7 l1 h (fun v6 h3 =>
      (vf_n64 (FP.ddiv (FP.i2d v5) (FP.i2d v6)) ∧ 
      olet (FP.ddiv (FP.i2d v5) (FP.i2d v6) : UInt64) (fun v7 =>
      (vf_n64 (FP.dadd l4 v7) ∧ 
      olet (FP.dadd l4 v7 : UInt64) (fun v8 =>
      f_X4_sum_J74 K Q X R k80 l0 l1 l2 l3 v8 l6  h3))))) X)
    (f_X7_distance K l7 l1 h (fun v6 h3 =>
      (vf_n64 (FP.ddiv (FP.i2d v5) (FP.i2d v6)) ∧ 
      olet (FP.ddiv (FP.i2d v5) (FP.i2d v6) : UInt64) (fun v7 =>
      (vf_n64 (FP.dadd l4 v7) ∧ 
      olet (FP.dadd l4 v7 : UInt64) (fun v8 =>
      f_X4_sum_J74 K Q X R k80 l0 l1 l2 l3 v8 l6  h3))))) X))
def f_X4_sum_B6 (K : Nat → Option Nat) (Q : UInt64 → zw_H → Prop) (X : String → Nat → zw_H → Prop)  (k80 : UInt64 → zw_H → Prop) (l0 : Option Nat) (l1 : Int32) (l2 : Int32) (l3 : Int32) (R : UInt64 → Int32 → zw_H → Prop) (l4 : UInt64) (l6 : Int32) (h : zw_H) : Prop :=
  oc_ h l0 [2] (f_X4_size K l0 h (fun v1 h1 =>
  if v1 ≤ l6 then
    k80 l4 h1
  else
    oc_ h1 l0 [2] (f_X4_at K l0 l6 h1 (fun v2 h2 =>
    if l6 = l3 then
      f_X4_sum_J74 K Q X R k80 l0 l1 l2 l3 l4 l6  h2
    else
      og_I h2 v2 [6, 7] 0 (fun v4 =>
      if v4 = l1 then
        f_X4_sum_J74 K Q X R k80 l0 l1 l2 l3 l4 l6  h2
      else
        if l2 = 0 then
          f_X4_sum_J55 K Q X R k80 l0 l1 l2 l3 l4 l6 v2  h2
        else
          oc_ h2 l0 [2] (f_X4_isNear K l0 v2 l1 h2 (fun v9 h4 =>
          if v9 ≠ 0 then
            f_X4_sum_J55 K Q X R k80 l0 l1 l2 l3 l4 l6 v2  h4
          else
            f_X4_sum_J74 K Q X R k80 l0 l1 l2 l3 l4 l6  h4) X))) X)) X)
def f_X4_sum (K : Nat → Option Nat) (a0 : Option Nat) (a1 : Int32) (a2 : Int32) (a3 : Int32) (h : zw_H) (Q : UInt64 → zw_H → Prop) (X : String → Nat → zw_H → Prop) : Prop :=
  zl3 (f_X4_sum_B6 K Q X (fun v10 h5 =>
    Q v10 h5) a0 a1 a2 a3) zfu FP.dconst0 0 h
abbrev rm_X4_value : Room := { frames := 5, cells := 0, slots := 0, locals := 111 }
def f_X4_value_B17 (K : Nat → Option Nat) (Q : UInt64 → zw_H → Prop) (X : String → Nat → zw_H → Prop)  (k54 : UInt64 → zw_H → Prop) (l0 : Option Nat) (l1 : Option Nat) (l3 : UInt64) (R : UInt64 → UInt64 → Int32 → zw_H → Prop) (l5 : UInt64) (l7 : UInt64) (l9 : Int32) (h : zw_H) : Prop :=
  og_I h l0 [2] 3 (fun v3 =>
  if v3 < l9 then
    k54 l5 h
  else
    oc_ h l0 [2] (f_X4_moment K l0 l1 l9 h (fun v4 h1 =>
    (vf_n64 (FP.ddiv (FP.l2d v4) l7) ∧ 
    olet (FP.ddiv (FP.l2d v4) l7 : UInt64) (fun v5 =>
    (vf_n64 (FP.dadd l5 v5) ∧ 
    olet (FP.dadd l5 v5 : UInt64) (fun v6 =>
    (vf_n64 (FP.dmul l7 l3) ∧ 
    olet (FP.dmul l7 l3 : UInt64) (fun v7 =>
    olet (l9 + 1) (fun v8 =>
    R v6 v7 v8 h1)))))))) X))
def f_X4_value (K : Nat → Option Nat) (a0 : Option Nat) (a1 : Option Nat) (a2 : Int32) (h : zw_H) (Q : UInt64 → zw_H → Prop) (X : String → Nat → zw_H → Prop) : Prop :=
  og_I h a1 [4] 3 (fun v1 =>
  olet (FP.i2d (a2 - v1) : UInt64) (fun v2 =>
  zl4 (f_X4_value_B17 K Q X (fun v9 h2 =>
    if (0 : Int32) ≤ (Op.cmpValue (FP.dcmp v2 FP.dconst0) .g) then
      Q v9 h2
    else
      (vf_n64 (FP.dsub FP.dconst0 v9) ∧ 
      olet (FP.dsub FP.dconst0 v9 : UInt64) (fun v10 =>
      Q v10 h2))) a0 a1 v2) zfu FP.dconst0 v2 0 h))
abbrev rm_X4_farSum : Room := { frames := 7, cells := 0, slots := 0, locals := 155 }
def f_X4_farSum_B11 (K : Nat → Option Nat) (Q : UInt64 → zw_H → Prop) (X : String → Nat → zw_H → Prop)  (k38 : UInt64 → zw_H → Prop) (l0 : Option Nat) (l1 : Int32) (l2 : Int32) (R : UInt64 → Int32 → zw_H → Prop) (l3 : UInt64) (l5 : Int32) (h : zw_H) : Prop :=
  if l2 ≤ l5 then
    k38 l3 h
  else
    og_A h l0 [2] 7 (fun v2 =>
    oa_A h v2 [6] l5 (fun v3 =>
    oc_ h l0 [2] (f_X4_value K l0 v3 l1 h (fun v4 h2 =>
    (vf_n64 (FP.dadd l3 v4) ∧ 
    olet (FP.dadd l3 v4 : UInt64) (fun v5 =>
    olet (l5 + 1) (fun v6 =>
    R v5 v6 h2)))) X)))
def f_X4_farSum (K : Nat → Option Nat) (a0 : Option Nat) (a1 : Int32) (h : zw_H) (Q : UInt64 → zw_H → Prop) (X : String → Nat → zw_H → Prop) : Prop :=
  oc_ h a0 [2] (f_X4_laysFar K a0 a1 h (fun v1 h1 =>
  zl3 (f_X4_farSum_B11 K Q X (fun v7 h3 =>
    Q v7 h3) a0 a1 v1) zfu FP.dconst0 0 h1) X)
abbrev rm_X4_sumBy : Room := { frames := 8, cells := 0, slots := 0, locals := 180 }
def f_X4_sumBy (K : Nat → Option Nat) (a0 : Option Nat) (a1 : Int32) (a2 : Int32) (h : zw_H) (Q : UInt64 → zw_H → Prop) (X : String → Nat → zw_H → Prop) : Prop :=
  if a2 = 0 then
    oc_ h a0 [2] (f_X4_sum K a0 a1 0 (-1) h (fun v1 h1 =>
    Q v1 h1) X)
  else
    oc_ h a0 [2] (f_X4_sum K a0 a1 1 (-1) h (fun v2 h2 =>
    oc_ h2 a0 [2] (f_X4_farSum K a0 a1 h2 (fun v3 h3 =>
    (vf_n64 (FP.dadd v2 v3) ∧ 
    olet (FP.dadd v2 v3 : UInt64) (fun v4 =>
    Q v4 h3))) X)) X)
abbrev rm_X1_plain : Room := { frames := 9, cells := 2, slots := 12, locals := 202 }
def f_X1_plain (K : Nat → Option Nat) (a0 : Option Nat) (a1 : Int32) (h : zw_H) (Q : UInt64 → zw_H → Prop) (X : String → Nat → zw_H → Prop) : Prop :=
  oc_ h a0 [1] (f_X1_at K a0 a1 h (fun v1 h1 =>
  oc_ h1 v1 [2] (f_X4_sumBy K v1 a1 0 h1 (fun v2 h2 =>
  Q v2 h2) X)) X)
abbrev rm_X1_nearSum : Room := { frames := 9, cells := 2, slots := 12, locals := 182 }
def f_X1_nearSum (K : Nat → Option Nat) (a0 : Option Nat) (a1 : Int32) (h : zw_H) (Q : UInt64 → zw_H → Prop) (X : String → Nat → zw_H → Prop) : Prop :=
  oc_ h a0 [1] (f_X1_at K a0 a1 h (fun v1 h1 =>
  oc_ h1 v1 [2] (f_X4_sum K v1 a1 1 (-1) h1 (fun v2 h2 =>
  Q v2 h2) X)) X)
abbrev rm_X1_farSum : Room := { frames := 9, cells := 2, slots := 12, locals := 182 }
def f_X1_farSum (K : Nat → Option Nat) (a0 : Option Nat) (a1 : Int32) (h : zw_H) (Q : UInt64 → zw_H → Prop) (X : String → Nat → zw_H → Prop) : Prop :=
  oc_ h a0 [1] (f_X1_at K a0 a1 h (fun v1 h1 =>
  oc_ h1 v1 [2] (f_X4_farSum K v1 a1 h1 (fun v2 h2 =>
  Q v2 h2) X)) X)
abbrev rm_X1_farBits : Room := { frames := 10, cells := 2, slots := 12, locals := 203 }
def f_X1_farBits (K : Nat → Option Nat) (a0 : Option Nat) (a1 : Int32) (h : zw_H) (Q : Int64 → zw_H → Prop) (X : String → Nat → zw_H → Prop) : Prop :=
  oc_ h a0 [1] (f_X1_farSum K a0 a1 h (fun v1 h1 =>
  (f_J34_doubleToLongBits K v1 h1 (fun v2 h2 =>
  Q v2 h2) X)) X)
abbrev rm_X1_value : Room := { frames := 9, cells := 4, slots := 24, locals := 182 }
def f_X1_value_J38 (K : Nat → Option Nat) (Q : UInt64 → zw_H → Prop) (X : String → Nat → zw_H → Prop)  (l0 : Option Nat) (l3 : Int32) (l4 : Option Nat) (s0 : Int32) (h : zw_H) : Prop :=
  (f_X1_checkArgument K s0 h (fun h3 =>
  og_A h3 l0 [1] 4 (fun v3 =>
  oc_ h3 v3 [2] (f_X4_value K v3 l4 l3 h3 (fun v4 h4 =>
  Q v4 h4) X))) X)
def f_X1_value_J37 (K : Nat → Option Nat) (Q : UInt64 → zw_H → Prop) (X : String → Nat → zw_H → Prop)  (l0 : Option Nat) (l3 : Int32) (l4 : Option Nat)  (h : zw_H) : Prop :=
  f_X1_value_J38 K Q X  l0 l3 l4 0 h
def f_X1_value (K : Nat → Option Nat) (a0 : Option Nat) (a1 : Int32) (a2 : Int32) (a3 : Int32) (h : zw_H) (Q : UInt64 → zw_H → Prop) (X : String → Nat → zw_H → Prop) : Prop :=
  oc_ h a0 [1] (f_X1_boxOf K a0 a1 a2 h (fun v1 h1 =>
  (f_X1_isPoint K a3 h1 (fun v2 h2 =>
  if v2 = 0 then
    f_X1_value_J37 K Q X  a0 a3 v1  h2
  else
    og_I h2 v1 [4] 3 (fun v5 =>
    (f_J14_abs K (a3 - v5) h2 (fun v6 h5 =>
    og_I h5 v1 [4] 2 (fun v7 =>
    if v6 < v7 then
      f_X1_value_J37 K Q X  a0 a3 v1  h5
    else
      f_X1_value_J38 K Q X  a0 a3 v1 1 h5)) X))) X)) X)
abbrev rm_X1_power : Room := { frames := 0, cells := 0, slots := 0, locals := 0 }
def f_X1_power_B6 (K : Nat → Option Nat) (Q : UInt64 → zw_H → Prop) (X : String → Nat → zw_H → Prop)  (k25 : UInt64 → zw_H → Prop) (l2 : UInt64) (l4 : Int32) (R : UInt64 → Int32 → zw_H → Prop) (l5 : UInt64) (l7 : Int32) (h : zw_H) : Prop :=
  if l4 ≤ l7 then
    k25 l5 h
  else
    (vf_n64 (FP.dmul l5 l2) ∧ 
    olet (FP.dmul l5 l2 : UInt64) (fun v1 =>
    olet (l7 + 1) (fun v2 =>
    R v1 v2 h)))
def f_X1_power (K : Nat → Option Nat) (a0 : UInt64) (a1 : UInt64) (a2 : Int32) (h : zw_H) (Q : UInt64 → zw_H → Prop) (X : String → Nat → zw_H → Prop) : Prop :=
  zl3 (f_X1_power_B6 K Q X (fun v3 h1 =>
    Q v3 h1) a1 a2) zfu a0 0 h
abbrev rm_X4_bound : Room := { frames := 7, cells := 0, slots := 0, locals := 155 }
def f_X4_bound_B12 (K : Nat → Option Nat) (Q : UInt64 → zw_H → Prop) (X : String → Nat → zw_H → Prop)  (k92 : UInt64 → zw_H → Prop) (l0 : Option Nat) (l1 : Int32) (l2 : Int32) (l3 : Int32) (R : UInt64 → Int32 → zw_H → Prop) (l4 : UInt64) (l6 : Int32) (h : zw_H) : Prop :=
  if l3 ≤ l6 then
    k92 l4 h
  else
    og_A h l0 [2] 7 (fun v2 =>
    oa_A h v2 [6] l6 (fun v3 =>
    og_I h v3 [4] 3 (fun v4 =>
    (f_J14_abs K (l1 - v4) h (fun v5 h2 =>
    og_I h2 v3 [4] 2 (fun v6 =>
    ((2 : Int32) ≠ 0 ∧ 
    olet (v6 / 2 : Int32) (fun v7 =>
    (vf_n64 (FP.ddiv (FP.i2d v7) (FP.i2d v5)) ∧ 
    olet (FP.ddiv (FP.i2d v7) (FP.i2d v5) : UInt64) (fun v8 =>
    (f_X1_power K FP.dconst1 v8 (l2 + 1) h2 (fun v9 h3 =>
    oc_ h3 l0 [2] (f_X4_weightsIn K l0 v3 h3 (fun v10 h4 =>
    (vf_n64 (FP.dmul (FP.i2d v10) v9) ∧ 
    olet (FP.dmul (FP.i2d v10) v9 : UInt64) (fun v11 =>
    (vf_n64 (FP.ddiv v11 (FP.i2d (v5 - v7))) ∧ 
    olet (FP.ddiv v11 (FP.i2d (v5 - v7)) : UInt64) (fun v12 =>
    (vf_n64 (FP.dadd l4 v12) ∧ 
    olet (FP.dadd l4 v12 : UInt64) (fun v13 =>
    olet (l6 + 1) (fun v14 =>
    R v13 v14 h4)))))))) X)) X))))))) X))))
def f_X4_bound (K : Nat → Option Nat) (a0 : Option Nat) (a1 : Int32) (a2 : Int32) (h : zw_H) (Q : UInt64 → zw_H → Prop) (X : String → Nat → zw_H → Prop) : Prop :=
  oc_ h a0 [2] (f_X4_laysFar K a0 a1 h (fun v1 h1 =>
  zl3 (f_X4_bound_B12 K Q X (fun v15 h5 =>
    Q v15 h5) a0 a1 a2 v1) zfu FP.dconst0 0 h1) X)
abbrev rm_X1_bound : Room := { frames := 9, cells := 2, slots := 12, locals := 186 }
def f_X1_bound (K : Nat → Option Nat) (a0 : Option Nat) (a1 : Int32) (h : zw_H) (Q : UInt64 → zw_H → Prop) (X : String → Nat → zw_H → Prop) : Prop :=
  oc_ h a0 [1] (f_X1_at K a0 a1 h (fun v1 h1 =>
  og_A h1 a0 [1] 4 (fun v2 =>
  og_I h1 v2 [2] 3 (fun v3 =>
  oc_ h1 v1 [2] (f_X4_bound K v1 a1 v3 h1 (fun v4 h2 =>
  Q v4 h2) X)))) X)
abbrev rm_X1_absolute : Room := { frames := 0, cells := 0, slots := 0, locals := 0 }
def f_X1_absolute (K : Nat → Option Nat) (a0 : UInt64) (h : zw_H) (Q : UInt64 → zw_H → Prop) (X : String → Nat → zw_H → Prop) : Prop :=
  if (0 : Int32) ≤ (Op.cmpValue (FP.dcmp a0 FP.dconst0) .g) then
    Q a0 h
  else
    (vf_n64 (FP.dsub FP.dconst0 a0) ∧ 
    olet (FP.dsub FP.dconst0 a0 : UInt64) (fun v1 =>
    Q v1 h))
abbrev rm_X4_gap : Room := { frames := 9, cells := 0, slots := 0, locals := 202 }
def f_X4_gap (K : Nat → Option Nat) (a0 : Option Nat) (a1 : Int32) (h : zw_H) (Q : UInt64 → zw_H → Prop) (X : String → Nat → zw_H → Prop) : Prop :=
  oc_ h a0 [2] (f_X4_sumBy K a0 a1 0 h (fun v1 h1 =>
  oc_ h1 a0 [2] (f_X4_sumBy K a0 a1 1 h1 (fun v2 h2 =>
  (vf_n64 (FP.dsub v1 v2) ∧ 
  olet (FP.dsub v1 v2 : UInt64) (fun v3 =>
  (f_X1_absolute K v3 h2 (fun v4 h3 =>
  Q v4 h3) X)))) X)) X)
abbrev rm_X1_gapAt : Room := { frames := 10, cells := 2, slots := 12, locals := 223 }
def f_X1_gapAt (K : Nat → Option Nat) (a0 : Option Nat) (a1 : Int32) (h : zw_H) (Q : UInt64 → zw_H → Prop) (X : String → Nat → zw_H → Prop) : Prop :=
  oc_ h a0 [1] (f_X1_at K a0 a1 h (fun v1 h1 =>
  oc_ h1 v1 [2] (f_X4_gap K v1 a1 h1 (fun v2 h2 =>
  Q v2 h2) X)) X)
abbrev rm_X1_isWithin : Room := { frames := 10, cells := 2, slots := 12, locals := 223 }
def f_X1_isWithin (K : Nat → Option Nat) (a0 : Option Nat) (a1 : Int32) (h : zw_H) (Q : Int32 → zw_H → Prop) (X : String → Nat → zw_H → Prop) : Prop :=
  oc_ h a0 [1] (f_X1_at K a0 a1 h (fun v1 h1 =>
  oc_ h1 v1 [2] (f_X4_gap K v1 a1 h1 (fun v2 h2 =>
  og_A h2 a0 [1] 4 (fun v3 =>
  og_A h2 a0 [1] 4 (fun v4 =>
  og_I h2 v4 [2] 3 (fun v5 =>
  oc_ h2 v3 [2] (f_X4_bound K v3 a1 v5 h2 (fun v6 h3 =>
  (vf_n64 (FP.dadd v6 (4517329193108106637 : UInt64)) ∧ 
  olet (FP.dadd v6 (4517329193108106637 : UInt64) : UInt64) (fun v7 =>
  if (0 : Int32) < (Op.cmpValue (FP.dcmp v2 v7) .g) then
    Q 0 h3
  else
    Q 1 h3))) X))))) X)) X)
abbrev rm_X1_worst : Room := { frames := 10, cells := 1, slots := 6, locals := 223 }
def f_X1_worst_J48 (K : Nat → Option Nat) (Q : Int32 → zw_H → Prop) (X : String → Nat → zw_H → Prop) (R : Int32 → UInt64 → Int32 → zw_H → Prop) (k54 : Int32 → zw_H → Prop) (l1 : Option Nat) (l2 : Int32) (l3 : UInt64) (l5 : Int32)  (h : zw_H) : Prop :=
  olet (l5 + 1) (fun v4 =>
  R l2 l3 v4 h)
def f_X1_worst_B16 (K : Nat → Option Nat) (Q : Int32 → zw_H → Prop) (X : String → Nat → zw_H → Prop)  (k54 : Int32 → zw_H → Prop) (l1 : Option Nat) (R : Int32 → UInt64 → Int32 → zw_H → Prop) (l2 : Int32) (l3 : UInt64) (l5 : Int32) (h : zw_H) : Prop :=
  if (256 : Int32) ≤ l5 then
    k54 l2 h
  else
    oc_ h l1 [2] (f_X4_gap K l1 l5 h (fun v3 h3 =>
    if (0 : Int32) < (Op.cmpValue (FP.dcmp v3 l3) .g) then
      f_X1_worst_J48 K Q X R k54 l1 l5 v3 l5  h3
    else
      f_X1_worst_J48 K Q X R k54 l1 l2 l3 l5  h3) X)
def f_X1_worst (K : Nat → Option Nat) (a0 : Option Nat) (h : zw_H) (Q : Int32 → zw_H → Prop) (X : String → Nat → zw_H → Prop) : Prop :=
  oc_ h a0 [1] (f_X1_loaded K a0 h (fun v1 h1 =>
  oc_ h1 v1 [2] (f_X4_gap K v1 0 h1 (fun v2 h2 =>
  zl4 (f_X1_worst_B16 K Q X (fun v5 h4 =>
    Q v5 h4) v1) zfu 0 v2 1 h2) X)) X)
abbrev rm_X4_inheritsl3 : Room := { frames := 1, cells := 1, slots := 5, locals := 27 }
def f_X4_inheritsl3 (K : Nat → Option Nat) (a0 : Option Nat) (a1 : Option Nat) (h : zw_H) (Q : Option Nat → zw_H → Prop) (X : String → Nat → zw_H → Prop) : Prop :=
  og_I h a0 [2] 3 (fun v1 =>
  on_D h 4 (v1 + 1) 5 (fun v2 h1 =>
  og_I h1 a1 [4] 0 (fun v3 =>
  if v3 ≠ 2 then
    False
  else
    Q (some v2) h1)))
abbrev rm_X4_part : Room := { frames := 5, cells := 0, slots := 0, locals := 111 }
def f_X4_part_B17 (K : Nat → Option Nat) (Q : UInt64 → zw_H → Prop) (X : String → Nat → zw_H → Prop)  (k64 : UInt64 → zw_H → Prop) (l0 : Option Nat) (l1 : Option Nat) (l2 : Int32) (l3 : Int32) (R : UInt64 → UInt64 → Int32 → zw_H → Prop) (l4 : UInt64) (l6 : UInt64) (l8 : Int32) (h : zw_H) : Prop :=
  og_I h l0 [2] 3 (fun v2 =>
  if v2 < l8 then
    k64 l4 h
  else
    (f_X1_choose K (l8 + l3) l3 h (fun v3 h2 =>
    oc_ h2 l0 [2] (f_X4_moment K l0 l1 l8 h2 (fun v4 h3 =>
    (vf_n64 (FP.ddiv (FP.l2d (v3 * v4)) l6) ∧ 
    olet (FP.ddiv (FP.l2d (v3 * v4)) l6 : UInt64) (fun v5 =>
    (vf_n64 (FP.dadd l4 v5) ∧ 
    olet (FP.dadd l4 v5 : UInt64) (fun v6 =>
    (vf_n64 (FP.dmul l6 (FP.i2d l2)) ∧ 
    olet (FP.dmul l6 (FP.i2d l2) : UInt64) (fun v7 =>
    olet (l8 + 1) (fun v8 =>
    R v6 v7 v8 h3)))))))) X)) X))
def f_X4_part (K : Nat → Option Nat) (a0 : Option Nat) (a1 : Option Nat) (a2 : Int32) (a3 : Int32) (h : zw_H) (Q : UInt64 → zw_H → Prop) (X : String → Nat → zw_H → Prop) : Prop :=
  (f_X1_power K FP.dconst1 (FP.i2d a2) (a3 + 1) h (fun v1 h1 =>
  zl4 (f_X4_part_B17 K Q X (fun v9 h4 =>
    Q v9 h4) a0 a1 a2 a3) zfu FP.dconst0 v1 0 h1) X)
abbrev rm_X4_locall3 : Room := { frames := 6, cells := 2, slots := 21, locals := 139 }
def f_X4_locall3_J154 (K : Nat → Option Nat) (Q : Option Nat → zw_H → Prop) (X : String → Nat → zw_H → Prop) (R : Int32 → zw_H → Prop) (k160 : zw_H → Prop) (l0 : Option Nat) (l1 : Option Nat) (l2 : Option Nat) (l3 : Option Nat) (l4 : Int32) (l5 : Int32)  (h : zw_H) : Prop :=
  olet (l5 + 1) (fun v10 =>
  R v10 h)
def f_X4_locall3_J148 (K : Nat → Option Nat) (Q : Option Nat → zw_H → Prop) (X : String → Nat → zw_H → Prop) (R : Int32 → zw_H → Prop) (k154 : zw_H → Prop) (l0 : Option Nat) (l1 : Option Nat) (l2 : Option Nat) (l3 : Option Nat) (l4 : Int32) (l5 : Int32) (l6 : Option Nat) (l7 : Int32) (l8 : Int32)  (h : zw_H) : Prop :=
  olet (l8 + 1) (fun v19 =>
  R v19 h)
def f_X4_locall3_J124 (K : Nat → Option Nat) (Q : Option Nat → zw_H → Prop) (X : String → Nat → zw_H → Prop) (R : Int32 → zw_H → Prop) (k154 : zw_H → Prop) (l0 : Option Nat) (l1 : Option Nat) (l2 : Option Nat) (l3 : Option Nat) (l4 : Int32) (l5 : Int32) (l6 : Option Nat) (l7 : Int32) (l8 : Int32) (l9 : UInt64) (s0 : Int32) (s1 : Int32) (h : zw_H) : Prop :=
  if s1 ≠ s0 then
    oa_D h l2 [4] l8 (fun v17 =>
    (vf_n64 (FP.dadd v17 l9) ∧ 
    olet (FP.dadd v17 l9 : UInt64) (fun v18 =>
    os_D h l2 [4] l8 v18 (fun h6 =>
    f_X4_locall3_J148 K Q X R k154 l0 l1 l2 l3 l4 l5 l6 l7 l8  h6))))
  else
    oa_D h l2 [4] l8 (fun v20 =>
    (vf_n64 (FP.dsub v20 l9) ∧ 
    olet (FP.dsub v20 l9 : UInt64) (fun v21 =>
    os_D h l2 [4] l8 v21 (fun h7 =>
    f_X4_locall3_J148 K Q X R k154 l0 l1 l2 l3 l4 l5 l6 l7 l8  h7))))
def f_X4_locall3_J112 (K : Nat → Option Nat) (Q : Option Nat → zw_H → Prop) (X : String → Nat → zw_H → Prop) (R : Int32 → zw_H → Prop) (k154 : zw_H → Prop) (l0 : Option Nat) (l1 : Option Nat) (l2 : Option Nat) (l3 : Option Nat) (l4 : Int32) (l5 : Int32) (l6 : Option Nat) (l7 : Int32) (l8 : Int32) (l9 : UInt64) (s0 : Int32) (h : zw_H) : Prop :=
  ((2 : Int32) ≠ 0 ∧ 
  if (l8 - l8 / 2 * 2) ≠ 0 then
    f_X4_locall3_J124 K Q X R k154 l0 l1 l2 l3 l4 l5 l6 l7 l8 l9 0 s0 h
  else
    f_X4_locall3_J124 K Q X R k154 l0 l1 l2 l3 l4 l5 l6 l7 l8 l9 1 s0 h)
def f_X4_locall3_B81 (K : Nat → Option Nat) (Q : Option Nat → zw_H → Prop) (X : String → Nat → zw_H → Prop)  (k154 : zw_H → Prop) (l0 : Option Nat) (l1 : Option Nat) (l2 : Option Nat) (l3 : Option Nat) (l4 : Int32) (l5 : Int32) (l6 : Option Nat) (l7 : Int32) (R : Int32 → zw_H → Prop) (l8 : Int32) (h : zw_H) : Prop :=
  og_I h l0 [2] 3 (fun v15 =>
  if v15 < l8 then
    k154  h
  else
    oc_ h l0 [2] (f_X4_part K l0 l6 l7 l8 h (fun v16 h5 =>
    if (0 : Int32) ≤ l7 then
      f_X4_locall3_J112 K Q X R k154 l0 l1 l2 l3 l4 l5 l6 l7 l8 v16 0 h5
    else
      f_X4_locall3_J112 K Q X R k154 l0 l1 l2 l3 l4 l5 l6 l7 l8 v16 1 h5) X))
def f_X4_locall3_B29 (K : Nat → Option Nat) (Q : Option Nat → zw_H → Prop) (X : String → Nat → zw_H → Prop)  (k160 : zw_H → Prop) (l0 : Option Nat) (l1 : Option Nat) (l2 : Option Nat) (l3 : Option Nat) (l4 : Int32) (R : Int32 → zw_H → Prop) (l5 : Int32) (h : zw_H) : Prop :=
  if l4 ≤ l5 then
    k160  h
  else
    oa_A h l3 [6] l5 (fun v7 =>
    og_I h l1 [4] 1 (fun v8 =>
    oc_ h v7 [4] (f_X5_isFarFrom K v7 v8 h (fun v9 h3 =>
    if v9 = 0 then
      f_X4_locall3_J154 K Q X R k160 l0 l1 l2 l3 l4 l5  h3
    else
      oc_ h3 l0 [2] (f_X4_bodiesIn K l0 v7 h3 (fun v11 h4 =>
      if v11 ≠ 0 then
        og_I h4 l1 [4] 3 (fun v12 =>
        og_I h4 v7 [4] 3 (fun v13 =>
        olet (v12 - v13 : Int32) (fun v14 =>
        zl2 (f_X4_locall3_B81 K Q X (fun h8 =>
          f_X4_locall3_J154 K Q X R k160 l0 l1 l2 l3 l4 l5  h8) l0 l1 l2 l3 l4 l5 v7 v14) zfu 0 h4)))
      else
        f_X4_locall3_J154 K Q X R k160 l0 l1 l2 l3 l4 l5  h4) X)) X)))
def f_X4_locall3 (K : Nat → Option Nat) (a0 : Option Nat) (a1 : Option Nat) (h : zw_H) (Q : Option Nat → zw_H → Prop) (X : String → Nat → zw_H → Prop) : Prop :=
  oc_ h a0 [2] (f_X4_inheritsl3 K a0 a1 h (fun v1 h1 =>
  ocl_D h1 v1 16 (fun v2 h2 =>
  ocA_ h2 (some v2) 4 (
  og_A h2 a0 [2] 1 (fun v3 =>
  og_I h2 a1 [4] 0 (fun v4 =>
  oa_A h2 v3 [7] v4 (fun v5 =>
  ol_ h2 v5 (fun v6 =>
  zl2 (f_X4_locall3_B29 K Q X (fun h9 =>
    Q (some v2) h9) a0 a1 (some v2) v5 v6) zfu 0 h2))))))) X)
abbrev rm_X4_inheritsl2 : Room := { frames := 7, cells := 3, slots := 26, locals := 169 }
def f_X4_inheritsl2_B71 (K : Nat → Option Nat) (Q : Option Nat → zw_H → Prop) (X : String → Nat → zw_H → Prop)  (k119 : zw_H → Prop) (l0 : Option Nat) (l2 : Option Nat) (l4 : Option Nat) (l5 : UInt64) (l7 : Int32) (R : Int32 → zw_H → Prop) (l8 : Int32) (h : zw_H) : Prop :=
  og_I h l0 [2] 3 (fun v12 =>
  if v12 < l8 then
    k119  h
  else
    oa_D h l2 [4] l7 (fun v13 =>
    (f_X1_choose K l8 l7 h (fun v14 h4 =>
    oa_D h4 l4 [4] l8 (fun v15 =>
    (vf_n64 (FP.dmul (FP.l2d v14) v15) ∧ 
    olet (FP.dmul (FP.l2d v14) v15 : UInt64) (fun v16 =>
    (f_X1_power K FP.dconst1 l5 (l8 - l7) h4 (fun v17 h5 =>
    (vf_n64 (FP.dmul v16 v17) ∧ 
    olet (FP.dmul v16 v17 : UInt64) (fun v18 =>
    (vf_n64 (FP.dadd v13 v18) ∧ 
    olet (FP.dadd v13 v18 : UInt64) (fun v19 =>
    os_D h5 l2 [4] l7 v19 (fun h6 =>
    olet (l8 + 1) (fun v20 =>
    R v20 h6))))))) X))))) X)))
def f_X4_inheritsl2_B58 (K : Nat → Option Nat) (Q : Option Nat → zw_H → Prop) (X : String → Nat → zw_H → Prop)  (k125 : zw_H → Prop) (l0 : Option Nat) (l2 : Option Nat) (l4 : Option Nat) (l5 : UInt64) (R : Int32 → zw_H → Prop) (l7 : Int32) (h : zw_H) : Prop :=
  og_I h l0 [2] 3 (fun v11 =>
  if v11 < l7 then
    k125  h
  else
    zl2 (f_X4_inheritsl2_B71 K Q X (fun h7 =>
      olet (l7 + 1) (fun v21 =>
      R v21 h7)) l0 l2 l4 l5 l7) zfu l7 h)
def f_X4_inheritsl2 (K : Nat → Option Nat) (a0 : Option Nat) (a1 : Option Nat) (h : zw_H) (Q : Option Nat → zw_H → Prop) (X : String → Nat → zw_H → Prop) : Prop :=
  og_I h a0 [2] 3 (fun v1 =>
  on_D h 4 (v1 + 1) 5 (fun v2 h1 =>
  og_I h1 a1 [4] 0 (fun v3 =>
  if v3 ≠ 2 then
    og_I h1 a1 [4] 0 (fun v4 =>
    og_I h1 a1 [4] 1 (fun v5 =>
    ((2 : Int32) ≠ 0 ∧ 
    oc_ h1 a0 [2] (f_X4_box K a0 (v4 - 1) (v5 / 2) h1 (fun v6 h2 =>
    oc_ h2 a0 [2] (f_X4_locall3 K a0 v6 h2 (fun v7 h3 =>
    og_I h3 a1 [4] 3 (fun v8 =>
    og_I h3 v6 [4] 3 (fun v9 =>
    olet (FP.i2d (v8 - v9) : UInt64) (fun v10 =>
    zl2 (f_X4_inheritsl2_B58 K Q X (fun h8 =>
      Q (some v2) h8) a0 (some v2) v7 v10) zfu 0 h3)))) X)) X))))
  else
    Q (some v2) h1)))
abbrev rm_X4_locall2 : Room := { frames := 8, cells := 4, slots := 42, locals := 197 }
def f_X4_locall2_J154 (K : Nat → Option Nat) (Q : Option Nat → zw_H → Prop) (X : String → Nat → zw_H → Prop) (R : Int32 → zw_H → Prop) (k160 : zw_H → Prop) (l0 : Option Nat) (l1 : Option Nat) (l2 : Option Nat) (l3 : Option Nat) (l4 : Int32) (l5 : Int32)  (h : zw_H) : Prop :=
  olet (l5 + 1) (fun v10 =>
  R v10 h)
def f_X4_locall2_J148 (K : Nat → Option Nat) (Q : Option Nat → zw_H → Prop) (X : String → Nat → zw_H → Prop) (R : Int32 → zw_H → Prop) (k154 : zw_H → Prop) (l0 : Option Nat) (l1 : Option Nat) (l2 : Option Nat) (l3 : Option Nat) (l4 : Int32) (l5 : Int32) (l6 : Option Nat) (l7 : Int32) (l8 : Int32)  (h : zw_H) : Prop :=
  olet (l8 + 1) (fun v19 =>
  R v19 h)
def f_X4_locall2_J124 (K : Nat → Option Nat) (Q : Option Nat → zw_H → Prop) (X : String → Nat → zw_H → Prop) (R : Int32 → zw_H → Prop) (k154 : zw_H → Prop) (l0 : Option Nat) (l1 : Option Nat) (l2 : Option Nat) (l3 : Option Nat) (l4 : Int32) (l5 : Int32) (l6 : Option Nat) (l7 : Int32) (l8 : Int32) (l9 : UInt64) (s0 : Int32) (s1 : Int32) (h : zw_H) : Prop :=
  if s1 ≠ s0 then
    oa_D h l2 [4] l8 (fun v17 =>
    (vf_n64 (FP.dadd v17 l9) ∧ 
    olet (FP.dadd v17 l9 : UInt64) (fun v18 =>
    os_D h l2 [4] l8 v18 (fun h6 =>
    f_X4_locall2_J148 K Q X R k154 l0 l1 l2 l3 l4 l5 l6 l7 l8  h6))))
  else
    oa_D h l2 [4] l8 (fun v20 =>
    (vf_n64 (FP.dsub v20 l9) ∧ 
    olet (FP.dsub v20 l9 : UInt64) (fun v21 =>
    os_D h l2 [4] l8 v21 (fun h7 =>
    f_X4_locall2_J148 K Q X R k154 l0 l1 l2 l3 l4 l5 l6 l7 l8  h7))))
def f_X4_locall2_J112 (K : Nat → Option Nat) (Q : Option Nat → zw_H → Prop) (X : String → Nat → zw_H → Prop) (R : Int32 → zw_H → Prop) (k154 : zw_H → Prop) (l0 : Option Nat) (l1 : Option Nat) (l2 : Option Nat) (l3 : Option Nat) (l4 : Int32) (l5 : Int32) (l6 : Option Nat) (l7 : Int32) (l8 : Int32) (l9 : UInt64) (s0 : Int32) (h : zw_H) : Prop :=
  ((2 : Int32) ≠ 0 ∧ 
  if (l8 - l8 / 2 * 2) ≠ 0 then
    f_X4_locall2_J124 K Q X R k154 l0 l1 l2 l3 l4 l5 l6 l7 l8 l9 0 s0 h
  else
    f_X4_locall2_J124 K Q X R k154 l0 l1 l2 l3 l4 l5 l6 l7 l8 l9 1 s0 h)
def f_X4_locall2_B81 (K : Nat → Option Nat) (Q : Option Nat → zw_H → Prop) (X : String → Nat → zw_H → Prop)  (k154 : zw_H → Prop) (l0 : Option Nat) (l1 : Option Nat) (l2 : Option Nat) (l3 : Option Nat) (l4 : Int32) (l5 : Int32) (l6 : Option Nat) (l7 : Int32) (R : Int32 → zw_H → Prop) (l8 : Int32) (h : zw_H) : Prop :=
  og_I h l0 [2] 3 (fun v15 =>
  if v15 < l8 then
    k154  h
  else
    oc_ h l0 [2] (f_X4_part K l0 l6 l7 l8 h (fun v16 h5 =>
    if (0 : Int32) ≤ l7 then
      f_X4_locall2_J112 K Q X R k154 l0 l1 l2 l3 l4 l5 l6 l7 l8 v16 0 h5
    else
      f_X4_locall2_J112 K Q X R k154 l0 l1 l2 l3 l4 l5 l6 l7 l8 v16 1 h5) X))
def f_X4_locall2_B29 (K : Nat → Option Nat) (Q : Option Nat → zw_H → Prop) (X : String → Nat → zw_H → Prop)  (k160 : zw_H → Prop) (l0 : Option Nat) (l1 : Option Nat) (l2 : Option Nat) (l3 : Option Nat) (l4 : Int32) (R : Int32 → zw_H → Prop) (l5 : Int32) (h : zw_H) : Prop :=
  if l4 ≤ l5 then
    k160  h
  else
    oa_A h l3 [6] l5 (fun v7 =>
    og_I h l1 [4] 1 (fun v8 =>
    oc_ h v7 [4] (f_X5_isFarFrom K v7 v8 h (fun v9 h3 =>
    if v9 = 0 then
      f_X4_locall2_J154 K Q X R k160 l0 l1 l2 l3 l4 l5  h3
    else
      oc_ h3 l0 [2] (f_X4_bodiesIn K l0 v7 h3 (fun v11 h4 =>
      if v11 ≠ 0 then
        og_I h4 l1 [4] 3 (fun v12 =>
        og_I h4 v7 [4] 3 (fun v13 =>
        olet (v12 - v13 : Int32) (fun v14 =>
        zl2 (f_X4_locall2_B81 K Q X (fun h8 =>
          f_X4_locall2_J154 K Q X R k160 l0 l1 l2 l3 l4 l5  h8) l0 l1 l2 l3 l4 l5 v7 v14) zfu 0 h4)))
      else
        f_X4_locall2_J154 K Q X R k160 l0 l1 l2 l3 l4 l5  h4) X)) X)))
def f_X4_locall2 (K : Nat → Option Nat) (a0 : Option Nat) (a1 : Option Nat) (h : zw_H) (Q : Option Nat → zw_H → Prop) (X : String → Nat → zw_H → Prop) : Prop :=
  oc_ h a0 [2] (f_X4_inheritsl2 K a0 a1 h (fun v1 h1 =>
  ocl_D h1 v1 16 (fun v2 h2 =>
  ocA_ h2 (some v2) 4 (
  og_A h2 a0 [2] 1 (fun v3 =>
  og_I h2 a1 [4] 0 (fun v4 =>
  oa_A h2 v3 [7] v4 (fun v5 =>
  ol_ h2 v5 (fun v6 =>
  zl2 (f_X4_locall2_B29 K Q X (fun h9 =>
    Q (some v2) h9) a0 a1 (some v2) v5 v6) zfu 0 h2))))))) X)
abbrev rm_X4_inheritsl1 : Room := { frames := 9, cells := 5, slots := 47, locals := 227 }
def f_X4_inheritsl1_B71 (K : Nat → Option Nat) (Q : Option Nat → zw_H → Prop) (X : String → Nat → zw_H → Prop)  (k119 : zw_H → Prop) (l0 : Option Nat) (l2 : Option Nat) (l4 : Option Nat) (l5 : UInt64) (l7 : Int32) (R : Int32 → zw_H → Prop) (l8 : Int32) (h : zw_H) : Prop :=
  og_I h l0 [2] 3 (fun v12 =>
  if v12 < l8 then
    k119  h
  else
    oa_D h l2 [4] l7 (fun v13 =>
    (f_X1_choose K l8 l7 h (fun v14 h4 =>
    oa_D h4 l4 [4] l8 (fun v15 =>
    (vf_n64 (FP.dmul (FP.l2d v14) v15) ∧ 
    olet (FP.dmul (FP.l2d v14) v15 : UInt64) (fun v16 =>
    (f_X1_power K FP.dconst1 l5 (l8 - l7) h4 (fun v17 h5 =>
    (vf_n64 (FP.dmul v16 v17) ∧ 
    olet (FP.dmul v16 v17 : UInt64) (fun v18 =>
    (vf_n64 (FP.dadd v13 v18) ∧ 
    olet (FP.dadd v13 v18 : UInt64) (fun v19 =>
    os_D h5 l2 [4] l7 v19 (fun h6 =>
    olet (l8 + 1) (fun v20 =>
    R v20 h6))))))) X))))) X)))
def f_X4_inheritsl1_B58 (K : Nat → Option Nat) (Q : Option Nat → zw_H → Prop) (X : String → Nat → zw_H → Prop)  (k125 : zw_H → Prop) (l0 : Option Nat) (l2 : Option Nat) (l4 : Option Nat) (l5 : UInt64) (R : Int32 → zw_H → Prop) (l7 : Int32) (h : zw_H) : Prop :=
  og_I h l0 [2] 3 (fun v11 =>
  if v11 < l7 then
    k125  h
  else
    zl2 (f_X4_inheritsl1_B71 K Q X (fun h7 =>
      olet (l7 + 1) (fun v21 =>
      R v21 h7)) l0 l2 l4 l5 l7) zfu l7 h)
def f_X4_inheritsl1 (K : Nat → Option Nat) (a0 : Option Nat) (a1 : Option Nat) (h : zw_H) (Q : Option Nat → zw_H → Prop) (X : String → Nat → zw_H → Prop) : Prop :=
  og_I h a0 [2] 3 (fun v1 =>
  on_D h 4 (v1 + 1) 5 (fun v2 h1 =>
  og_I h1 a1 [4] 0 (fun v3 =>
  if v3 ≠ 2 then
    og_I h1 a1 [4] 0 (fun v4 =>
    og_I h1 a1 [4] 1 (fun v5 =>
    ((2 : Int32) ≠ 0 ∧ 
    oc_ h1 a0 [2] (f_X4_box K a0 (v4 - 1) (v5 / 2) h1 (fun v6 h2 =>
    oc_ h2 a0 [2] (f_X4_locall2 K a0 v6 h2 (fun v7 h3 =>
    og_I h3 a1 [4] 3 (fun v8 =>
    og_I h3 v6 [4] 3 (fun v9 =>
    olet (FP.i2d (v8 - v9) : UInt64) (fun v10 =>
    zl2 (f_X4_inheritsl1_B58 K Q X (fun h8 =>
      Q (some v2) h8) a0 (some v2) v7 v10) zfu 0 h3)))) X)) X))))
  else
    Q (some v2) h1)))
abbrev rm_X4_locall1 : Room := { frames := 10, cells := 6, slots := 63, locals := 255 }
def f_X4_locall1_J154 (K : Nat → Option Nat) (Q : Option Nat → zw_H → Prop) (X : String → Nat → zw_H → Prop) (R : Int32 → zw_H → Prop) (k160 : zw_H → Prop) (l0 : Option Nat) (l1 : Option Nat) (l2 : Option Nat) (l3 : Option Nat) (l4 : Int32) (l5 : Int32)  (h : zw_H) : Prop :=
  olet (l5 + 1) (fun v10 =>
  R v10 h)
def f_X4_locall1_J148 (K : Nat → Option Nat) (Q : Option Nat → zw_H → Prop) (X : String → Nat → zw_H → Prop) (R : Int32 → zw_H → Prop) (k154 : zw_H → Prop) (l0 : Option Nat) (l1 : Option Nat) (l2 : Option Nat) (l3 : Option Nat) (l4 : Int32) (l5 : Int32) (l6 : Option Nat) (l7 : Int32) (l8 : Int32)  (h : zw_H) : Prop :=
  olet (l8 + 1) (fun v19 =>
  R v19 h)
def f_X4_locall1_J124 (K : Nat → Option Nat) (Q : Option Nat → zw_H → Prop) (X : String → Nat → zw_H → Prop) (R : Int32 → zw_H → Prop) (k154 : zw_H → Prop) (l0 : Option Nat) (l1 : Option Nat) (l2 : Option Nat) (l3 : Option Nat) (l4 : Int32) (l5 : Int32) (l6 : Option Nat) (l7 : Int32) (l8 : Int32) (l9 : UInt64) (s0 : Int32) (s1 : Int32) (h : zw_H) : Prop :=
  if s1 ≠ s0 then
    oa_D h l2 [4] l8 (fun v17 =>
    (vf_n64 (FP.dadd v17 l9) ∧ 
    olet (FP.dadd v17 l9 : UInt64) (fun v18 =>
    os_D h l2 [4] l8 v18 (fun h6 =>
    f_X4_locall1_J148 K Q X R k154 l0 l1 l2 l3 l4 l5 l6 l7 l8  h6))))
  else
    oa_D h l2 [4] l8 (fun v20 =>
    (vf_n64 (FP.dsub v20 l9) ∧ 
    olet (FP.dsub v20 l9 : UInt64) (fun v21 =>
    os_D h l2 [4] l8 v21 (fun h7 =>
    f_X4_locall1_J148 K Q X R k154 l0 l1 l2 l3 l4 l5 l6 l7 l8  h7))))
def f_X4_locall1_J112 (K : Nat → Option Nat) (Q : Option Nat → zw_H → Prop) (X : String → Nat → zw_H → Prop) (R : Int32 → zw_H → Prop) (k154 : zw_H → Prop) (l0 : Option Nat) (l1 : Option Nat) (l2 : Option Nat) (l3 : Option Nat) (l4 : Int32) (l5 : Int32) (l6 : Option Nat) (l7 : Int32) (l8 : Int32) (l9 : UInt64) (s0 : Int32) (h : zw_H) : Prop :=
  ((2 : Int32) ≠ 0 ∧ 
  if (l8 - l8 / 2 * 2) ≠ 0 then
    f_X4_locall1_J124 K Q X R k154 l0 l1 l2 l3 l4 l5 l6 l7 l8 l9 0 s0 h
  else
    f_X4_locall1_J124 K Q X R k154 l0 l1 l2 l3 l4 l5 l6 l7 l8 l9 1 s0 h)
def f_X4_locall1_B81 (K : Nat → Option Nat) (Q : Option Nat → zw_H → Prop) (X : String → Nat → zw_H → Prop)  (k154 : zw_H → Prop) (l0 : Option Nat) (l1 : Option Nat) (l2 : Option Nat) (l3 : Option Nat) (l4 : Int32) (l5 : Int32) (l6 : Option Nat) (l7 : Int32) (R : Int32 → zw_H → Prop) (l8 : Int32) (h : zw_H) : Prop :=
  og_I h l0 [2] 3 (fun v15 =>
  if v15 < l8 then
    k154  h
  else
    oc_ h l0 [2] (f_X4_part K l0 l6 l7 l8 h (fun v16 h5 =>
    if (0 : Int32) ≤ l7 then
      f_X4_locall1_J112 K Q X R k154 l0 l1 l2 l3 l4 l5 l6 l7 l8 v16 0 h5
    else
      f_X4_locall1_J112 K Q X R k154 l0 l1 l2 l3 l4 l5 l6 l7 l8 v16 1 h5) X))
def f_X4_locall1_B29 (K : Nat → Option Nat) (Q : Option Nat → zw_H → Prop) (X : String → Nat → zw_H → Prop)  (k160 : zw_H → Prop) (l0 : Option Nat) (l1 : Option Nat) (l2 : Option Nat) (l3 : Option Nat) (l4 : Int32) (R : Int32 → zw_H → Prop) (l5 : Int32) (h : zw_H) : Prop :=
  if l4 ≤ l5 then
    k160  h
  else
    oa_A h l3 [6] l5 (fun v7 =>
    og_I h l1 [4] 1 (fun v8 =>
    oc_ h v7 [4] (f_X5_isFarFrom K v7 v8 h (fun v9 h3 =>
    if v9 = 0 then
      f_X4_locall1_J154 K Q X R k160 l0 l1 l2 l3 l4 l5  h3
    else
      oc_ h3 l0 [2] (f_X4_bodiesIn K l0 v7 h3 (fun v11 h4 =>
      if v11 ≠ 0 then
        og_I h4 l1 [4] 3 (fun v12 =>
        og_I h4 v7 [4] 3 (fun v13 =>
        olet (v12 - v13 : Int32) (fun v14 =>
        zl2 (f_X4_locall1_B81 K Q X (fun h8 =>
          f_X4_locall1_J154 K Q X R k160 l0 l1 l2 l3 l4 l5  h8) l0 l1 l2 l3 l4 l5 v7 v14) zfu 0 h4)))
      else
        f_X4_locall1_J154 K Q X R k160 l0 l1 l2 l3 l4 l5  h4) X)) X)))
def f_X4_locall1 (K : Nat → Option Nat) (a0 : Option Nat) (a1 : Option Nat) (h : zw_H) (Q : Option Nat → zw_H → Prop) (X : String → Nat → zw_H → Prop) : Prop :=
  oc_ h a0 [2] (f_X4_inheritsl1 K a0 a1 h (fun v1 h1 =>
  ocl_D h1 v1 16 (fun v2 h2 =>
  ocA_ h2 (some v2) 4 (
  og_A h2 a0 [2] 1 (fun v3 =>
  og_I h2 a1 [4] 0 (fun v4 =>
  oa_A h2 v3 [7] v4 (fun v5 =>
  ol_ h2 v5 (fun v6 =>
  zl2 (f_X4_locall1_B29 K Q X (fun h9 =>
    Q (some v2) h9) a0 a1 (some v2) v5 v6) zfu 0 h2))))))) X)
abbrev rm_X4_inheritsl0 : Room := { frames := 11, cells := 7, slots := 68, locals := 285 }
def f_X4_inheritsl0_B71 (K : Nat → Option Nat) (Q : Option Nat → zw_H → Prop) (X : String → Nat → zw_H → Prop)  (k119 : zw_H → Prop) (l0 : Option Nat) (l2 : Option Nat) (l4 : Option Nat) (l5 : UInt64) (l7 : Int32) (R : Int32 → zw_H → Prop) (l8 : Int32) (h : zw_H) : Prop :=
  og_I h l0 [2] 3 (fun v12 =>
  if v12 < l8 then
    k119  h
  else
    oa_D h l2 [4] l7 (fun v13 =>
    (f_X1_choose K l8 l7 h (fun v14 h4 =>
    oa_D h4 l4 [4] l8 (fun v15 =>
    (vf_n64 (FP.dmul (FP.l2d v14) v15) ∧ 
    olet (FP.dmul (FP.l2d v14) v15 : UInt64) (fun v16 =>
    (f_X1_power K FP.dconst1 l5 (l8 - l7) h4 (fun v17 h5 =>
    (vf_n64 (FP.dmul v16 v17) ∧ 
    olet (FP.dmul v16 v17 : UInt64) (fun v18 =>
    (vf_n64 (FP.dadd v13 v18) ∧ 
    olet (FP.dadd v13 v18 : UInt64) (fun v19 =>
    os_D h5 l2 [4] l7 v19 (fun h6 =>
    olet (l8 + 1) (fun v20 =>
    R v20 h6))))))) X))))) X)))
def f_X4_inheritsl0_B58 (K : Nat → Option Nat) (Q : Option Nat → zw_H → Prop) (X : String → Nat → zw_H → Prop)  (k125 : zw_H → Prop) (l0 : Option Nat) (l2 : Option Nat) (l4 : Option Nat) (l5 : UInt64) (R : Int32 → zw_H → Prop) (l7 : Int32) (h : zw_H) : Prop :=
  og_I h l0 [2] 3 (fun v11 =>
  if v11 < l7 then
    k125  h
  else
    zl2 (f_X4_inheritsl0_B71 K Q X (fun h7 =>
      olet (l7 + 1) (fun v21 =>
      R v21 h7)) l0 l2 l4 l5 l7) zfu l7 h)
def f_X4_inheritsl0 (K : Nat → Option Nat) (a0 : Option Nat) (a1 : Option Nat) (h : zw_H) (Q : Option Nat → zw_H → Prop) (X : String → Nat → zw_H → Prop) : Prop :=
  og_I h a0 [2] 3 (fun v1 =>
  on_D h 4 (v1 + 1) 5 (fun v2 h1 =>
  og_I h1 a1 [4] 0 (fun v3 =>
  if v3 ≠ 2 then
    og_I h1 a1 [4] 0 (fun v4 =>
    og_I h1 a1 [4] 1 (fun v5 =>
    ((2 : Int32) ≠ 0 ∧ 
    oc_ h1 a0 [2] (f_X4_box K a0 (v4 - 1) (v5 / 2) h1 (fun v6 h2 =>
    oc_ h2 a0 [2] (f_X4_locall1 K a0 v6 h2 (fun v7 h3 =>
    og_I h3 a1 [4] 3 (fun v8 =>
    og_I h3 v6 [4] 3 (fun v9 =>
    olet (FP.i2d (v8 - v9) : UInt64) (fun v10 =>
    zl2 (f_X4_inheritsl0_B58 K Q X (fun h8 =>
      Q (some v2) h8) a0 (some v2) v7 v10) zfu 0 h3)))) X)) X))))
  else
    Q (some v2) h1)))
abbrev rm_X4_locall0 : Room := { frames := 12, cells := 8, slots := 84, locals := 313 }
def f_X4_locall0_J154 (K : Nat → Option Nat) (Q : Option Nat → zw_H → Prop) (X : String → Nat → zw_H → Prop) (R : Int32 → zw_H → Prop) (k160 : zw_H → Prop) (l0 : Option Nat) (l1 : Option Nat) (l2 : Option Nat) (l3 : Option Nat) (l4 : Int32) (l5 : Int32)  (h : zw_H) : Prop :=
  olet (l5 + 1) (fun v10 =>
  R v10 h)
def f_X4_locall0_J148 (K : Nat → Option Nat) (Q : Option Nat → zw_H → Prop) (X : String → Nat → zw_H → Prop) (R : Int32 → zw_H → Prop) (k154 : zw_H → Prop) (l0 : Option Nat) (l1 : Option Nat) (l2 : Option Nat) (l3 : Option Nat) (l4 : Int32) (l5 : Int32) (l6 : Option Nat) (l7 : Int32) (l8 : Int32)  (h : zw_H) : Prop :=
  olet (l8 + 1) (fun v19 =>
  R v19 h)
def f_X4_locall0_J124 (K : Nat → Option Nat) (Q : Option Nat → zw_H → Prop) (X : String → Nat → zw_H → Prop) (R : Int32 → zw_H → Prop) (k154 : zw_H → Prop) (l0 : Option Nat) (l1 : Option Nat) (l2 : Option Nat) (l3 : Option Nat) (l4 : Int32) (l5 : Int32) (l6 : Option Nat) (l7 : Int32) (l8 : Int32) (l9 : UInt64) (s0 : Int32) (s1 : Int32) (h : zw_H) : Prop :=
  if s1 ≠ s0 then
    oa_D h l2 [4] l8 (fun v17 =>
    (vf_n64 (FP.dadd v17 l9) ∧ 
    olet (FP.dadd v17 l9 : UInt64) (fun v18 =>
    os_D h l2 [4] l8 v18 (fun h6 =>
    f_X4_locall0_J148 K Q X R k154 l0 l1 l2 l3 l4 l5 l6 l7 l8  h6))))
  else
    oa_D h l2 [4] l8 (fun v20 =>
    (vf_n64 (FP.dsub v20 l9) ∧ 
    olet (FP.dsub v20 l9 : UInt64) (fun v21 =>
    os_D h l2 [4] l8 v21 (fun h7 =>
    f_X4_locall0_J148 K Q X R k154 l0 l1 l2 l3 l4 l5 l6 l7 l8  h7))))
def f_X4_locall0_J112 (K : Nat → Option Nat) (Q : Option Nat → zw_H → Prop) (X : String → Nat → zw_H → Prop) (R : Int32 → zw_H → Prop) (k154 : zw_H → Prop) (l0 : Option Nat) (l1 : Option Nat) (l2 : Option Nat) (l3 : Option Nat) (l4 : Int32) (l5 : Int32) (l6 : Option Nat) (l7 : Int32) (l8 : Int32) (l9 : UInt64) (s0 : Int32) (h : zw_H) : Prop :=
  ((2 : Int32) ≠ 0 ∧ 
  if (l8 - l8 / 2 * 2) ≠ 0 then
    f_X4_locall0_J124 K Q X R k154 l0 l1 l2 l3 l4 l5 l6 l7 l8 l9 0 s0 h
  else
    f_X4_locall0_J124 K Q X R k154 l0 l1 l2 l3 l4 l5 l6 l7 l8 l9 1 s0 h)
def f_X4_locall0_B81 (K : Nat → Option Nat) (Q : Option Nat → zw_H → Prop) (X : String → Nat → zw_H → Prop)  (k154 : zw_H → Prop) (l0 : Option Nat) (l1 : Option Nat) (l2 : Option Nat) (l3 : Option Nat) (l4 : Int32) (l5 : Int32) (l6 : Option Nat) (l7 : Int32) (R : Int32 → zw_H → Prop) (l8 : Int32) (h : zw_H) : Prop :=
  og_I h l0 [2] 3 (fun v15 =>
  if v15 < l8 then
    k154  h
  else
    oc_ h l0 [2] (f_X4_part K l0 l6 l7 l8 h (fun v16 h5 =>
    if (0 : Int32) ≤ l7 then
      f_X4_locall0_J112 K Q X R k154 l0 l1 l2 l3 l4 l5 l6 l7 l8 v16 0 h5
    else
      f_X4_locall0_J112 K Q X R k154 l0 l1 l2 l3 l4 l5 l6 l7 l8 v16 1 h5) X))
def f_X4_locall0_B29 (K : Nat → Option Nat) (Q : Option Nat → zw_H → Prop) (X : String → Nat → zw_H → Prop)  (k160 : zw_H → Prop) (l0 : Option Nat) (l1 : Option Nat) (l2 : Option Nat) (l3 : Option Nat) (l4 : Int32) (R : Int32 → zw_H → Prop) (l5 : Int32) (h : zw_H) : Prop :=
  if l4 ≤ l5 then
    k160  h
  else
    oa_A h l3 [6] l5 (fun v7 =>
    og_I h l1 [4] 1 (fun v8 =>
    oc_ h v7 [4] (f_X5_isFarFrom K v7 v8 h (fun v9 h3 =>
    if v9 = 0 then
      f_X4_locall0_J154 K Q X R k160 l0 l1 l2 l3 l4 l5  h3
    else
      oc_ h3 l0 [2] (f_X4_bodiesIn K l0 v7 h3 (fun v11 h4 =>
      if v11 ≠ 0 then
        og_I h4 l1 [4] 3 (fun v12 =>
        og_I h4 v7 [4] 3 (fun v13 =>
        olet (v12 - v13 : Int32) (fun v14 =>
        zl2 (f_X4_locall0_B81 K Q X (fun h8 =>
          f_X4_locall0_J154 K Q X R k160 l0 l1 l2 l3 l4 l5  h8) l0 l1 l2 l3 l4 l5 v7 v14) zfu 0 h4)))
      else
        f_X4_locall0_J154 K Q X R k160 l0 l1 l2 l3 l4 l5  h4) X)) X)))
def f_X4_locall0 (K : Nat → Option Nat) (a0 : Option Nat) (a1 : Option Nat) (h : zw_H) (Q : Option Nat → zw_H → Prop) (X : String → Nat → zw_H → Prop) : Prop :=
  oc_ h a0 [2] (f_X4_inheritsl0 K a0 a1 h (fun v1 h1 =>
  ocl_D h1 v1 16 (fun v2 h2 =>
  ocA_ h2 (some v2) 4 (
  og_A h2 a0 [2] 1 (fun v3 =>
  og_I h2 a1 [4] 0 (fun v4 =>
  oa_A h2 v3 [7] v4 (fun v5 =>
  ol_ h2 v5 (fun v6 =>
  zl2 (f_X4_locall0_B29 K Q X (fun h9 =>
    Q (some v2) h9) a0 a1 (some v2) v5 v6) zfu 0 h2))))))) X)
abbrev rm_X1_localEntry : Room := { frames := 13, cells := 14, slots := 120, locals := 343 }
def f_X1_localEntry (K : Nat → Option Nat) (a0 : Option Nat) (a1 : Int32) (a2 : Int32) (a3 : Int32) (h : zw_H) (Q : UInt64 → zw_H → Prop) (X : String → Nat → zw_H → Prop) : Prop :=
  oc_ h a0 [1] (f_X1_loaded K a0 h (fun v1 h1 =>
  og_I h1 v1 [2] 2 (fun v2 =>
  (f_X1_checkIndex K (a1 - 2) ((v2 - 2) + 1) h1 (fun h2 =>
  oc_ h2 a0 [1] (f_X1_boxOf K a0 a1 a2 h2 (fun v3 h3 =>
  og_I h3 v1 [2] 3 (fun v4 =>
  (f_X1_in K a3.toInt64 0 v4.toInt64 h3 (fun v5 h4 =>
  (f_X1_checkArgument K v5 h4 (fun h5 =>
  oc_ h5 v1 [2] (f_X4_locall0 K v1 v3 h5 (fun v6 h6 =>
  oa_D h6 v6 [4] a3 (fun v7 =>
  Q v7 h6)) X)) X)) X))) X)) X))) X)
abbrev rm_X4_localSum : Room := { frames := 13, cells := 8, slots := 84, locals := 343 }
def f_X4_localSum_B27 (K : Nat → Option Nat) (Q : UInt64 → zw_H → Prop) (X : String → Nat → zw_H → Prop)  (k60 : UInt64 → zw_H → Prop) (l0 : Option Nat) (l3 : Option Nat) (l6 : UInt64) (R : UInt64 → Int32 → zw_H → Prop) (l4 : UInt64) (l8 : Int32) (h : zw_H) : Prop :=
  og_I h l0 [2] 3 (fun v5 =>
  if v5 < l8 then
    k60 l4 h
  else
    oa_D h l3 [4] l8 (fun v6 =>
    (f_X1_power K FP.dconst1 l6 l8 h (fun v7 h3 =>
    (vf_n64 (FP.dmul v6 v7) ∧ 
    olet (FP.dmul v6 v7 : UInt64) (fun v8 =>
    (vf_n64 (FP.dadd l4 v8) ∧ 
    olet (FP.dadd l4 v8 : UInt64) (fun v9 =>
    olet (l8 + 1) (fun v10 =>
    R v9 v10 h3)))))) X)))
def f_X4_localSum (K : Nat → Option Nat) (a0 : Option Nat) (a1 : Int32) (h : zw_H) (Q : UInt64 → zw_H → Prop) (X : String → Nat → zw_H → Prop) : Prop :=
  oc_ h a0 [2] (f_X4_leaf K a0 a1 h (fun v1 h1 =>
  oc_ h1 a0 [2] (f_X4_locall0 K a0 v1 h1 (fun v2 h2 =>
  og_I h2 v1 [4] 3 (fun v3 =>
  olet (FP.i2d (a1 - v3) : UInt64) (fun v4 =>
  zl3 (f_X4_localSum_B27 K Q X (fun v11 h4 =>
    Q v11 h4) a0 v2 v4) zfu FP.dconst0 0 h2))) X)) X)
abbrev rm_X1_localSum : Room := { frames := 14, cells := 10, slots := 96, locals := 371 }
def f_X1_localSum (K : Nat → Option Nat) (a0 : Option Nat) (a1 : Int32) (h : zw_H) (Q : UInt64 → zw_H → Prop) (X : String → Nat → zw_H → Prop) : Prop :=
  oc_ h a0 [1] (f_X1_at K a0 a1 h (fun v1 h1 =>
  oc_ h1 v1 [2] (f_X4_localSum K v1 a1 h1 (fun v2 h2 =>
  Q v2 h2) X)) X)
abbrev rm_X4_pull : Room := { frames := 4, cells := 0, slots := 0, locals := 85 }
def f_X4_pull_J92 (K : Nat → Option Nat) (Q : UInt64 → zw_H → Prop) (X : String → Nat → zw_H → Prop) (R : UInt64 → Int32 → zw_H → Prop) (k98 : UInt64 → zw_H → Prop) (l0 : Option Nat) (l1 : Int32) (l2 : Int32) (l3 : UInt64) (l5 : Int32)  (h : zw_H) : Prop :=
  olet (l5 + 1) (fun v4 =>
  R l3 v4 h)
def f_X4_pull_J91 (K : Nat → Option Nat) (Q : UInt64 → zw_H → Prop) (X : String → Nat → zw_H → Prop) (R : UInt64 → Int32 → zw_H → Prop) (k98 : UInt64 → zw_H → Prop) (l0 : Option Nat) (l1 : Int32) (l2 : Int32) (l5 : Int32) (s0 : UInt64) (h : zw_H) : Prop :=
  f_X4_pull_J92 K Q X R k98 l0 l1 l2 s0 l5  h
def f_X4_pull_J48 (K : Nat → Option Nat) (Q : UInt64 → zw_H → Prop) (X : String → Nat → zw_H → Prop) (R : UInt64 → Int32 → zw_H → Prop) (k98 : UInt64 → zw_H → Prop) (l0 : Option Nat) (l1 : Int32) (l2 : Int32) (l3 : UInt64) (l5 : Int32) (l6 : Option Nat)  (h : zw_H) : Prop :=
  od_ h l6 [6] [7]
    (f_X7_distance K l6 l1 h (fun v5 h3 =>
      og_I h3 l6 [6, 7] 1 (fun v6 =>
      (vf_n64 (FP.ddiv (FP.i2d v6) (FP.i2d (v5 * v5))) ∧ 
      olet (FP.ddiv (FP.i2d v6) (FP.i2d (v5 * v5)) : UInt64) (fun v7 =>
      og_I h3 l6 [6, 7] 0 (fun v8 =>
      if v8 ≤ l1 then
        (vf_n64 (FP.dsub l3 v7) ∧ 
        olet (FP.dsub l3 v7 : UInt64) (fun v9 =>
        f_X4_pull_J91 K Q X R k98 l0 l1 l2 l5 v9 h3))
      else
        (vf_n64 (FP.dadd l3 v7) ∧ 
        olet (FP.dadd l3 v7 : UInt64) (fun v10 =>
        f_X4_pull_J91 K Q X R k98 l0 l1 l2 l5 v10 h3))))))) X)
    (f_X7_distance K l6 l1 h (fun v5 h3 =>
      og_I h3 l6 [6, 7] 1 (fun v6 =>
      (vf_n64 (FP.ddiv (FP.i2d v6) (FP.i2d (v5 * v5))) ∧ 
      olet (FP.ddiv (FP.i2d v6) (FP.i2d (v5 * v5)) : UInt64) (fun v7 =>
      og_I h3 l6 [6, 7] 0 (fun v8 =>
      if v8 ≤ l1 then
        (vf_n64 (FP.dsub l3 v7) ∧ 
        olet (FP.dsub l3 v7 : UInt64) (fun v9 =>
        f_X4_pull_J91 K Q X R k98 l0 l1 l2 l5 v9 h3))
      else
        (vf_n64 (FP.dadd l3 v7) ∧ 
        olet (FP.dadd l3 v7 : UInt64) (fun v10 =>
        f_X4_pull_J91 K Q X R k98 l0 l1 l2 l5 v10 h3))))))) X)
def f_X4_pull_B5 (K : Nat → Option Nat) (Q : UInt64 → zw_H → Prop) (X : String → Nat → zw_H → Prop)  (k98 : UInt64 → zw_H → Prop) (l0 : Option Nat) (l1 : Int32) (l2 : Int32) (R : UInt64 → Int32 → zw_H → Prop) (l3 : UInt64) (l5 : Int32) (h : zw_H) : Prop :=
  oc_ h l0 [2] (f_X4_size K l0 h (fun v1 h1 =>
  if v1 ≤ l5 then
    k98 l3 h1
  else
    oc_ h1 l0 [2] (f_X4_at K l0 l5 h1 (fun v2 h2 =>
    og_I h2 v2 [6, 7] 0 (fun v3 =>
    if v3 = l1 then
      f_X4_pull_J92 K Q X R k98 l0 l1 l2 l3 l5  h2
    else
      if l2 = 0 then
        f_X4_pull_J48 K Q X R k98 l0 l1 l2 l3 l5 v2  h2
      else
        oc_ h2 l0 [2] (f_X4_isNear K l0 v2 l1 h2 (fun v11 h4 =>
        if v11 ≠ 0 then
          f_X4_pull_J48 K Q X R k98 l0 l1 l2 l3 l5 v2  h4
        else
          f_X4_pull_J92 K Q X R k98 l0 l1 l2 l3 l5  h4) X))) X)) X)
def f_X4_pull (K : Nat → Option Nat) (a0 : Option Nat) (a1 : Int32) (a2 : Int32) (h : zw_H) (Q : UInt64 → zw_H → Prop) (X : String → Nat → zw_H → Prop) : Prop :=
  zl3 (f_X4_pull_B5 K Q X (fun v12 h5 =>
    Q v12 h5) a0 a1 a2) zfu FP.dconst0 0 h
abbrev rm_X1_pullPlain : Room := { frames := 9, cells := 2, slots := 12, locals := 182 }
def f_X1_pullPlain (K : Nat → Option Nat) (a0 : Option Nat) (a1 : Int32) (h : zw_H) (Q : UInt64 → zw_H → Prop) (X : String → Nat → zw_H → Prop) : Prop :=
  oc_ h a0 [1] (f_X1_at K a0 a1 h (fun v1 h1 =>
  oc_ h1 v1 [2] (f_X4_pull K v1 a1 0 h1 (fun v2 h2 =>
  Q v2 h2) X)) X)
abbrev rm_X4_pullFar : Room := { frames := 7, cells := 0, slots := 0, locals := 155 }
def f_X4_pullFar_B47 (K : Nat → Option Nat) (Q : UInt64 → zw_H → Prop) (X : String → Nat → zw_H → Prop)  (k97 : UInt64 → zw_H → Prop) (l0 : Option Nat) (l1 : Int32) (l2 : Int32) (l3 : UInt64) (l5 : Int32) (l6 : UInt64) (R : UInt64 → UInt64 → Int32 → zw_H → Prop) (l8 : UInt64) (l10 : UInt64) (l12 : Int32) (h : zw_H) : Prop :=
  og_I h l0 [2] 3 (fun v7 =>
  if v7 < l12 then
    k97 l8 h
  else
    og_A h l0 [2] 7 (fun v8 =>
    oa_A h v8 [6] l5 (fun v9 =>
    oc_ h l0 [2] (f_X4_moment K l0 v9 l12 h (fun v10 h3 =>
    (vf_n64 (FP.ddiv (FP.l2d (((l12 + 1).toInt64) * v10)) l10) ∧ 
    olet (FP.ddiv (FP.l2d (((l12 + 1).toInt64) * v10)) l10 : UInt64) (fun v11 =>
    (vf_n64 (FP.dadd l8 v11) ∧ 
    olet (FP.dadd l8 v11 : UInt64) (fun v12 =>
    (vf_n64 (FP.dmul l10 l6) ∧ 
    olet (FP.dmul l10 l6 : UInt64) (fun v13 =>
    olet (l12 + 1) (fun v14 =>
    R v12 v13 v14 h3)))))))) X))))
def f_X4_pullFar_J115 (K : Nat → Option Nat) (Q : UInt64 → zw_H → Prop) (X : String → Nat → zw_H → Prop) (R : UInt64 → Int32 → zw_H → Prop) (k122 : UInt64 → zw_H → Prop) (l0 : Option Nat) (l1 : Int32) (l2 : Int32) (l5 : Int32) (s0 : UInt64) (h : zw_H) : Prop :=
  olet (l5 + 1) (fun v17 =>
  R s0 v17 h)
def f_X4_pullFar_B11 (K : Nat → Option Nat) (Q : UInt64 → zw_H → Prop) (X : String → Nat → zw_H → Prop)  (k122 : UInt64 → zw_H → Prop) (l0 : Option Nat) (l1 : Int32) (l2 : Int32) (R : UInt64 → Int32 → zw_H → Prop) (l3 : UInt64) (l5 : Int32) (h : zw_H) : Prop :=
  if l2 ≤ l5 then
    k122 l3 h
  else
    og_A h l0 [2] 7 (fun v2 =>
    oa_A h v2 [6] l5 (fun v3 =>
    og_I h v3 [4] 3 (fun v4 =>
    olet (FP.i2d (l1 - v4) : UInt64) (fun v5 =>
    (f_X1_power K FP.dconst1 v5 2 h (fun v6 h2 =>
    zl4 (f_X4_pullFar_B47 K Q X (fun v15 h4 =>
      if (Op.cmpValue (FP.dcmp v5 FP.dconst0) .l) ≤ 0 then
        (vf_n64 (FP.dadd l3 v15) ∧ 
        olet (FP.dadd l3 v15 : UInt64) (fun v16 =>
        f_X4_pullFar_J115 K Q X R k122 l0 l1 l2 l5 v16 h4))
      else
        (vf_n64 (FP.dsub l3 v15) ∧ 
        olet (FP.dsub l3 v15 : UInt64) (fun v18 =>
        f_X4_pullFar_J115 K Q X R k122 l0 l1 l2 l5 v18 h4))) l0 l1 l2 l3 l5 v5) zfu FP.dconst0 v6 0 h2) X)))))
def f_X4_pullFar (K : Nat → Option Nat) (a0 : Option Nat) (a1 : Int32) (h : zw_H) (Q : UInt64 → zw_H → Prop) (X : String → Nat → zw_H → Prop) : Prop :=
  oc_ h a0 [2] (f_X4_laysFar K a0 a1 h (fun v1 h1 =>
  zl3 (f_X4_pullFar_B11 K Q X (fun v19 h5 =>
    Q v19 h5) a0 a1 v1) zfu FP.dconst0 0 h1) X)
abbrev rm_X1_pullFar : Room := { frames := 9, cells := 2, slots := 12, locals := 187 }
def f_X1_pullFar (K : Nat → Option Nat) (a0 : Option Nat) (a1 : Int32) (h : zw_H) (Q : UInt64 → zw_H → Prop) (X : String → Nat → zw_H → Prop) : Prop :=
  oc_ h a0 [1] (f_X1_at K a0 a1 h (fun v1 h1 =>
  oc_ h1 v1 [2] (f_X4_pullFar K v1 a1 h1 (fun v2 h2 =>
  Q v2 h2) X)) X)
abbrev rm_X4_pull_2 : Room := { frames := 8, cells := 0, slots := 0, locals := 187 }
def f_X4_pull_2 (K : Nat → Option Nat) (a0 : Option Nat) (a1 : Int32) (h : zw_H) (Q : UInt64 → zw_H → Prop) (X : String → Nat → zw_H → Prop) : Prop :=
  oc_ h a0 [2] (f_X4_pull K a0 a1 1 h (fun v1 h1 =>
  oc_ h1 a0 [2] (f_X4_pullFar K a0 a1 h1 (fun v2 h2 =>
  (vf_n64 (FP.dadd v1 v2) ∧ 
  olet (FP.dadd v1 v2 : UInt64) (fun v3 =>
  Q v3 h2))) X)) X)
abbrev rm_X1_pull : Room := { frames := 9, cells := 2, slots := 12, locals := 208 }
def f_X1_pull (K : Nat → Option Nat) (a0 : Option Nat) (a1 : Int32) (h : zw_H) (Q : UInt64 → zw_H → Prop) (X : String → Nat → zw_H → Prop) : Prop :=
  oc_ h a0 [1] (f_X1_at K a0 a1 h (fun v1 h1 =>
  oc_ h1 v1 [2] (f_X4_pull_2 K v1 a1 h1 (fun v2 h2 =>
  Q v2 h2) X)) X)
abbrev rm_X4_goes : Room := { frames := 9, cells := 0, slots := 0, locals := 208 }
def f_X4_goes_J76 (K : Nat → Option Nat) (Q : Int32 → zw_H → Prop) (X : String → Nat → zw_H → Prop)   (s0 : Int32) (h : zw_H) : Prop :=
  (f_X1_flag K s0 h (fun v8 h2 =>
  Q (-v8) h2) X)
def f_X4_goes_J51 (K : Nat → Option Nat) (Q : Int32 → zw_H → Prop) (X : String → Nat → zw_H → Prop)   (s0 : Int32) (h : zw_H) : Prop :=
  (f_X1_flag K s0 h (fun v10 h3 =>
  Q v10 h3) X)
def f_X4_goes (K : Nat → Option Nat) (a0 : Option Nat) (a1 : Option Nat) (h : zw_H) (Q : Int32 → zw_H → Prop) (X : String → Nat → zw_H → Prop) : Prop :=
  og_I h a1 [6, 7] 3 (fun v1 =>
  if v1 ≠ 0 then
    og_I h a1 [6, 7] 0 (fun v2 =>
    oc_ h a0 [2] (f_X4_pull_2 K a0 v2 h (fun v3 h1 =>
    og_I h1 a0 [2] 4 (fun v4 =>
    (vf_n64 (FP.ddiv (FP.i2d v4) (4652007308841189376 : UInt64)) ∧ 
    olet (FP.ddiv (FP.i2d v4) (4652007308841189376 : UInt64) : UInt64) (fun v5 =>
    if (Op.cmpValue (FP.dcmp v3 v5) .l) ≤ 0 then
      (vf_n64 (FP.dsub FP.dconst0 v5) ∧ 
      olet (FP.dsub FP.dconst0 v5 : UInt64) (fun v6 =>
      if (0 : Int32) ≤ (Op.cmpValue (FP.dcmp v3 v6) .g) then
        Q 0 h1
      else
        og_I h1 a1 [6, 7] 0 (fun v7 =>
        if v7 ≤ 0 then
          f_X4_goes_J76 K Q X   0 h1
        else
          f_X4_goes_J76 K Q X   1 h1)))
    else
      og_I h1 a1 [6, 7] 0 (fun v9 =>
      if (255 : Int32) ≤ v9 then
        f_X4_goes_J51 K Q X   0 h1
      else
        f_X4_goes_J51 K Q X   1 h1))))) X))
  else
    Q 0 h)
abbrev rm_X1_willMove : Room := { frames := 10, cells := 2, slots := 12, locals := 233 }
def f_X1_willMove (K : Nat → Option Nat) (a0 : Option Nat) (a1 : Int32) (h : zw_H) (Q : Int32 → zw_H → Prop) (X : String → Nat → zw_H → Prop) : Prop :=
  oc_ h a0 [1] (f_X1_bodyOf K a0 a1 h (fun v1 h1 =>
  og_A h1 a0 [1] 4 (fun v2 =>
  oc_ h1 v2 [2] (f_X4_goes K v2 v1 h1 (fun v3 h2 =>
  Q v3 h2) X))) X)
abbrev rm_X1_checkSteps : Room := { frames := 7, cells := 1, slots := 6, locals := 140 }
def f_X1_checkSteps (K : Nat → Option Nat) (a0 : Int32) (a1 : Int32) (h : zw_H) (Q : zw_H → Prop) (X : String → Nat → zw_H → Prop) : Prop :=
  (f_X1_in K a0.toInt64 a1.toInt64 (50 : Int64) h (fun v1 h1 =>
  (f_X1_checkArgument K v1 h1 (fun h2 =>
  Q h2) X)) X)
abbrev rm_X8_same : Room := { frames := 3, cells := 1, slots := 4, locals := 60 }
def f_X8_same (K : Nat → Option Nat) (a0 : Option Nat) (h : zw_H) (Q : Option Nat → zw_H → Prop) (X : String → Nat → zw_H → Prop) : Prop :=
  on_C h (.inr (6, [.int 0, .int 0, .int 0, .int 0])) (fun v1 h1 =>
  (f_X8_init K (some v1) h1 (fun h2 =>
  Q (some v1) h2) X))
abbrev rm_X9_same : Room := { frames := 3, cells := 1, slots := 4, locals := 60 }
def f_X9_same (K : Nat → Option Nat) (a0 : Option Nat) (h : zw_H) (Q : Option Nat → zw_H → Prop) (X : String → Nat → zw_H → Prop) : Prop :=
  on_C h (.inr (7, [.int 0, .int 0, .int 0, .int 0])) (fun v1 h1 =>
  (f_X9_init K (some v1) h1 (fun h2 =>
  Q (some v1) h2) X))
abbrev rm_X7_copy : Room := { frames := 4, cells := 1, slots := 4, locals := 80 }
def f_X7_copy (K : Nat → Option Nat) (a0 : Option Nat) (h : zw_H) (Q : Option Nat → zw_H → Prop) (X : String → Nat → zw_H → Prop) : Prop :=
  od_ h a0 [6] [7]
    (f_X8_same K a0 h (fun v1 h1 =>
      og_I h1 a0 [6, 7] 0 (fun v2 =>
      og_I h1 a0 [6, 7] 1 (fun v3 =>
      og_I h1 a0 [6, 7] 2 (fun v4 =>
      od_ h1 v1 [6] [7]
        (f_X7_be K v1 v2 v3 v4 h1 (fun v5 h2 =>
          og_I h2 a0 [6, 7] 3 (fun v6 =>
          ((narrow .boolean (.int v6) = .int v6 ∧ fits .boolean (.int v6) = true) ∧ 
          op_V h2 v5 [6, 7] 3 (.int v6) (fun h3 =>
          Q v5 h3)))) X)
        (f_X7_be K v1 v2 v3 v4 h1 (fun v5 h2 =>
          og_I h2 a0 [6, 7] 3 (fun v6 =>
          ((narrow .boolean (.int v6) = .int v6 ∧ fits .boolean (.int v6) = true) ∧ 
          op_V h2 v5 [6, 7] 3 (.int v6) (fun h3 =>
          Q v5 h3)))) X))))) X)
    (f_X9_same K a0 h (fun v1 h1 =>
      og_I h1 a0 [6, 7] 0 (fun v2 =>
      og_I h1 a0 [6, 7] 1 (fun v3 =>
      og_I h1 a0 [6, 7] 2 (fun v4 =>
      od_ h1 v1 [6] [7]
        (f_X7_be K v1 v2 v3 v4 h1 (fun v5 h2 =>
          og_I h2 a0 [6, 7] 3 (fun v6 =>
          ((narrow .boolean (.int v6) = .int v6 ∧ fits .boolean (.int v6) = true) ∧ 
          op_V h2 v5 [6, 7] 3 (.int v6) (fun h3 =>
          Q v5 h3)))) X)
        (f_X7_be K v1 v2 v3 v4 h1 (fun v5 h2 =>
          og_I h2 a0 [6, 7] 3 (fun v6 =>
          ((narrow .boolean (.int v6) = .int v6 ∧ fits .boolean (.int v6) = true) ∧ 
          op_V h2 v5 [6, 7] 3 (.int v6) (fun h3 =>
          Q v5 h3)))) X))))) X)
abbrev rm_X4_copy : Room := { frames := 8, cells := 293, slots := 2357, locals := 231 }
def f_X4_copy_B10 (K : Nat → Option Nat) (Q : Option Nat → zw_H → Prop) (X : String → Nat → zw_H → Prop)  (k42 : zw_H → Prop) (l0 : Option Nat) (l1 : Option Nat) (R : Int32 → zw_H → Prop) (l2 : Int32) (h : zw_H) : Prop :=
  oc_ h l0 [2] (f_X4_size K l0 h (fun v2 h3 =>
  if v2 ≤ l2 then
    k42  h3
  else
    og_A h3 l1 [2] 0 (fun v3 =>
    oc_ h3 l0 [2] (f_X4_at K l0 l2 h3 (fun v4 h4 =>
    od_ h4 v4 [6] [7]
      (f_X7_copy K v4 h4 (fun v5 h5 =>
        oc_ h5 v3 [9] (f_J12_add K v3 v5 h5 (fun v6 h6 =>
        olet (l2 + 1) (fun v7 =>
        R v7 h6)) X)) X)
      (f_X7_copy K v4 h4 (fun v5 h5 =>
        oc_ h5 v3 [9] (f_J12_add K v3 v5 h5 (fun v6 h6 =>
        olet (l2 + 1) (fun v7 =>
        R v7 h6)) X)) X)) X))) X)
def f_X4_copy (K : Nat → Option Nat) (a0 : Option Nat) (h : zw_H) (Q : Option Nat → zw_H → Prop) (X : String → Nat → zw_H → Prop) : Prop :=
  on_C h (.inr (2, [.null, .null, .int 0, .int 0, .int 0, .int 0, .int 0, .null, .null, .int 0])) (fun v1 h1 =>
  (f_X4_init K (some v1) h1 (fun h2 =>
  zl2 (f_X4_copy_B10 K Q X (fun h7 =>
    og_I h7 a0 [2] 2 (fun v8 =>
    op_V h7 (some v1) [2] 2 (.int v8) (fun h8 =>
    og_I h8 a0 [2] 3 (fun v9 =>
    op_V h8 (some v1) [2] 3 (.int v9) (fun h9 =>
    og_I h9 a0 [2] 4 (fun v10 =>
    op_V h9 (some v1) [2] 4 (.int v10) (fun h10 =>
    og_I h10 a0 [2] 5 (fun v11 =>
    op_V h10 (some v1) [2] 5 (.int v11) (fun h11 =>
    og_I h11 a0 [2] 6 (fun v12 =>
    op_V h11 (some v1) [2] 6 (.int v12) (fun h12 =>
    Q (some v1) h12))))))))))) a0 (some v1)) 25 0 h2) X))
abbrev rm_X4_step : Room := { frames := 10, cells := 0, slots := 0, locals := 233 }
def f_X4_step_B4 (K : Nat → Option Nat) (Q : Int32 → zw_H → Prop) (X : String → Nat → zw_H → Prop)  (k33 : zw_H → Prop) (l0 : Option Nat) (l1 : Int32) (R : Int32 → zw_H → Prop) (l2 : Int32) (h : zw_H) : Prop :=
  oc_ h l0 [2] (f_X4_size K l0 h (fun v1 h1 =>
  if v1 ≤ l2 then
    k33  h1
  else
    og_A h1 l0 [2] 8 (fun v2 =>
    oc_ h1 l0 [2] (f_X4_at K l0 l2 h1 (fun v3 h2 =>
    oc_ h2 l0 [2] (f_X4_goes K l0 v3 h2 (fun v4 h3 =>
    os_I h3 v2 [0] l2 v4 (fun h4 =>
    olet (l2 + 1) (fun v5 =>
    R v5 h4))) X)) X))) X)
def f_X4_step_B35 (K : Nat → Option Nat) (Q : Int32 → zw_H → Prop) (X : String → Nat → zw_H → Prop)  (k102 : Int32 → zw_H → Prop) (l0 : Option Nat) (R : Int32 → Int32 → zw_H → Prop) (l1 : Int32) (l2 : Int32) (h : zw_H) : Prop :=
  oc_ h l0 [2] (f_X4_size K l0 h (fun v6 h6 =>
  if v6 ≤ l2 then
    k102 l1 h6
  else
    oc_ h6 l0 [2] (f_X4_at K l0 l2 h6 (fun v7 h7 =>
    og_I h7 v7 [6, 7] 0 (fun v8 =>
    og_A h7 l0 [2] 8 (fun v9 =>
    oa_I h7 v9 [0, 11] l2 (fun v10 =>
    op_V h7 v7 [6, 7] 0 (.int (v8 + v10)) (fun h8 =>
    oc_ h8 l0 [2] (f_X4_at K l0 l2 h8 (fun v11 h9 =>
    og_I h9 v11 [6, 7] 2 (fun v12 =>
    og_A h9 l0 [2] 8 (fun v13 =>
    oa_I h9 v13 [0, 11] l2 (fun v14 =>
    (f_J14_abs K v14 h9 (fun v15 h10 =>
    op_V h10 v11 [6, 7] 2 (.int (v12 + v15)) (fun h11 =>
    og_A h11 l0 [2] 8 (fun v16 =>
    oa_I h11 v16 [0, 11] l2 (fun v17 =>
    (f_J14_abs K v17 h11 (fun v18 h12 =>
    olet (l1 + v18 : Int32) (fun v19 =>
    olet (l2 + 1) (fun v20 =>
    R v19 v20 h12))) X))))) X))))) X)))))) X)) X)
def f_X4_step (K : Nat → Option Nat) (a0 : Option Nat) (h : zw_H) (Q : Int32 → zw_H → Prop) (X : String → Nat → zw_H → Prop) : Prop :=
  zl2 (f_X4_step_B4 K Q X (fun h5 =>
    zl3 (f_X4_step_B35 K Q X (fun v21 h13 =>
      og_I h13 a0 [2] 6 (fun v22 =>
      op_V h13 a0 [2] 6 (.int (v22 + v21)) (fun h14 =>
      og_I h14 a0 [2] 5 (fun v23 =>
      op_V h14 a0 [2] 5 (.int (v23 + 1)) (fun h15 =>
      Q v21 h15))))) a0) zfu 0 0 h5) a0 0) zfu 0 h
abbrev rm_X4_steps : Room := { frames := 11, cells := 0, slots := 0, locals := 255 }
def f_X4_steps_B4 (K : Nat → Option Nat) (Q : Int32 → zw_H → Prop) (X : String → Nat → zw_H → Prop)  (k22 : Int32 → zw_H → Prop) (l0 : Option Nat) (l1 : Int32) (R : Int32 → Int32 → zw_H → Prop) (l2 : Int32) (l3 : Int32) (h : zw_H) : Prop :=
  if l1 ≤ l3 then
    k22 l2 h
  else
    oc_ h l0 [2] (f_X4_step K l0 h (fun v1 h1 =>
    olet (l2 + v1 : Int32) (fun v2 =>
    olet (l3 + 1) (fun v3 =>
    R v2 v3 h1))) X)
def f_X4_steps (K : Nat → Option Nat) (a0 : Option Nat) (a1 : Int32) (h : zw_H) (Q : Int32 → zw_H → Prop) (X : String → Nat → zw_H → Prop) : Prop :=
  zl3 (f_X4_steps_B4 K Q X (fun v4 h2 =>
    Q v4 h2) a0 a1) zfu 0 0 h
abbrev rm_X1_placeIn : Room := { frames := 12, cells := 296, slots := 2375, locals := 278 }
def f_X1_placeIn (K : Nat → Option Nat) (a0 : Option Nat) (a1 : Int32) (a2 : Int32) (h : zw_H) (Q : Int32 → zw_H → Prop) (X : String → Nat → zw_H → Prop) : Prop :=
  oc_ h a0 [1] (f_X1_bodyOf K a0 a1 h (fun v1 h1 =>
  (f_X1_checkSteps K a2 0 h1 (fun h2 =>
  og_A h2 a0 [1] 4 (fun v2 =>
  oc_ h2 v2 [2] (f_X4_copy K v2 h2 (fun v3 h3 =>
  oc_ h3 v3 [2] (f_X4_steps K v3 a2 h3 (fun v4 h4 =>
  oc_ h4 v3 [2] (f_X4_at K v3 a1 h4 (fun v5 h5 =>
  og_I h5 v5 [6, 7] 0 (fun v6 =>
  Q v6 h5)) X)) X)) X))) X)) X)
abbrev rm_X1_movesIn : Room := { frames := 12, cells := 295, slots := 2369, locals := 278 }
def f_X1_movesIn (K : Nat → Option Nat) (a0 : Option Nat) (a1 : Int32) (h : zw_H) (Q : Int32 → zw_H → Prop) (X : String → Nat → zw_H → Prop) : Prop :=
  oc_ h a0 [1] (f_X1_loaded K a0 h (fun v1 h1 =>
  (f_X1_checkSteps K a1 0 h1 (fun h2 =>
  oc_ h2 v1 [2] (f_X4_copy K v1 h2 (fun v2 h3 =>
  oc_ h3 v2 [2] (f_X4_steps K v2 a1 h3 (fun v3 h4 =>
  Q v3 h4) X)) X)) X)) X)
abbrev rm_X4_isStill : Room := { frames := 10, cells := 0, slots := 0, locals := 233 }
def f_X4_isStill_B2 (K : Nat → Option Nat) (Q : Int32 → zw_H → Prop) (X : String → Nat → zw_H → Prop)  (k22 : zw_H → Prop) (k30 : zw_H → Prop) (l0 : Option Nat) (R : Int32 → zw_H → Prop) (l1 : Int32) (h : zw_H) : Prop :=
  oc_ h l0 [2] (f_X4_size K l0 h (fun v1 h1 =>
  if v1 ≤ l1 then
    k30  h1
  else
    oc_ h1 l0 [2] (f_X4_at K l0 l1 h1 (fun v2 h2 =>
    oc_ h2 l0 [2] (f_X4_goes K l0 v2 h2 (fun v3 h3 =>
    if v3 = 0 then
      olet (l1 + 1) (fun v4 =>
      R v4 h3)
    else
      k22  h3) X)) X)) X)
def f_X4_isStill (K : Nat → Option Nat) (a0 : Option Nat) (h : zw_H) (Q : Int32 → zw_H → Prop) (X : String → Nat → zw_H → Prop) : Prop :=
  zl2 (f_X4_isStill_B2 K Q X (fun h4 =>
    Q 0 h4) (fun h5 =>
    Q 1 h5) a0) zfu 0 h
abbrev rm_X1_stillIn : Room := { frames := 12, cells := 294, slots := 2363, locals := 278 }
def f_X1_stillIn_B10 (K : Nat → Option Nat) (Q : Int32 → zw_H → Prop) (X : String → Nat → zw_H → Prop)  (k23 : Int32 → zw_H → Prop) (k37 : zw_H → Prop) (l1 : Option Nat) (R : Int32 → zw_H → Prop) (l2 : Int32) (h : zw_H) : Prop :=
  if (50 : Int32) < l2 then
    k37  h
  else
    oc_ h l1 [2] (f_X4_isStill K l1 h (fun v3 h3 =>
    if v3 = 0 then
      oc_ h3 l1 [2] (f_X4_steps K l1 1 h3 (fun v4 h4 =>
      olet (l2 + 1) (fun v5 =>
      R v5 h4)) X)
    else
      k23 l2 h3) X)
def f_X1_stillIn (K : Nat → Option Nat) (a0 : Option Nat) (h : zw_H) (Q : Int32 → zw_H → Prop) (X : String → Nat → zw_H → Prop) : Prop :=
  oc_ h a0 [1] (f_X1_loaded K a0 h (fun v1 h1 =>
  oc_ h1 v1 [2] (f_X4_copy K v1 h1 (fun v2 h2 =>
  zl2 (f_X1_stillIn_B10 K Q X (fun v6 h5 =>
    Q v6 h5) (fun h6 =>
    Q (-1) h6) v2) zfu 0 h2) X)) X)
abbrev rm_X1_orderFor : Room := { frames := 9, cells := 3, slots := 18, locals := 186 }
def f_X1_orderFor_B29 (K : Nat → Option Nat) (Q : Int32 → zw_H → Prop) (X : String → Nat → zw_H → Prop)  (k48 : Int32 → zw_H → Prop) (k57 : zw_H → Prop) (l1 : Int32) (l3 : Option Nat) (l4 : UInt64) (R : Int32 → zw_H → Prop) (l6 : Int32) (h : zw_H) : Prop :=
  if (4 : Int32) < l6 then
    k57  h
  else
    oc_ h l3 [2] (f_X4_bound K l3 l1 l6 h (fun v4 h4 =>
    if (0 : Int32) < (Op.cmpValue (FP.dcmp v4 l4) .g) then
      olet (l6 + 1) (fun v5 =>
      R v5 h4)
    else
      k48 l6 h4) X)
def f_X1_orderFor (K : Nat → Option Nat) (a0 : Option Nat) (a1 : Int32) (a2 : Int32) (h : zw_H) (Q : Int32 → zw_H → Prop) (X : String → Nat → zw_H → Prop) : Prop :=
  oc_ h a0 [1] (f_X1_at K a0 a1 h (fun v1 h1 =>
  (f_X1_in K a2.toInt64 0 (99999 : Int64) h1 (fun v2 h2 =>
  (f_X1_checkArgument K v2 h2 (fun h3 =>
  (vf_n64 (FP.ddiv (FP.i2d a2) (4652007308841189376 : UInt64)) ∧ 
  olet (FP.ddiv (FP.i2d a2) (4652007308841189376 : UInt64) : UInt64) (fun v3 =>
  zl2 (f_X1_orderFor_B29 K Q X (fun v6 h5 =>
    Q v6 h5) (fun h6 =>
    Q (-1) h6) a1 v1 v3) zfu 0 h3))) X)) X)) X)
abbrev rm_X1_costOf : Room := { frames := 8, cells := 0, slots := 0, locals := 179 }
def f_X1_costOf_B21 (K : Nat → Option Nat) (Q : Int32 → zw_H → Prop) (X : String → Nat → zw_H → Prop)  (k62 : Int32 → zw_H → Prop) (l0 : Option Nat) (l2 : Int32) (R : Int32 → Int32 → zw_H → Prop) (l3 : Int32) (l4 : Int32) (h : zw_H) : Prop :=
  og_A h l0 [1] 4 (fun v4 =>
  oc_ h v4 [2] (f_X4_size K v4 h (fun v5 h2 =>
  if v5 ≤ l4 then
    k62 l3 h2
  else
    og_A h2 l0 [1] 4 (fun v6 =>
    og_A h2 l0 [1] 4 (fun v7 =>
    oc_ h2 v7 [2] (f_X4_at K v7 l4 h2 (fun v8 h3 =>
    og_I h3 v8 [6, 7] 0 (fun v9 =>
    oc_ h3 v6 [2] (f_X4_cost K v6 v9 0 h3 (fun v10 h4 =>
    olet (l3 + v10 : Int32) (fun v11 =>
    olet (l4 + 1) (fun v12 =>
    R v11 v12 h4))) X))) X)))) X))
def f_X1_costOf (K : Nat → Option Nat) (a0 : Option Nat) (a1 : Int32) (h : zw_H) (Q : Int32 → zw_H → Prop) (X : String → Nat → zw_H → Prop) : Prop :=
  og_A h a0 [1] 4 (fun v1 =>
  og_I h v1 [2] 2 (fun v2 =>
  og_A h a0 [1] 4 (fun v3 =>
  op_V h v3 [2] 2 (.int a1) (fun h1 =>
  zl3 (f_X1_costOf_B21 K Q X (fun v13 h5 =>
    og_A h5 a0 [1] 4 (fun v14 =>
    op_V h5 v14 [2] 2 (.int v2) (fun h6 =>
    Q v13 h6))) a0 v2) zfu 0 0 h1))))
abbrev rm_X1_bestLevels : Room := { frames := 9, cells := 1, slots := 6, locals := 203 }
def f_X1_bestLevels_J29 (K : Nat → Option Nat) (Q : Int32 → zw_H → Prop) (X : String → Nat → zw_H → Prop) (R : Int32 → Int32 → zw_H → Prop) (k35 : Int32 → zw_H → Prop) (l0 : Option Nat) (l2 : Int32) (l3 : Int32)  (h : zw_H) : Prop :=
  olet (l3 + 1) (fun v4 =>
  R l2 v4 h)
def f_X1_bestLevels_B9 (K : Nat → Option Nat) (Q : Int32 → zw_H → Prop) (X : String → Nat → zw_H → Prop)  (k35 : Int32 → zw_H → Prop) (l0 : Option Nat) (R : Int32 → Int32 → zw_H → Prop) (l2 : Int32) (l3 : Int32) (h : zw_H) : Prop :=
  if (5 : Int32) < l3 then
    k35 l2 h
  else
    oc_ h l0 [1] (f_X1_costOf K l0 l3 h (fun v2 h2 =>
    oc_ h2 l0 [1] (f_X1_costOf K l0 l2 h2 (fun v3 h3 =>
    if v3 ≤ v2 then
      f_X1_bestLevels_J29 K Q X R k35 l0 l2 l3  h3
    else
      f_X1_bestLevels_J29 K Q X R k35 l0 l3 l3  h3) X)) X)
def f_X1_bestLevels (K : Nat → Option Nat) (a0 : Option Nat) (h : zw_H) (Q : Int32 → zw_H → Prop) (X : String → Nat → zw_H → Prop) : Prop :=
  oc_ h a0 [1] (f_X1_loaded K a0 h (fun v1 h1 =>
  zl3 (f_X1_bestLevels_B9 K Q X (fun v5 h4 =>
    Q v5 h4) a0) zfu 2 3 h1) X)
abbrev rm_X1_without : Room := { frames := 9, cells := 4, slots := 24, locals := 182 }
def f_X1_without (K : Nat → Option Nat) (a0 : Option Nat) (a1 : Int32) (a2 : Int32) (h : zw_H) (Q : UInt64 → zw_H → Prop) (X : String → Nat → zw_H → Prop) : Prop :=
  oc_ h a0 [1] (f_X1_bodyOf K a0 a1 h (fun v1 h1 =>
  oc_ h1 a0 [1] (f_X1_at K a0 a2 h1 (fun v2 h2 =>
  oc_ h2 v2 [2] (f_X4_sum K v2 a2 0 a1 h2 (fun v3 h3 =>
  Q v3 h3) X)) X)) X)
abbrev rm_X1_quietest : Room := { frames := 10, cells := 515, slots := 3090, locals := 205 }
def f_X1_quietest_J64 (K : Nat → Option Nat) (Q : Int32 → zw_H → Prop) (X : String → Nat → zw_H → Prop) (R : Int32 → UInt64 → Int32 → zw_H → Prop) (k70 : Int32 → zw_H → Prop) (l0 : Option Nat) (l1 : Option Nat) (l2 : Int32) (l3 : UInt64) (l5 : Int32)  (h : zw_H) : Prop :=
  olet (l5 + 1) (fun v5 =>
  R l2 l3 v5 h)
def f_X1_quietest_J58 (K : Nat → Option Nat) (Q : Int32 → zw_H → Prop) (X : String → Nat → zw_H → Prop) (R : Int32 → UInt64 → Int32 → zw_H → Prop) (k70 : Int32 → zw_H → Prop) (l0 : Option Nat) (l1 : Option Nat) (l5 : Int32) (l6 : UInt64)  (h : zw_H) : Prop :=
  f_X1_quietest_J64 K Q X R k70 l0 l1 l5 l6 l5  h
def f_X1_quietest_B12 (K : Nat → Option Nat) (Q : Int32 → zw_H → Prop) (X : String → Nat → zw_H → Prop)  (k70 : Int32 → zw_H → Prop) (l0 : Option Nat) (l1 : Option Nat) (R : Int32 → UInt64 → Int32 → zw_H → Prop) (l2 : Int32) (l3 : UInt64) (l5 : Int32) (h : zw_H) : Prop :=
  if (256 : Int32) ≤ l5 then
    k70 l2 h
  else
    oc_ h l1 [2] (f_X4_sum K l1 l5 0 (-1) h (fun v2 h2 =>
    (f_X1_absolute K v2 h2 (fun v3 h3 =>
    oc_ h3 l0 [1] (f_X1_bodyAt K l0 l5 h3 (fun v4 h4 =>
    if v4 ≠ (-1) then
      f_X1_quietest_J64 K Q X R k70 l0 l1 l2 l3 l5  h4
    else
      if l2 = (-1) then
        f_X1_quietest_J58 K Q X R k70 l0 l1 l5 v3  h4
      else
        if (Op.cmpValue (FP.dcmp v3 l3) .l) < 0 then
          f_X1_quietest_J58 K Q X R k70 l0 l1 l5 v3  h4
        else
          f_X1_quietest_J64 K Q X R k70 l0 l1 l2 l3 l5  h4) X)) X)) X)
def f_X1_quietest (K : Nat → Option Nat) (a0 : Option Nat) (h : zw_H) (Q : Int32 → zw_H → Prop) (X : String → Nat → zw_H → Prop) : Prop :=
  oc_ h a0 [1] (f_X1_loaded K a0 h (fun v1 h1 =>
  zl4 (f_X1_quietest_B12 K Q X (fun v6 h5 =>
    Q v6 h5) a0 v1) 257 (-1) FP.dconst0 0 h1) X)
abbrev rm_X1_energy : Room := { frames := 9, cells := 1, slots := 6, locals := 202 }
def f_X1_energy_B10 (K : Nat → Option Nat) (Q : UInt64 → zw_H → Prop) (X : String → Nat → zw_H → Prop)  (k53 : UInt64 → zw_H → Prop) (l1 : Int32) (l2 : Option Nat) (R : UInt64 → Int32 → zw_H → Prop) (l3 : UInt64) (l5 : Int32) (h : zw_H) : Prop :=
  oc_ h l2 [2] (f_X4_size K l2 h (fun v2 h2 =>
  if v2 ≤ l5 then
    k53 l3 h2
  else
    oc_ h2 l2 [2] (f_X4_at K l2 l5 h2 (fun v3 h3 =>
    og_I h3 v3 [6, 7] 1 (fun v4 =>
    og_I h3 v3 [6, 7] 0 (fun v5 =>
    oc_ h3 l2 [2] (f_X4_sumBy K l2 v5 l1 h3 (fun v6 h4 =>
    (vf_n64 (FP.dmul (FP.i2d v4) v6) ∧ 
    olet (FP.dmul (FP.i2d v4) v6 : UInt64) (fun v7 =>
    (vf_n64 (FP.dadd l3 v7) ∧ 
    olet (FP.dadd l3 v7 : UInt64) (fun v8 =>
    olet (l5 + 1) (fun v9 =>
    R v8 v9 h4)))))) X)))) X)) X)
def f_X1_energy (K : Nat → Option Nat) (a0 : Option Nat) (a1 : Int32) (h : zw_H) (Q : UInt64 → zw_H → Prop) (X : String → Nat → zw_H → Prop) : Prop :=
  oc_ h a0 [1] (f_X1_loaded K a0 h (fun v1 h1 =>
  zl3 (f_X1_energy_B10 K Q X (fun v10 h5 =>
    (vf_n64 (FP.ddiv v10 (4611686018427387904 : UInt64)) ∧ 
    olet (FP.ddiv v10 (4611686018427387904 : UInt64) : UInt64) (fun v11 =>
    Q v11 h5))) a1 v1) zfu FP.dconst0 0 h1) X)
abbrev rm_X1_isZero : Room := { frames := 5, cells := 0, slots := 0, locals := 114 }
def f_X1_isZero_J30 (K : Nat → Option Nat) (Q : Int32 → zw_H → Prop) (X : String → Nat → zw_H → Prop)  (l2 : UInt64) (l4 : UInt64)  (h : zw_H) : Prop :=
  if (0 : Int32) < (Op.cmpValue (FP.dcmp l2 FP.dconst0) .g) then
    Q 0 h
  else
    if (Op.cmpValue (FP.dcmp l4 FP.dconst0) .l) ≤ 0 then
      Q 0 h
    else
      Q 1 h
def f_X1_isZero (K : Nat → Option Nat) (a0 : Option Nat) (a1 : Int32) (h : zw_H) (Q : Int32 → zw_H → Prop) (X : String → Nat → zw_H → Prop) : Prop :=
  oc_ h a0 [2] (f_X4_pull K a0 a1 0 h (fun v1 h1 =>
  oc_ h1 a0 [2] (f_X4_pull K a0 (a1 + 1) 0 h1 (fun v2 h2 =>
  if (Op.cmpValue (FP.dcmp v1 FP.dconst0) .l) ≤ 0 then
    f_X1_isZero_J30 K Q X  v1 v2  h2
  else
    if (Op.cmpValue (FP.dcmp v2 FP.dconst0) .g) ≤ 0 then
      Q 1 h2
    else
      f_X1_isZero_J30 K Q X  v1 v2  h2) X)) X)
abbrev rm_X1_nearestZero : Room := { frames := 9, cells := 2, slots := 12, locals := 182 }
def f_X1_nearestZero_J71 (K : Nat → Option Nat) (Q : Int32 → zw_H → Prop) (X : String → Nat → zw_H → Prop) (R : Int32 → zw_H → Prop) (k39 : Int32 → zw_H → Prop) (k67 : Int32 → zw_H → Prop) (k77 : zw_H → Prop) (l1 : Int32) (l2 : Option Nat) (l3 : Int32)  (h : zw_H) : Prop :=
  olet (l3 + 1) (fun v4 =>
  R v4 h)
def f_X1_nearestZero_J43 (K : Nat → Option Nat) (Q : Int32 → zw_H → Prop) (X : String → Nat → zw_H → Prop) (R : Int32 → zw_H → Prop) (k39 : Int32 → zw_H → Prop) (k67 : Int32 → zw_H → Prop) (k77 : zw_H → Prop) (l1 : Int32) (l2 : Option Nat) (l3 : Int32)  (h : zw_H) : Prop :=
  (f_X1_in K ((l1 + l3).toInt64) 0 (254 : Int64) h (fun v3 h3 =>
  if v3 = 0 then
    f_X1_nearestZero_J71 K Q X R k39 k67 k77 l1 l2 l3  h3
  else
    (f_X1_isZero K l2 (l1 + l3) h3 (fun v5 h4 =>
    if v5 = 0 then
      f_X1_nearestZero_J71 K Q X R k39 k67 k77 l1 l2 l3  h4
    else
      k67 l3 h4) X)) X)
def f_X1_nearestZero_B8 (K : Nat → Option Nat) (Q : Int32 → zw_H → Prop) (X : String → Nat → zw_H → Prop)  (k39 : Int32 → zw_H → Prop) (k67 : Int32 → zw_H → Prop) (k77 : zw_H → Prop) (l1 : Int32) (l2 : Option Nat) (R : Int32 → zw_H → Prop) (l3 : Int32) (h : zw_H) : Prop :=
  if (256 : Int32) ≤ l3 then
    k77  h
  else
    (f_X1_in K ((l1 - l3).toInt64) 0 (254 : Int64) h (fun v2 h2 =>
    if v2 = 0 then
      f_X1_nearestZero_J43 K Q X R k39 k67 k77 l1 l2 l3  h2
    else
      (f_X1_isZero K l2 (l1 - l3) h2 (fun v6 h5 =>
      if v6 = 0 then
        f_X1_nearestZero_J43 K Q X R k39 k67 k77 l1 l2 l3  h5
      else
        k39 l3 h5) X)) X)
def f_X1_nearestZero (K : Nat → Option Nat) (a0 : Option Nat) (a1 : Int32) (h : zw_H) (Q : Int32 → zw_H → Prop) (X : String → Nat → zw_H → Prop) : Prop :=
  oc_ h a0 [1] (f_X1_at K a0 a1 h (fun v1 h1 =>
  zl2 (f_X1_nearestZero_B8 K Q X (fun v7 h6 =>
    Q (a1 - v7) h6) (fun v8 h7 =>
    Q (a1 + v8) h7) (fun h8 =>
    Q (-1) h8) a1 v1) zfu 0 h1) X)
abbrev rm_X1_isPair : Room := { frames := 3, cells := 0, slots := 0, locals := 65 }
def f_X1_isPair_J52 (K : Nat → Option Nat) (Q : Int32 → zw_H → Prop) (X : String → Nat → zw_H → Prop)   (s0 : Int32) (s1 : Int32) (h : zw_H) : Prop :=
  if s1 ≠ s0 then
    Q 0 h
  else
    Q 1 h
def f_X1_isPair_J40 (K : Nat → Option Nat) (Q : Int32 → zw_H → Prop) (X : String → Nat → zw_H → Prop)  (l2 : Option Nat) (s0 : Int32) (h : zw_H) : Prop :=
  og_I h l2 [6, 7] 1 (fun v2 =>
  if (0 : Int32) ≤ v2 then
    f_X1_isPair_J52 K Q X   0 s0 h
  else
    f_X1_isPair_J52 K Q X   1 s0 h)
def f_X1_isPair_J87 (K : Nat → Option Nat) (Q : Int32 → zw_H → Prop) (X : String → Nat → zw_H → Prop)   (s0 : Int32) (s1 : Int32) (h : zw_H) : Prop :=
  if s1 = s0 then
    Q 0 h
  else
    Q 1 h
def f_X1_isPair_J75 (K : Nat → Option Nat) (Q : Int32 → zw_H → Prop) (X : String → Nat → zw_H → Prop)  (l2 : Option Nat) (s0 : Int32) (h : zw_H) : Prop :=
  og_I h l2 [6, 7] 1 (fun v4 =>
  if (0 : Int32) ≤ v4 then
    f_X1_isPair_J87 K Q X   0 s0 h
  else
    f_X1_isPair_J87 K Q X   1 s0 h)
def f_X1_isPair (K : Nat → Option Nat) (a0 : Option Nat) (a1 : Option Nat) (a2 : Option Nat) (a3 : Int32) (h : zw_H) (Q : Int32 → zw_H → Prop) (X : String → Nat → zw_H → Prop) : Prop :=
  if a3 = 0 then
    og_I h a1 [6, 7] 1 (fun v1 =>
    if (0 : Int32) ≤ v1 then
      f_X1_isPair_J40 K Q X  a2 0 h
    else
      f_X1_isPair_J40 K Q X  a2 1 h)
  else if a3 = 1 then
    og_I h a1 [6, 7] 1 (fun v3 =>
    if (0 : Int32) ≤ v3 then
      f_X1_isPair_J75 K Q X  a2 0 h
    else
      f_X1_isPair_J75 K Q X  a2 1 h)
  else if a3 = 2 then
    og_I h a2 [6, 7] 0 (fun v5 =>
    oc_ h a0 [2] (f_X4_isNear K a0 a1 v5 h (fun v6 h1 =>
    ((v6 = 0 ∨ v6 = 1) ∧ Q v6 h1)) X))
  else ((a3.toInt < 0 ∨ 2 < a3.toInt) ∧
    og_I h a1 [6, 7] 0 (fun v7 =>
    oc_ h a0 [2] (f_X4_leaf K a0 v7 h (fun v8 h2 =>
    og_I h2 a2 [6, 7] 0 (fun v9 =>
    oc_ h2 a0 [2] (f_X4_leaf K a0 v9 h2 (fun v10 h3 =>
    if v8 ≠ v10 then
      Q 0 h3
    else
      Q 1 h3) X))) X)))
abbrev rm_X1_pairs : Room := { frames := 8, cells := 2, slots := 12, locals := 160 }
def f_X1_pairs_J88 (K : Nat → Option Nat) (Q : Int32 → zw_H → Prop) (X : String → Nat → zw_H → Prop) (R : Int32 → Int32 → zw_H → Prop) (k99 : Int32 → zw_H → Prop) (l1 : Int32) (l2 : Option Nat) (l4 : Int32) (l5 : Int32) (s0 : Int32) (s1 : Int32) (h : zw_H) : Prop :=
  (f_X1_flag K s0 h (fun v8 h7 =>
  olet (s1 + v8 : Int32) (fun v9 =>
  olet (l5 + 1) (fun v10 =>
  R v9 v10 h7))) X)
def f_X1_pairs_J87 (K : Nat → Option Nat) (Q : Int32 → zw_H → Prop) (X : String → Nat → zw_H → Prop) (R : Int32 → Int32 → zw_H → Prop) (k99 : Int32 → zw_H → Prop) (l1 : Int32) (l2 : Option Nat) (l4 : Int32) (l5 : Int32) (s0 : Int32) (h : zw_H) : Prop :=
  f_X1_pairs_J88 K Q X R k99 l1 l2 l4 l5 0 s0 h
def f_X1_pairs_B34 (K : Nat → Option Nat) (Q : Int32 → zw_H → Prop) (X : String → Nat → zw_H → Prop)  (k99 : Int32 → zw_H → Prop) (l1 : Int32) (l2 : Option Nat) (l4 : Int32) (R : Int32 → Int32 → zw_H → Prop) (l3 : Int32) (l5 : Int32) (h : zw_H) : Prop :=
  if l4 ≤ l5 then
    k99 l3 h
  else
    oc_ h l2 [2] (f_X4_at K l2 l4 h (fun v4 h5 =>
    oc_ h5 l2 [2] (f_X4_at K l2 l5 h5 (fun v5 h6 =>
    og_I h6 v4 [6, 7] 0 (fun v6 =>
    og_I h6 v5 [6, 7] 0 (fun v7 =>
    if v6 = v7 then
      f_X1_pairs_J87 K Q X R k99 l1 l2 l4 l5 l3 h6
    else
      (f_X1_isPair K l2 v4 v5 l1 h6 (fun v11 h8 =>
      if v11 = 0 then
        f_X1_pairs_J87 K Q X R k99 l1 l2 l4 l5 l3 h8
      else
        f_X1_pairs_J88 K Q X R k99 l1 l2 l4 l5 1 l3 h8) X)))) X)) X)
def f_X1_pairs_B22 (K : Nat → Option Nat) (Q : Int32 → zw_H → Prop) (X : String → Nat → zw_H → Prop)  (k105 : Int32 → zw_H → Prop) (l1 : Int32) (l2 : Option Nat) (R : Int32 → Int32 → zw_H → Prop) (l3 : Int32) (l4 : Int32) (h : zw_H) : Prop :=
  oc_ h l2 [2] (f_X4_size K l2 h (fun v3 h4 =>
  if v3 ≤ l4 then
    k105 l3 h4
  else
    zl3 (f_X1_pairs_B34 K Q X (fun v12 h9 =>
      olet (l4 + 1) (fun v13 =>
      R v12 v13 h9)) l1 l2 l4) zfu l3 0 h4) X)
def f_X1_pairs (K : Nat → Option Nat) (a0 : Option Nat) (a1 : Int32) (h : zw_H) (Q : Int32 → zw_H → Prop) (X : String → Nat → zw_H → Prop) : Prop :=
  oc_ h a0 [1] (f_X1_loaded K a0 h (fun v1 h1 =>
  (f_X1_in K a1.toInt64 0 (3 : Int64) h1 (fun v2 h2 =>
  (f_X1_checkArgument K v2 h2 (fun h3 =>
  zl3 (f_X1_pairs_B22 K Q X (fun v14 h10 =>
    Q v14 h10) a1 v1) zfu 0 0 h3) X)) X)) X)
abbrev rm_X1_balance : Room := { frames := 8, cells := 1, slots := 6, locals := 160 }
def f_X1_balance (K : Nat → Option Nat) (a0 : Option Nat) (h : zw_H) (Q : UInt32 → zw_H → Prop) (X : String → Nat → zw_H → Prop) : Prop :=
  oc_ h a0 [1] (f_X1_loaded K a0 h (fun v1 h1 =>
  oc_ h1 v1 [2] (f_X4_size K v1 h1 (fun v2 h2 =>
  if v2 ≠ 0 then
    oc_ h2 v1 [2] (f_X4_charges K v1 h2 (fun v3 h3 =>
    oc_ h3 v1 [2] (f_X4_weights K v1 h3 (fun v4 h4 =>
    (vf_n32 (FP.fdiv (FP.i2f v3) (FP.i2f v4)) ∧ 
    olet (FP.fdiv (FP.i2f v3) (FP.i2f v4) : UInt32) (fun v5 =>
    Q v5 h4))) X)) X)
  else
    Q FP.fconst0 h2) X)) X)
abbrev rm_X1_balanceBits : Room := { frames := 9, cells := 1, slots := 6, locals := 181 }
def f_X1_balanceBits (K : Nat → Option Nat) (a0 : Option Nat) (h : zw_H) (Q : Int32 → zw_H → Prop) (X : String → Nat → zw_H → Prop) : Prop :=
  oc_ h a0 [1] (f_X1_balance K a0 h (fun v1 h1 =>
  (f_J35_floatToIntBits K v1 h1 (fun v2 h2 =>
  Q v2 h2) X)) X)
abbrev rm_X1_meanX : Room := { frames := 8, cells := 1, slots := 6, locals := 160 }
def f_X1_meanX_B9 (K : Nat → Option Nat) (Q : UInt64 → zw_H → Prop) (X : String → Nat → zw_H → Prop)  (k34 : Int32 → zw_H → Prop) (l1 : Option Nat) (R : Int32 → Int32 → zw_H → Prop) (l2 : Int32) (l3 : Int32) (h : zw_H) : Prop :=
  oc_ h l1 [2] (f_X4_size K l1 h (fun v2 h2 =>
  if v2 ≤ l3 then
    k34 l2 h2
  else
    oc_ h2 l1 [2] (f_X4_at K l1 l3 h2 (fun v3 h3 =>
    og_I h3 v3 [6, 7] 0 (fun v4 =>
    olet (l2 + v4 : Int32) (fun v5 =>
    olet (l3 + 1) (fun v6 =>
    R v5 v6 h3)))) X)) X)
def f_X1_meanX (K : Nat → Option Nat) (a0 : Option Nat) (h : zw_H) (Q : UInt64 → zw_H → Prop) (X : String → Nat → zw_H → Prop) : Prop :=
  oc_ h a0 [1] (f_X1_loaded K a0 h (fun v1 h1 =>
  zl3 (f_X1_meanX_B9 K Q X (fun v7 h4 =>
    oc_ h4 v1 [2] (f_X4_size K v1 h4 (fun v8 h5 =>
    if v8 ≠ 0 then
      oc_ h5 v1 [2] (f_X4_size K v1 h5 (fun v9 h6 =>
      (vf_n64 (FP.ddiv (FP.i2d v7) (FP.i2d v9)) ∧ 
      olet (FP.ddiv (FP.i2d v7) (FP.i2d v9) : UInt64) (fun v10 =>
      Q v10 h6))) X)
    else
      Q FP.dconst0 h5) X)) v1) zfu 0 0 h1) X)
abbrev rm_J36_init : Room := { frames := 15, cells := 0, slots := 0, locals := 336 }
def f_J36_init (K : Nat → Option Nat) (a0 : Option Nat) (a1 : Int32) (h : zw_H) (Q : zw_H → Prop) (X : String → Nat → zw_H → Prop) : Prop :=
  False
abbrev rm_J10_init_2 : Room := { frames := 15, cells := 0, slots := 0, locals := 336 }
def f_J10_init_2 (K : Nat → Option Nat) (a0 : Option Nat) (a1 : Int32) (h : zw_H) (Q : zw_H → Prop) (X : String → Nat → zw_H → Prop) : Prop :=
  False
abbrev rm_J15_rangeCheck : Room := { frames := 16, cells := 0, slots := 0, locals := 357 }
def f_J15_rangeCheck (K : Nat → Option Nat) (a0 : Int32) (a1 : Int32) (a2 : Int32) (h : zw_H) (Q : zw_H → Prop) (X : String → Nat → zw_H → Prop) : Prop :=
  if a1 ≤ a2 then
    if (0 : Int32) ≤ a1 then
      if a2 ≤ a0 then
        Q h
      else
        False
    else
      False
  else
    False
abbrev rm_J15_fill : Room := { frames := 17, cells := 0, slots := 0, locals := 379 }
def f_J15_fill_B10 (K : Nat → Option Nat) (Q : zw_H → Prop) (X : String → Nat → zw_H → Prop)  (k27 : zw_H → Prop) (l0 : Option Nat) (l2 : Int32) (l3 : Int32) (R : Int32 → zw_H → Prop) (l4 : Int32) (h : zw_H) : Prop :=
  if l2 ≤ l4 then
    k27  h
  else
    os_I h l0 [1] l4 (vp_nar .byte l3) (fun h2 =>
    olet (l4 + 1) (fun v2 =>
    R v2 h2))
def f_J15_fill (K : Nat → Option Nat) (a0 : Option Nat) (a1 : Int32) (a2 : Int32) (a3 : Int32) (h : zw_H) (Q : zw_H → Prop) (X : String → Nat → zw_H → Prop) : Prop :=
  ol_ h a0 (fun v1 =>
  (f_J15_rangeCheck K v1 a1 a2 h (fun h1 =>
  zl2 (f_J15_fill_B10 K Q X (fun h3 =>
    Q h3) a0 a2 a3) zfu a1 h1) X))
abbrev rm_J16_fillNull : Room := { frames := 18, cells := 0, slots := 0, locals := 403 }
def f_J16_fillNull (K : Nat → Option Nat) (a0 : Option Nat) (a1 : Int32) (a2 : Int32) (h : zw_H) (Q : zw_H → Prop) (X : String → Nat → zw_H → Prop) : Prop :=
  (f_J15_fill K a0 a1 a2 0 h (fun h1 =>
  Q h1) X)
abbrev rm_J5_fillNull : Room := { frames := 18, cells := 0, slots := 0, locals := 403 }
def f_J5_fillNull (K : Nat → Option Nat) (a0 : Option Nat) (a1 : Int32) (a2 : Int32) (h : zw_H) (Q : zw_H → Prop) (X : String → Nat → zw_H → Prop) : Prop :=
  (f_J15_fill K a0 (a1 <<< (1 &&& 31)) (a2 <<< (1 &&& 31)) 0 h (fun h1 =>
  Q h1) X)
abbrev rm_J2_setLength : Room := { frames := 19, cells := 1, slots := 576, locals := 425 }
def f_J2_setLength (K : Nat → Option Nat) (a0 : Option Nat) (a1 : Int32) (h : zw_H) (Q : zw_H → Prop) (X : String → Nat → zw_H → Prop) : Prop :=
  if (0 : Int32) ≤ a1 then
    oc_ h a0 [10] (f_J2_ensureCapacityInternal K a0 a1 h (fun h1 =>
    og_I h1 a0 [10] 3 (fun v1 =>
    if a1 ≤ v1 then
      og_I h1 a0 [10] 3 (fun v2 =>
      if v2 ≤ a1 then
        op_V h1 a0 [10] 3 (.int a1) (fun h2 =>
        Q h2)
      else
        op_V h1 a0 [10] 2 (.int 1) (fun h3 =>
        op_V h3 a0 [10] 3 (.int a1) (fun h4 =>
        Q h4)))
    else
      oc_ h1 a0 [10] (f_J2_isLatin1 K a0 h1 (fun v3 h5 =>
      if v3 = 0 then
        og_A h5 a0 [10] 0 (fun v4 =>
        og_I h5 a0 [10] 3 (fun v5 =>
        (f_J5_fillNull K v4 v5 a1 h5 (fun h6 =>
        op_V h6 a0 [10] 3 (.int a1) (fun h7 =>
        Q h7)) X)))
      else
        og_A h5 a0 [10] 0 (fun v6 =>
        og_I h5 a0 [10] 3 (fun v7 =>
        (f_J16_fillNull K v6 v7 a1 h5 (fun h8 =>
        op_V h8 a0 [10] 3 (.int a1) (fun h9 =>
        Q h9)) X)))) X))) X)
  else
    False
abbrev rm_J3_setLength : Room := { frames := 20, cells := 1, slots := 576, locals := 446 }
def f_J3_setLength (K : Nat → Option Nat) (a0 : Option Nat) (a1 : Int32) (h : zw_H) (Q : zw_H → Prop) (X : String → Nat → zw_H → Prop) : Prop :=
  oc_ h a0 [10] (f_J2_setLength K a0 a1 h (fun h1 =>
  Q h1) X)
abbrev rm_J2_append : Room := { frames := 4, cells := 1, slots := 576, locals := 144 }
def f_J2_append_J56 (K : Nat → Option Nat) (Q : Option Nat → zw_H → Prop) (X : String → Nat → zw_H → Prop)  (l0 : Option Nat) (l1 : Int32)  (h : zw_H) : Prop :=
  og_A h l0 [10] 0 (fun v4 =>
  og_I h l0 [10] 3 (fun v5 =>
  op_V h l0 [10] 3 (.int (v5 + 1)) (fun h4 =>
  (f_J5_putCharSB K v4 v5 l1 h4 (fun h5 =>
  Q l0 h5) X))))
def f_J2_append_J45 (K : Nat → Option Nat) (Q : Option Nat → zw_H → Prop) (X : String → Nat → zw_H → Prop)  (l0 : Option Nat) (l1 : Int32)  (h : zw_H) : Prop :=
  oc_ h l0 [10] (f_J2_isLatin1 K l0 h (fun v3 h3 =>
  if v3 = 0 then
    f_J2_append_J56 K Q X  l0 l1  h3
  else
    False) X)
def f_J2_append (K : Nat → Option Nat) (a0 : Option Nat) (a1 : Int32) (h : zw_H) (Q : Option Nat → zw_H → Prop) (X : String → Nat → zw_H → Prop) : Prop :=
  og_I h a0 [10] 3 (fun v1 =>
  oc_ h a0 [10] (f_J2_ensureCapacityInternal K a0 (v1 + 1) h (fun h1 =>
  oc_ h1 a0 [10] (f_J2_isLatin1 K a0 h1 (fun v2 h2 =>
  if v2 = 0 then
    f_J2_append_J45 K Q X  a0 a1  h2
  else
    (f_J16_canEncode K a1 h2 (fun v6 h6 =>
    if v6 = 0 then
      f_J2_append_J45 K Q X  a0 a1  h6
    else
      og_A h6 a0 [10] 0 (fun v7 =>
      og_I h6 a0 [10] 3 (fun v8 =>
      op_V h6 a0 [10] 3 (.int (v8 + 1)) (fun h7 =>
      os_I h7 v7 [1] v8 (vp_nar .byte a1.toInt8.toInt32) (fun h8 =>
      Q a0 h8))))) X)) X)) X))
abbrev rm_J3_append : Room := { frames := 5, cells := 1, slots := 576, locals := 165 }
def f_J3_append (K : Nat → Option Nat) (a0 : Option Nat) (a1 : Int32) (h : zw_H) (Q : Option Nat → zw_H → Prop) (X : String → Nat → zw_H → Prop) : Prop :=
  oc_ h a0 [10] (f_J2_append K a0 a1 h (fun v1 h1 =>
  Q a0 h1) X)
abbrev rm_X1_writeLeaves : Room := { frames := 21, cells := 35, slots := 19590, locals := 467 }
def f_X1_writeLeaves_J76 (K : Nat → Option Nat) (Q : Int32 → zw_H → Prop) (X : String → Nat → zw_H → Prop) (R : Int32 → zw_H → Prop) (k87 : zw_H → Prop) (l0 : Option Nat) (l1 : Option Nat) (l2 : Option Nat) (l3 : Int32) (l4 : Int32) (s0 : Int32) (s1 : Option Nat) (h : zw_H) : Prop :=
  oc_ h s1 [10] (f_J3_append K s1 ((s0.toUInt32 % 65536).toInt32) h (fun v10 h4 =>
  olet (l4 + 1) (fun v11 =>
  R v11 h4)) X)
def f_X1_writeLeaves_B29 (K : Nat → Option Nat) (Q : Int32 → zw_H → Prop) (X : String → Nat → zw_H → Prop)  (k87 : zw_H → Prop) (l0 : Option Nat) (l1 : Option Nat) (l2 : Option Nat) (l3 : Int32) (R : Int32 → zw_H → Prop) (l4 : Int32) (h : zw_H) : Prop :=
  if l3 ≤ l4 then
    k87  h
  else
    oa_A h l2 [6] l4 (fun v7 =>
    oc_ h l1 [2] (f_X4_bodiesIn K l1 v7 h (fun v8 h3 =>
    og_A h3 l0 [1] 7 (fun v9 =>
    if (10 : Int32) ≤ v8 then
      f_X1_writeLeaves_J76 K Q X R k87 l0 l1 l2 l3 l4 (((97 : Int32) + v8) - 10) v9 h3
    else
      f_X1_writeLeaves_J76 K Q X R k87 l0 l1 l2 l3 l4 ((48 : Int32) + v8) v9 h3)) X))
def f_X1_writeLeaves (K : Nat → Option Nat) (a0 : Option Nat) (h : zw_H) (Q : Int32 → zw_H → Prop) (X : String → Nat → zw_H → Prop) : Prop :=
  oc_ h a0 [1] (f_X1_loaded K a0 h (fun v1 h1 =>
  og_A h1 a0 [1] 7 (fun v2 =>
  oc_ h1 v2 [10] (f_J3_setLength K v2 0 h1 (fun h2 =>
  og_A h2 v1 [2] 1 (fun v3 =>
  og_I h2 v1 [2] 2 (fun v4 =>
  oa_A h2 v3 [7] v4 (fun v5 =>
  ol_ h2 v5 (fun v6 =>
  zl2 (f_X1_writeLeaves_B29 K Q X (fun h5 =>
    og_A h5 a0 [1] 7 (fun v12 =>
    oc_ h5 v12 [10] (f_J3_length K v12 h5 (fun v13 h6 =>
    Q v13 h6) X))) a0 v1 v5 v6) 33 0 h2))))) X))) X)
abbrev rm_X8_sign : Room := { frames := 0, cells := 0, slots := 0, locals := 0 }
def f_X8_sign (K : Nat → Option Nat) (a0 : Option Nat) (h : zw_H) (Q : Option Nat → zw_H → Prop) (X : String → Nat → zw_H → Prop) : Prop :=
  Q (K 28) h
abbrev rm_X9_sign : Room := { frames := 0, cells := 0, slots := 0, locals := 0 }
def f_X9_sign (K : Nat → Option Nat) (a0 : Option Nat) (h : zw_H) (Q : Option Nat → zw_H → Prop) (X : String → Nat → zw_H → Prop) : Prop :=
  Q (K 29) h
abbrev rm_X1_writeBodies : Room := { frames := 21, cells := 128, slots := 73158, locals := 467 }
def f_X1_writeBodies_J46 (K : Nat → Option Nat) (Q : Int32 → zw_H → Prop) (X : String → Nat → zw_H → Prop) (R : Int32 → zw_H → Prop) (k82 : zw_H → Prop) (l0 : Option Nat) (l1 : Option Nat) (l2 : Int32) (l3 : Option Nat) (s0 : Option Nat) (s1 : Option Nat) (h : zw_H) : Prop :=
  oc_ h s1 [10] (f_J3_append_3 K s1 s0 h (fun v6 h5 =>
  og_I h5 l3 [6, 7] 0 (fun v7 =>
  oc_ h5 v6 [10] (f_J3_append_2 K v6 v7 h5 (fun v8 h6 =>
  od_ h6 l3 [6] [7]
    (f_X8_sign K l3 h6 (fun v9 h7 =>
      oc_ h7 v8 [10] (f_J3_append_3 K v8 v9 h7 (fun v10 h8 =>
      oc_ h8 v10 [10] (f_J3_append K v10 58 h8 (fun v11 h9 =>
      og_I h9 l3 [6, 7] 1 (fun v12 =>
      oc_ h9 v11 [10] (f_J3_append_2 K v11 v12 h9 (fun v13 h10 =>
      olet (l2 + 1) (fun v14 =>
      R v14 h10)) X))) X)) X)) X)
    (f_X9_sign K l3 h6 (fun v9 h7 =>
      oc_ h7 v8 [10] (f_J3_append_3 K v8 v9 h7 (fun v10 h8 =>
      oc_ h8 v10 [10] (f_J3_append K v10 58 h8 (fun v11 h9 =>
      og_I h9 l3 [6, 7] 1 (fun v12 =>
      oc_ h9 v11 [10] (f_J3_append_2 K v11 v12 h9 (fun v13 h10 =>
      olet (l2 + 1) (fun v14 =>
      R v14 h10)) X))) X)) X)) X)) X))) X)
def f_X1_writeBodies_B15 (K : Nat → Option Nat) (Q : Int32 → zw_H → Prop) (X : String → Nat → zw_H → Prop)  (k82 : zw_H → Prop) (l0 : Option Nat) (l1 : Option Nat) (R : Int32 → zw_H → Prop) (l2 : Int32) (h : zw_H) : Prop :=
  oc_ h l1 [2] (f_X4_size K l1 h (fun v3 h3 =>
  if v3 ≤ l2 then
    k82  h3
  else
    oc_ h3 l1 [2] (f_X4_at K l1 l2 h3 (fun v4 h4 =>
    og_A h4 l0 [1] 7 (fun v5 =>
    if l2 ≤ 0 then
      f_X1_writeBodies_J46 K Q X R k82 l0 l1 l2 v4 (K 11) v5 h4
    else
      f_X1_writeBodies_J46 K Q X R k82 l0 l1 l2 v4 (K 10) v5 h4)) X)) X)
def f_X1_writeBodies_J99 (K : Nat → Option Nat) (Q : Int32 → zw_H → Prop) (X : String → Nat → zw_H → Prop)  (l0 : Option Nat)  (h : zw_H) : Prop :=
  og_A h l0 [1] 7 (fun v16 =>
  oc_ h v16 [10] (f_J3_length K v16 h (fun v17 h13 =>
  Q v17 h13) X))
def f_X1_writeBodies (K : Nat → Option Nat) (a0 : Option Nat) (h : zw_H) (Q : Int32 → zw_H → Prop) (X : String → Nat → zw_H → Prop) : Prop :=
  oc_ h a0 [1] (f_X1_loaded K a0 h (fun v1 h1 =>
  og_A h1 a0 [1] 7 (fun v2 =>
  oc_ h1 v2 [10] (f_J3_setLength K v2 0 h1 (fun h2 =>
  zl2 (f_X1_writeBodies_B15 K Q X (fun h11 =>
    oc_ h11 v1 [2] (f_X4_size K v1 h11 (fun v15 h12 =>
    if v15 ≠ 0 then
      f_X1_writeBodies_J99 K Q X  a0  h12
    else
      og_A h12 a0 [1] 7 (fun v18 =>
      oc_ h12 v18 [10] (f_J3_append K v18 46 h12 (fun v19 h14 =>
      f_X1_writeBodies_J99 K Q X  a0  h14) X))) X)) a0 v1) 25 0 h2) X))) X)
abbrev rm_X1_writeLine : Room := { frames := 21, cells := 111, slots := 63366, locals := 467 }
def f_X1_writeLine_B26 (K : Nat → Option Nat) (Q : Int32 → zw_H → Prop) (X : String → Nat → zw_H → Prop)  (k56 : zw_H → Prop) (l0 : Option Nat) (l1 : Option Nat) (R : Int32 → zw_H → Prop) (l2 : Int32) (h : zw_H) : Prop :=
  if (6 : Int32) ≤ l2 then
    k56  h
  else
    og_A h l0 [1] 7 (fun v5 =>
    oc_ h v5 [10] (f_J3_append K v5 32 h (fun v6 h4 =>
    oc_ h4 l1 [2] (f_X4_number K l1 l2 h4 (fun v7 h5 =>
    oc_ h5 v6 [10] (f_J3_append_2 K v6 v7 h5 (fun v8 h6 =>
    olet (l2 + 1) (fun v9 =>
    R v9 h6)) X)) X)) X))
def f_X1_writeLine_J123 (K : Nat → Option Nat) (Q : Int32 → zw_H → Prop) (X : String → Nat → zw_H → Prop) (R : Int32 → zw_H → Prop) (k143 : zw_H → Prop) (l0 : Option Nat) (l1 : Option Nat) (l2 : Int32) (l3 : Option Nat) (s0 : Option Nat) (s1 : Option Nat) (h : zw_H) : Prop :=
  oc_ h s1 [10] (f_J3_append_3 K s1 s0 h (fun v19 h12 =>
  og_I h12 l3 [6, 7] 1 (fun v20 =>
  (f_J14_abs K v20 h12 (fun v21 h13 =>
  oc_ h13 v19 [10] (f_J3_append_2 K v19 v21 h13 (fun v22 h14 =>
  olet (l2 + 1) (fun v23 =>
  R v23 h14)) X)) X))) X)
def f_X1_writeLine_J92 (K : Nat → Option Nat) (Q : Int32 → zw_H → Prop) (X : String → Nat → zw_H → Prop) (R : Int32 → zw_H → Prop) (k143 : zw_H → Prop) (l0 : Option Nat) (l1 : Option Nat) (l2 : Int32) (l3 : Option Nat) (s0 : Option Nat) (s1 : Option Nat) (h : zw_H) : Prop :=
  oc_ h s1 [10] (f_J3_append_3 K s1 s0 h (fun v14 h10 =>
  og_I h10 l3 [6, 7] 0 (fun v15 =>
  oc_ h10 v14 [10] (f_J3_append_2 K v14 v15 h10 (fun v16 h11 =>
  og_A h11 l0 [1] 7 (fun v17 =>
  og_I h11 l3 [6, 7] 1 (fun v18 =>
  if (0 : Int32) ≤ v18 then
    f_X1_writeLine_J123 K Q X R k143 l0 l1 l2 l3 (K 10) v17 h11
  else
    f_X1_writeLine_J123 K Q X R k143 l0 l1 l2 l3 (K 15) v17 h11))) X))) X)
def f_X1_writeLine_B58 (K : Nat → Option Nat) (Q : Int32 → zw_H → Prop) (X : String → Nat → zw_H → Prop)  (k143 : zw_H → Prop) (l0 : Option Nat) (l1 : Option Nat) (R : Int32 → zw_H → Prop) (l2 : Int32) (h : zw_H) : Prop :=
  oc_ h l1 [2] (f_X4_size K l1 h (fun v10 h8 =>
  if v10 ≤ l2 then
    k143  h8
  else
    oc_ h8 l1 [2] (f_X4_at K l1 l2 h8 (fun v11 h9 =>
    og_A h9 l0 [1] 7 (fun v12 =>
    og_I h9 v11 [6, 7] 3 (fun v13 =>
    if v13 = 0 then
      f_X1_writeLine_J92 K Q X R k143 l0 l1 l2 v11 (K 14) v12 h9
    else
      f_X1_writeLine_J92 K Q X R k143 l0 l1 l2 v11 (K 13) v12 h9))) X)) X)
def f_X1_writeLine (K : Nat → Option Nat) (a0 : Option Nat) (h : zw_H) (Q : Int32 → zw_H → Prop) (X : String → Nat → zw_H → Prop) : Prop :=
  oc_ h a0 [1] (f_X1_loaded K a0 h (fun v1 h1 =>
  og_A h1 a0 [1] 7 (fun v2 =>
  oc_ h1 v2 [10] (f_J3_setLength K v2 0 h1 (fun h2 =>
  og_A h2 a0 [1] 7 (fun v3 =>
  oc_ h2 v3 [10] (f_J3_append_3 K v3 (K 12) h2 (fun v4 h3 =>
  zl2 (f_X1_writeLine_B26 K Q X (fun h7 =>
    zl2 (f_X1_writeLine_B58 K Q X (fun h15 =>
      og_A h15 a0 [1] 7 (fun v24 =>
      oc_ h15 v24 [10] (f_J3_length K v24 h15 (fun v25 h16 =>
      Q v25 h16) X))) a0 v1) 25 0 h7) a0 v1) 4 3 h3) X))) X))) X)
abbrev rm_X1_writeFar : Room := { frames := 21, cells := 104, slots := 58764, locals := 467 }
def f_X1_writeFar_J56 (K : Nat → Option Nat) (Q : Int32 → zw_H → Prop) (X : String → Nat → zw_H → Prop) (R : Int32 → zw_H → Prop) (k87 : zw_H → Prop) (l0 : Option Nat) (l2 : Option Nat) (l3 : Int32) (l4 : Int32) (l5 : Option Nat) (s0 : Option Nat) (s1 : Option Nat) (h : zw_H) : Prop :=
  oc_ h s1 [10] (f_J3_append_3 K s1 s0 h (fun v7 h4 =>
  og_I h4 l5 [4] 0 (fun v8 =>
  oc_ h4 v7 [10] (f_J3_append_2 K v7 v8 h4 (fun v9 h5 =>
  oc_ h5 v9 [10] (f_J3_append K v9 47 h5 (fun v10 h6 =>
  og_I h6 l5 [4] 1 (fun v11 =>
  oc_ h6 v10 [10] (f_J3_append_2 K v10 v11 h6 (fun v12 h7 =>
  olet (l4 + 1) (fun v13 =>
  R v13 h7)) X))) X)) X))) X)
def f_X1_writeFar_B23 (K : Nat → Option Nat) (Q : Int32 → zw_H → Prop) (X : String → Nat → zw_H → Prop)  (k87 : zw_H → Prop) (l0 : Option Nat) (l2 : Option Nat) (l3 : Int32) (R : Int32 → zw_H → Prop) (l4 : Int32) (h : zw_H) : Prop :=
  if l3 ≤ l4 then
    k87  h
  else
    og_A h l2 [2] 7 (fun v4 =>
    oa_A h v4 [6] l4 (fun v5 =>
    og_A h l0 [1] 7 (fun v6 =>
    if l4 ≤ 0 then
      f_X1_writeFar_J56 K Q X R k87 l0 l2 l3 l4 v5 (K 11) v6 h
    else
      f_X1_writeFar_J56 K Q X R k87 l0 l2 l3 l4 v5 (K 10) v6 h)))
def f_X1_writeFar_J101 (K : Nat → Option Nat) (Q : Int32 → zw_H → Prop) (X : String → Nat → zw_H → Prop)  (l0 : Option Nat)  (h : zw_H) : Prop :=
  og_A h l0 [1] 7 (fun v14 =>
  oc_ h v14 [10] (f_J3_length K v14 h (fun v15 h9 =>
  Q v15 h9) X))
def f_X1_writeFar (K : Nat → Option Nat) (a0 : Option Nat) (a1 : Int32) (h : zw_H) (Q : Int32 → zw_H → Prop) (X : String → Nat → zw_H → Prop) : Prop :=
  oc_ h a0 [1] (f_X1_at K a0 a1 h (fun v1 h1 =>
  oc_ h1 v1 [2] (f_X4_laysFar K v1 a1 h1 (fun v2 h2 =>
  og_A h2 a0 [1] 7 (fun v3 =>
  oc_ h2 v3 [10] (f_J3_setLength K v3 0 h2 (fun h3 =>
  zl2 (f_X1_writeFar_B23 K Q X (fun h8 =>
    if v2 ≠ 0 then
      f_X1_writeFar_J101 K Q X  a0  h8
    else
      og_A h8 a0 [1] 7 (fun v16 =>
      oc_ h8 v16 [10] (f_J3_append K v16 46 h8 (fun v17 h10 =>
      f_X1_writeFar_J101 K Q X  a0  h10) X))) a0 v1 v2) 25 0 h3) X))) X)) X)
abbrev rm_J2_charAt : Room := { frames := 2, cells := 0, slots := 0, locals := 43 }
def f_J2_charAt (K : Nat → Option Nat) (a0 : Option Nat) (a1 : Int32) (h : zw_H) (Q : Int32 → zw_H → Prop) (X : String → Nat → zw_H → Prop) : Prop :=
  og_I h a0 [10] 1 (fun v1 =>
  og_A h a0 [10] 0 (fun v2 =>
  og_I h a0 [10] 3 (fun v3 =>
  ol_ h v2 (fun v4 =>
  (f_J14_min K v3 (v4 >>> (v1 &&& 31)) h (fun v5 h1 =>
  (f_J4_checkIndex K a1 v5 h1 (fun h2 =>
  if v1 ≠ 0 then
    (f_J5_getChar K v2 a1 h2 (fun v6 h3 =>
    (narrow .char (.int v6) = .int v6 ∧ Q v6 h3)) X)
  else
    oa_I h2 v2 [1, 10] a1 (fun v7 =>
    (narrow .char (.int (((v7 &&& 255).toUInt32 % 65536).toInt32)) = .int (((v7 &&& 255).toUInt32 % 65536).toInt32) ∧ Q (((v7 &&& 255).toUInt32 % 65536).toInt32) h2))) X)) X)))))
abbrev rm_J3_charAt : Room := { frames := 3, cells := 0, slots := 0, locals := 67 }
def f_J3_charAt (K : Nat → Option Nat) (a0 : Option Nat) (a1 : Int32) (h : zw_H) (Q : Int32 → zw_H → Prop) (X : String → Nat → zw_H → Prop) : Prop :=
  oc_ h a0 [10] (f_J2_charAt K a0 a1 h (fun v1 h1 =>
  (narrow .char (.int v1) = .int v1 ∧ Q v1 h1)) X)
abbrev rm_X1_textByte : Room := { frames := 7, cells := 1, slots := 6, locals := 141 }
def f_X1_textByte (K : Nat → Option Nat) (a0 : Option Nat) (a1 : Int32) (h : zw_H) (Q : Int32 → zw_H → Prop) (X : String → Nat → zw_H → Prop) : Prop :=
  og_A h a0 [1] 7 (fun v1 =>
  oc_ h v1 [10] (f_J3_length K v1 h (fun v2 h1 =>
  (f_X1_checkIndex K a1 v2 h1 (fun h2 =>
  og_A h2 a0 [1] 7 (fun v3 =>
  oc_ h2 v3 [10] (f_J3_charAt K v3 a1 h2 (fun v4 h3 =>
  Q v4 h3) X))) X)) X))
abbrev rm_X1_isCharge : Room := { frames := 1, cells := 0, slots := 0, locals := 25 }
def f_X1_isCharge (K : Nat → Option Nat) (a0 : Int32) (h : zw_H) (Q : Int32 → zw_H → Prop) (X : String → Nat → zw_H → Prop) : Prop :=
  (f_X1_in K a0.toInt64 (-99 : Int64) (99 : Int64) h (fun v1 h1 =>
  if v1 = 0 then
    Q 0 h1
  else
    if a0 = 0 then
      Q 0 h1
    else
      Q 1 h1) X)
abbrev rm_J1_elementAt : Room := { frames := 0, cells := 0, slots := 0, locals := 0 }
def f_J1_elementAt (K : Nat → Option Nat) (a0 : Option Nat) (a1 : Int32) (h : zw_H) (Q : Option Nat → zw_H → Prop) (X : String → Nat → zw_H → Prop) : Prop :=
  oa_A h a0 [5, 12] a1 (fun v1 =>
  Q v1 h)
abbrev rm_J1_inc : Room := { frames := 0, cells := 0, slots := 0, locals := 0 }
def f_J1_inc (K : Nat → Option Nat) (a0 : Int32) (a1 : Int32) (h : zw_H) (Q : Int32 → zw_H → Prop) (X : String → Nat → zw_H → Prop) : Prop :=
  olet (a0 + 1) (fun v1 =>
  if v1 < a1 then
    Q v1 h
  else
    Q 0 h)
abbrev rm_J1_pollFirst : Room := { frames := 1, cells := 0, slots := 0, locals := 21 }
def f_J1_pollFirst (K : Nat → Option Nat) (a0 : Option Nat) (h : zw_H) (Q : Option Nat → zw_H → Prop) (X : String → Nat → zw_H → Prop) : Prop :=
  og_A h a0 [8] 0 (fun v1 =>
  og_I h a0 [8] 1 (fun v2 =>
  (f_J1_elementAt K v1 v2 h (fun v3 h1 =>
  if v3 = none then
    Q v3 h1
  else
    os_A h1 v1 5 [0, 1, 2, 3, 4, 5, 6, 7, 8, 9, 10, 11, 12, 13, 14, 15, 16, 17, 18] [] v2 none (fun h2 =>
    ol_ h2 v1 (fun v4 =>
    (f_J1_inc K v2 v4 h2 (fun v5 h3 =>
    op_V h3 a0 [8] 1 (.int v5) (fun h4 =>
    Q v3 h4)) X)))) X)))
abbrev rm_J1_removeFirst : Room := { frames := 2, cells := 0, slots := 0, locals := 44 }
def f_J1_removeFirst (K : Nat → Option Nat) (a0 : Option Nat) (h : zw_H) (Q : Option Nat → zw_H → Prop) (X : String → Nat → zw_H → Prop) : Prop :=
  oc_ h a0 [8] (f_J1_pollFirst K a0 h (fun v1 h1 =>
  if v1 ≠ none then
    Q v1 h1
  else
    False) X)
abbrev rm_J1_grow : Room := { frames := 4, cells := 1, slots := 40, locals := 144 }
def f_J1_grow_B145 (K : Nat → Option Nat) (Q : zw_H → Prop) (X : String → Nat → zw_H → Prop)  (k164 : zw_H → Prop) (l5 : Option Nat) (l8 : Int32) (R : Int32 → zw_H → Prop) (l7 : Int32) (h : zw_H) : Prop :=
  if l8 ≤ l7 then
    k164  h
  else
    os_A h l5 5 [0, 1, 2, 3, 4, 5, 6, 7, 8, 9, 10, 11, 12, 13, 14, 15, 16, 17, 18] [] l7 none (fun h5 =>
    olet (l7 + 1) (fun v15 =>
    R v15 h5))
def f_J1_grow_J96 (K : Nat → Option Nat) (Q : zw_H → Prop) (X : String → Nat → zw_H → Prop)  (l0 : Option Nat) (l2 : Int32) (l3 : Int32) (l5 : Option Nat)  (h : zw_H) : Prop :=
  olet (l3 - l2 : Int32) (fun v8 =>
  og_I h l0 [8] 1 (fun v9 =>
  og_I h l0 [8] 1 (fun v10 =>
  og_I h l0 [8] 1 (fun v11 =>
  ocp_O h [0, 1, 2, 3, 4, 5, 6, 7, 8, 9, 10, 11, 12, 13, 14, 15, 16, 17, 18] l5 v9 l5 (v10 + v8) (l2 - v11) (fun h3 =>
  og_I h3 l0 [8] 1 (fun v12 =>
  og_I h3 l0 [8] 1 (fun v13 =>
  olet (v13 + v8 : Int32) (fun v14 =>
  op_V h3 l0 [8] 1 (.int v14) (fun h4 =>
  zl2 (f_J1_grow_B145 K Q X (fun h6 =>
    Q h6) l5 v14) zfu v12 h4)))))))))
def f_J1_grow_J49 (K : Nat → Option Nat) (Q : zw_H → Prop) (X : String → Nat → zw_H → Prop)  (l0 : Option Nat) (l2 : Int32) (l3 : Int32)  (h : zw_H) : Prop :=
  og_A h l0 [8] 0 (fun v4 =>
  (f_J15_copyOf_2 K v4 l3 h (fun v5 h1 =>
  op_V h1 l0 [8] 0 (va_rf v5) (fun h2 =>
  og_I h2 l0 [8] 2 (fun v6 =>
  og_I h2 l0 [8] 1 (fun v7 =>
  if v6 < v7 then
    f_J1_grow_J96 K Q X  l0 l2 l3 v5  h2
  else
    og_I h2 l0 [8] 2 (fun v16 =>
    og_I h2 l0 [8] 1 (fun v17 =>
    if v16 ≠ v17 then
      Q h2
    else
      og_I h2 l0 [8] 1 (fun v18 =>
      oa_A h2 v5 [5, 12] v18 (fun v19 =>
      if v19 = none then
        Q h2
      else
        f_J1_grow_J96 K Q X  l0 l2 l3 v5  h2)))))))) X))
def f_J1_grow_J21 (K : Nat → Option Nat) (Q : zw_H → Prop) (X : String → Nat → zw_H → Prop)  (l0 : Option Nat) (l1 : Int32) (l2 : Int32) (s0 : Int32) (h : zw_H) : Prop :=
  if s0 < l1 then
    False
  else
    olet (l2 + s0 : Int32) (fun v3 =>
    if (v3 - (2147483639 : Int32)) ≤ 0 then
      f_J1_grow_J49 K Q X  l0 l2 v3  h
    else
      False)
def f_J1_grow (K : Nat → Option Nat) (a0 : Option Nat) (a1 : Int32) (h : zw_H) (Q : zw_H → Prop) (X : String → Nat → zw_H → Prop) : Prop :=
  og_A h a0 [8] 0 (fun v1 =>
  ol_ h v1 (fun v2 =>
  if (64 : Int32) ≤ v2 then
    f_J1_grow_J21 K Q X  a0 a1 v2 (v2 >>> (1 &&& 31)) h
  else
    f_J1_grow_J21 K Q X  a0 a1 v2 (v2 + 2) h))
abbrev rm_J1_addLast : Room := { frames := 5, cells := 1, slots := 40, locals := 172 }
def f_J1_addLast (K : Nat → Option Nat) (a0 : Option Nat) (a1 : Option Nat) (h : zw_H) (Q : zw_H → Prop) (X : String → Nat → zw_H → Prop) : Prop :=
  if a1 ≠ none then
    og_A h a0 [8] 0 (fun v1 =>
    og_I h a0 [8] 2 (fun v2 =>
    os_A h v1 5 [0, 1, 2, 3, 4, 5, 6, 7, 8, 9, 10, 11, 12, 13, 14, 15, 16, 17, 18] [] v2 a1 (fun h1 =>
    og_I h1 a0 [8] 1 (fun v3 =>
    og_I h1 a0 [8] 2 (fun v4 =>
    ol_ h1 v1 (fun v5 =>
    (f_J1_inc K v4 v5 h1 (fun v6 h2 =>
    op_V h2 a0 [8] 2 (.int v6) (fun h3 =>
    if v3 ≠ v6 then
      Q h3
    else
      oc_ h3 a0 [8] (f_J1_grow K a0 1 h3 (fun h4 =>
      Q h4) X))) X)))))))
  else
    False
abbrev rm_X1_change : Room := { frames := 9, cells := 294, slots := 2397, locals := 253 }
def f_X1_change_J20 (K : Nat → Option Nat) (Q : Option Nat → zw_H → Prop) (X : String → Nat → zw_H → Prop)  (l0 : Option Nat)  (h : zw_H) : Prop :=
  og_A h l0 [1] 5 (fun v3 =>
  og_A h l0 [1] 4 (fun v4 =>
  oc_ h v3 [8] (f_J1_addLast K v3 v4 h (fun h2 =>
  og_A h2 l0 [1] 4 (fun v5 =>
  oc_ h2 v5 [2] (f_X4_copy K v5 h2 (fun v6 h3 =>
  op_V h3 l0 [1] 4 (va_rf v6) (fun h4 =>
  og_A h4 l0 [1] 4 (fun v7 =>
  Q v7 h4))) X))) X)))
def f_X1_change (K : Nat → Option Nat) (a0 : Option Nat) (h : zw_H) (Q : Option Nat → zw_H → Prop) (X : String → Nat → zw_H → Prop) : Prop :=
  og_A h a0 [1] 5 (fun v1 =>
  oc_ h v1 [8] (f_J1_size K v1 h (fun v2 h1 =>
  if v2 ≠ 8 then
    f_X1_change_J20 K Q X  a0  h1
  else
    og_A h1 a0 [1] 5 (fun v8 =>
    oc_ h1 v8 [8] (f_J1_removeFirst K v8 h1 (fun v9 h5 =>
    f_X1_change_J20 K Q X  a0  h5) X))) X))
abbrev rm_X1_add : Room := { frames := 10, cells := 302, slots := 2484, locals := 10293 }
def f_X1_add_J48 (K : Nat → Option Nat) (Q : Int32 → zw_H → Prop) (X : String → Nat → zw_H → Prop)  (l0 : Option Nat) (l1 : Int32) (l2 : Int32) (l3 : Int32) (s0 : Int32) (h : zw_H) : Prop :=
  (f_X1_checkArgument K s0 h (fun h3 =>
  oc_ h3 l0 [1] (f_X1_change K l0 h3 (fun v3 h4 =>
  og_A h4 v3 [2] 0 (fun v4 =>
  (f_X1_body K l1 h4 (fun v5 h5 =>
  od_ h5 v5 [6] [7]
    (f_X7_be K v5 l2 l3 0 h5 (fun v6 h6 =>
      oc_ h6 v4 [9] (f_J12_add K v4 v6 h6 (fun v7 h7 =>
      og_A h7 l0 [1] 4 (fun v8 =>
      oc_ h7 v8 [2] (f_X4_size K v8 h7 (fun v9 h8 =>
      Q (v9 - 1) h8) X))) X)) X)
    (f_X7_be K v5 l2 l3 0 h5 (fun v6 h6 =>
      oc_ h6 v4 [9] (f_J12_add K v4 v6 h6 (fun v7 h7 =>
      og_A h7 l0 [1] 4 (fun v8 =>
      oc_ h7 v8 [2] (f_X4_size K v8 h7 (fun v9 h8 =>
      Q (v9 - 1) h8) X))) X)) X)) X))) X)) X)
def f_X1_add_J47 (K : Nat → Option Nat) (Q : Int32 → zw_H → Prop) (X : String → Nat → zw_H → Prop)  (l0 : Option Nat) (l1 : Int32) (l2 : Int32) (l3 : Int32)  (h : zw_H) : Prop :=
  f_X1_add_J48 K Q X  l0 l1 l2 l3 0 h
def f_X1_add_J43 (K : Nat → Option Nat) (Q : Int32 → zw_H → Prop) (X : String → Nat → zw_H → Prop)  (l0 : Option Nat) (l1 : Int32) (l2 : Int32) (l3 : Int32)  (h : zw_H) : Prop :=
  f_X1_add_J48 K Q X  l0 l1 l2 l3 1 h
def f_X1_add (K : Nat → Option Nat) (a0 : Option Nat) (a1 : Int32) (a2 : Int32) (a3 : Int32) (h : zw_H) (Q : Int32 → zw_H → Prop) (X : String → Nat → zw_H → Prop) : Prop :=
  oc_ h a0 [1] (f_X1_loaded K a0 h (fun v1 h1 =>
  (f_X1_isPoint K a2 h1 (fun v2 h2 =>
  if v2 = 0 then
    f_X1_add_J47 K Q X  a0 a1 a2 a3  h2
  else
    (f_X1_isCharge K a3 h2 (fun v10 h9 =>
    if v10 = 0 then
      f_X1_add_J47 K Q X  a0 a1 a2 a3  h9
    else
      oc_ h9 v1 [2] (f_X4_size K v1 h9 (fun v11 h10 =>
      if (24 : Int32) ≤ v11 then
        f_X1_add_J47 K Q X  a0 a1 a2 a3  h10
      else
        if a1 = 0 then
          f_X1_add_J43 K Q X  a0 a1 a2 a3  h10
        else
          oc_ h10 v1 [2] (f_X4_hasFixed K v1 a2 h10 (fun v12 h11 =>
          if v12 ≠ 0 then
            f_X1_add_J47 K Q X  a0 a1 a2 a3  h11
          else
            f_X1_add_J43 K Q X  a0 a1 a2 a3  h11) X)) X)) X)) X)) X)
abbrev rm_X1_move : Room := { frames := 10, cells := 297, slots := 2415, locals := 273 }
def f_X1_move_J25 (K : Nat → Option Nat) (Q : Int32 → zw_H → Prop) (X : String → Nat → zw_H → Prop)  (l0 : Option Nat) (l1 : Int32) (l2 : Int32) (l3 : Option Nat) (s0 : Int32) (h : zw_H) : Prop :=
  (f_X1_checkArgument K s0 h (fun h3 =>
  oc_ h3 l0 [1] (f_X1_change K l0 h3 (fun v3 h4 =>
  oc_ h4 v3 [2] (f_X4_at K v3 l1 h4 (fun v4 h5 =>
  op_V h5 v4 [6, 7] 0 (.int l2) (fun h6 =>
  og_I h6 l3 [6, 7] 0 (fun v5 =>
  Q (l2 - v5) h6))) X)) X)) X)
def f_X1_move_J24 (K : Nat → Option Nat) (Q : Int32 → zw_H → Prop) (X : String → Nat → zw_H → Prop)  (l0 : Option Nat) (l1 : Int32) (l2 : Int32) (l3 : Option Nat)  (h : zw_H) : Prop :=
  f_X1_move_J25 K Q X  l0 l1 l2 l3 0 h
def f_X1_move (K : Nat → Option Nat) (a0 : Option Nat) (a1 : Int32) (a2 : Int32) (h : zw_H) (Q : Int32 → zw_H → Prop) (X : String → Nat → zw_H → Prop) : Prop :=
  oc_ h a0 [1] (f_X1_bodyOf K a0 a1 h (fun v1 h1 =>
  (f_X1_isPoint K a2 h1 (fun v2 h2 =>
  if v2 = 0 then
    f_X1_move_J24 K Q X  a0 a1 a2 v1  h2
  else
    og_I h2 v1 [6, 7] 3 (fun v6 =>
    if v6 = 0 then
      f_X1_move_J24 K Q X  a0 a1 a2 v1  h2
    else
      f_X1_move_J25 K Q X  a0 a1 a2 v1 1 h2)) X)) X)
abbrev rm_X1_setCharge : Room := { frames := 10, cells := 297, slots := 2415, locals := 273 }
def f_X1_setCharge (K : Nat → Option Nat) (a0 : Option Nat) (a1 : Int32) (a2 : Int32) (h : zw_H) (Q : Int32 → zw_H → Prop) (X : String → Nat → zw_H → Prop) : Prop :=
  oc_ h a0 [1] (f_X1_bodyOf K a0 a1 h (fun v1 h1 =>
  og_I h1 v1 [6, 7] 1 (fun v2 =>
  (f_X1_isCharge K a2 h1 (fun v3 h2 =>
  (f_X1_checkArgument K v3 h2 (fun h3 =>
  oc_ h3 a0 [1] (f_X1_change K a0 h3 (fun v4 h4 =>
  oc_ h4 v4 [2] (f_X4_at K v4 a1 h4 (fun v5 h5 =>
  op_V h5 v5 [6, 7] 1 (.int a2) (fun h6 =>
  Q v2 h6)) X)) X)) X)) X))) X)
abbrev rm_J12_fastRemove : Room := { frames := 2, cells := 0, slots := 0, locals := 100 }
def f_J12_fastRemove_J34 (K : Nat → Option Nat) (Q : zw_H → Prop) (X : String → Nat → zw_H → Prop)  (l0 : Option Nat) (l1 : Option Nat) (l3 : Int32)  (h : zw_H) : Prop :=
  op_V h l0 [9] 2 (.int l3) (fun h2 =>
  os_A h2 l1 5 [0, 1, 2, 3, 4, 5, 6, 7, 8, 9, 10, 11, 12, 13, 14, 15, 16, 17, 18] [] l3 none (fun h3 =>
  Q h3))
def f_J12_fastRemove (K : Nat → Option Nat) (a0 : Option Nat) (a1 : Option Nat) (a2 : Int32) (h : zw_H) (Q : zw_H → Prop) (X : String → Nat → zw_H → Prop) : Prop :=
  og_I h a0 [9] 0 (fun v1 =>
  op_V h a0 [9] 0 (.int (v1 + 1)) (fun h1 =>
  og_I h1 a0 [9] 2 (fun v2 =>
  olet (v2 - 1 : Int32) (fun v3 =>
  if v3 ≤ a2 then
    f_J12_fastRemove_J34 K Q X  a0 a1 v3  h1
  else
    ocp_O h1 [0, 1, 2, 3, 4, 5, 6, 7, 8, 9, 10, 11, 12, 13, 14, 15, 16, 17, 18] a1 (a2 + 1) a1 a2 (v3 - a2) (fun h4 =>
    f_J12_fastRemove_J34 K Q X  a0 a1 v3  h4)))))
abbrev rm_J12_remove : Room := { frames := 3, cells := 0, slots := 0, locals := 123 }
def f_J12_remove (K : Nat → Option Nat) (a0 : Option Nat) (a1 : Int32) (h : zw_H) (Q : Option Nat → zw_H → Prop) (X : String → Nat → zw_H → Prop) : Prop :=
  og_I h a0 [9] 2 (fun v1 =>
  (f_J21_checkIndex K a1 v1 h (fun v2 h1 =>
  og_A h1 a0 [9] 1 (fun v3 =>
  oa_A h1 v3 [5, 12] a1 (fun v4 =>
  oc_ h1 a0 [9] (f_J12_fastRemove K a0 v3 a1 h1 (fun h2 =>
  Q v4 h2) X)))) X))
abbrev rm_X1_remove : Room := { frames := 10, cells := 296, slots := 2409, locals := 273 }
def f_X1_remove (K : Nat → Option Nat) (a0 : Option Nat) (a1 : Int32) (h : zw_H) (Q : Int32 → zw_H → Prop) (X : String → Nat → zw_H → Prop) : Prop :=
  oc_ h a0 [1] (f_X1_bodyOf K a0 a1 h (fun v1 h1 =>
  oc_ h1 a0 [1] (f_X1_change K a0 h1 (fun v2 h2 =>
  og_A h2 v2 [2] 0 (fun v3 =>
  oc_ h2 v3 [9] (f_J12_remove K v3 a1 h2 (fun v4 h3 =>
  on_ h3 v4 [6, 7] (
  og_A h3 a0 [1] 4 (fun v5 =>
  oc_ h3 v5 [2] (f_X4_size K v5 h3 (fun v6 h4 =>
  Q v6 h4) X)))) X))) X)) X)
abbrev rm_X1_step : Room := { frames := 12, cells := 297, slots := 2415, locals := 278 }
def f_X1_step_J27 (K : Nat → Option Nat) (Q : Int32 → zw_H → Prop) (X : String → Nat → zw_H → Prop)  (l0 : Option Nat) (l1 : Int32) (s0 : Int32) (h : zw_H) : Prop :=
  (f_X1_checkArgument K s0 h (fun h3 =>
  oc_ h3 l0 [1] (f_X1_change K l0 h3 (fun v3 h4 =>
  oc_ h4 v3 [2] (f_X4_steps K v3 l1 h4 (fun v4 h5 =>
  Q v4 h5) X)) X)) X)
def f_X1_step (K : Nat → Option Nat) (a0 : Option Nat) (a1 : Int32) (h : zw_H) (Q : Int32 → zw_H → Prop) (X : String → Nat → zw_H → Prop) : Prop :=
  oc_ h a0 [1] (f_X1_loaded K a0 h (fun v1 h1 =>
  (f_X1_checkSteps K a1 1 h1 (fun h2 =>
  og_I h2 v1 [2] 5 (fun v2 =>
  if (9999 : Int32) < (v2 + a1) then
    f_X1_step_J27 K Q X  a0 a1 0 h2
  else
    f_X1_step_J27 K Q X  a0 a1 1 h2)) X)) X)
abbrev rm_X1_setNumber : Room := { frames := 10, cells := 296, slots := 2409, locals := 273 }
def f_X1_setNumber_J42 (K : Nat → Option Nat) (Q : Int32 → zw_H → Prop) (X : String → Nat → zw_H → Prop)  (l0 : Option Nat) (l1 : Int32) (l2 : Int32) (l3 : Option Nat) (s0 : Int32) (h : zw_H) : Prop :=
  (f_X1_checkArgument K s0 h (fun h3 =>
  oc_ h3 l3 [2] (f_X4_number K l3 l1 h3 (fun v3 h4 =>
  oc_ h4 l0 [1] (f_X1_change K l0 h4 (fun v4 h5 =>
  oc_ h5 v4 [2] (f_X4_sets K v4 l1 l2 h5 (fun h6 =>
  Q v3 h6) X)) X)) X)) X)
def f_X1_setNumber_J41 (K : Nat → Option Nat) (Q : Int32 → zw_H → Prop) (X : String → Nat → zw_H → Prop)  (l0 : Option Nat) (l1 : Int32) (l2 : Int32) (l3 : Option Nat)  (h : zw_H) : Prop :=
  f_X1_setNumber_J42 K Q X  l0 l1 l2 l3 0 h
def f_X1_setNumber (K : Nat → Option Nat) (a0 : Option Nat) (a1 : Int32) (a2 : Int32) (h : zw_H) (Q : Int32 → zw_H → Prop) (X : String → Nat → zw_H → Prop) : Prop :=
  oc_ h a0 [1] (f_X1_loaded K a0 h (fun v1 h1 =>
  (f_X1_in K a1.toInt64 (3 : Int64) (5 : Int64) h1 (fun v2 h2 =>
  if v2 = 0 then
    f_X1_setNumber_J41 K Q X  a0 a1 a2 v1  h2
  else
    (f_X4_low K a1 h2 (fun v5 h7 =>
    (f_X4_high K a1 h7 (fun v6 h8 =>
    (f_X1_in K a2.toInt64 v5.toInt64 v6.toInt64 h8 (fun v7 h9 =>
    if v7 = 0 then
      f_X1_setNumber_J41 K Q X  a0 a1 a2 v1  h9
    else
      f_X1_setNumber_J42 K Q X  a0 a1 a2 v1 1 h9) X)) X)) X)) X)) X)
abbrev rm_J1_isEmpty : Room := { frames := 0, cells := 0, slots := 0, locals := 0 }
def f_J1_isEmpty (K : Nat → Option Nat) (a0 : Option Nat) (h : zw_H) (Q : Int32 → zw_H → Prop) (X : String → Nat → zw_H → Prop) : Prop :=
  og_I h a0 [8] 1 (fun v1 =>
  og_I h a0 [8] 2 (fun v2 =>
  if v1 ≠ v2 then
    Q 0 h
  else
    Q 1 h))
abbrev rm_J1_dec : Room := { frames := 0, cells := 0, slots := 0, locals := 0 }
def f_J1_dec (K : Nat → Option Nat) (a0 : Int32) (a1 : Int32) (h : zw_H) (Q : Int32 → zw_H → Prop) (X : String → Nat → zw_H → Prop) : Prop :=
  olet (a0 + (-1)) (fun v1 =>
  if (0 : Int32) ≤ v1 then
    Q v1 h
  else
    olet (a1 - 1 : Int32) (fun v2 =>
    Q v2 h))
abbrev rm_J1_pollLast : Room := { frames := 1, cells := 0, slots := 0, locals := 21 }
def f_J1_pollLast (K : Nat → Option Nat) (a0 : Option Nat) (h : zw_H) (Q : Option Nat → zw_H → Prop) (X : String → Nat → zw_H → Prop) : Prop :=
  og_A h a0 [8] 0 (fun v1 =>
  og_I h a0 [8] 2 (fun v2 =>
  ol_ h v1 (fun v3 =>
  (f_J1_dec K v2 v3 h (fun v4 h1 =>
  (f_J1_elementAt K v1 v4 h1 (fun v5 h2 =>
  if v5 = none then
    Q v5 h2
  else
    op_V h2 a0 [8] 2 (.int v4) (fun h3 =>
    os_A h3 v1 5 [0, 1, 2, 3, 4, 5, 6, 7, 8, 9, 10, 11, 12, 13, 14, 15, 16, 17, 18] [] v4 none (fun h4 =>
    Q v5 h4))) X)) X))))
abbrev rm_J1_removeLast : Room := { frames := 2, cells := 0, slots := 0, locals := 44 }
def f_J1_removeLast (K : Nat → Option Nat) (a0 : Option Nat) (h : zw_H) (Q : Option Nat → zw_H → Prop) (X : String → Nat → zw_H → Prop) : Prop :=
  oc_ h a0 [8] (f_J1_pollLast K a0 h (fun v1 h1 =>
  if v1 ≠ none then
    Q v1 h1
  else
    False) X)
abbrev rm_X1_undo : Room := { frames := 7, cells := 1, slots := 6, locals := 140 }
def f_X1_undo_J15 (K : Nat → Option Nat) (Q : Int32 → zw_H → Prop) (X : String → Nat → zw_H → Prop)  (l0 : Option Nat) (s0 : Int32) (h : zw_H) : Prop :=
  (f_X1_checkState K s0 h (fun h2 =>
  og_A h2 l0 [1] 5 (fun v3 =>
  oc_ h2 v3 [8] (f_J1_removeLast K v3 h2 (fun v4 h3 =>
  on_ h3 v4 [2] (
  op_V h3 l0 [1] 4 (va_rf v4) (fun h4 =>
  og_A h4 l0 [1] 5 (fun v5 =>
  oc_ h4 v5 [8] (f_J1_size K v5 h4 (fun v6 h5 =>
  Q v6 h5) X))))) X))) X)
def f_X1_undo (K : Nat → Option Nat) (a0 : Option Nat) (h : zw_H) (Q : Int32 → zw_H → Prop) (X : String → Nat → zw_H → Prop) : Prop :=
  og_A h a0 [1] 5 (fun v1 =>
  oc_ h v1 [8] (f_J1_isEmpty K v1 h (fun v2 h1 =>
  if v2 ≠ 0 then
    f_X1_undo_J15 K Q X  a0 0 h1
  else
    f_X1_undo_J15 K Q X  a0 1 h1) X))
abbrev rm_X1_save : Room := { frames := 9, cells := 295, slots := 2369, locals := 253 }
def f_X1_save (K : Nat → Option Nat) (a0 : Option Nat) (a1 : Int32) (h : zw_H) (Q : Int32 → zw_H → Prop) (X : String → Nat → zw_H → Prop) : Prop :=
  oc_ h a0 [1] (f_X1_loaded K a0 h (fun v1 h1 =>
  (f_X1_checkIndex K a1 2 h1 (fun h2 =>
  og_A h2 a0 [1] 6 (fun v2 =>
  oc_ h2 v1 [2] (f_X4_copy K v1 h2 (fun v3 h3 =>
  os_A h3 v2 8 [2] [] a1 v3 (fun h4 =>
  og_I h4 v1 [2] 5 (fun v4 =>
  Q v4 h4))) X))) X)) X)
abbrev rm_X1_restore : Room := { frames := 9, cells := 295, slots := 2369, locals := 253 }
def f_X1_restore_J19 (K : Nat → Option Nat) (Q : Int32 → zw_H → Prop) (X : String → Nat → zw_H → Prop)  (l0 : Option Nat) (l1 : Int32) (s0 : Int32) (h : zw_H) : Prop :=
  (f_X1_checkState K s0 h (fun h2 =>
  og_A h2 l0 [1] 6 (fun v3 =>
  oa_A h2 v3 [8] l1 (fun v4 =>
  oc_ h2 v4 [2] (f_X4_copy K v4 h2 (fun v5 h3 =>
  op_V h3 l0 [1] 4 (va_rf v5) (fun h4 =>
  og_A h4 l0 [1] 5 (fun v6 =>
  oc_ h4 v6 [8] (f_J1_clear K v6 h4 (fun h5 =>
  og_A h5 l0 [1] 4 (fun v7 =>
  og_I h5 v7 [2] 5 (fun v8 =>
  Q v8 h5))) X)))) X)))) X)
def f_X1_restore (K : Nat → Option Nat) (a0 : Option Nat) (a1 : Int32) (h : zw_H) (Q : Int32 → zw_H → Prop) (X : String → Nat → zw_H → Prop) : Prop :=
  (f_X1_checkIndex K a1 2 h (fun h1 =>
  og_A h1 a0 [1] 6 (fun v1 =>
  oa_A h1 v1 [8] a1 (fun v2 =>
  if v2 = none then
    f_X1_restore_J19 K Q X  a0 a1 0 h1
  else
    f_X1_restore_J19 K Q X  a0 a1 1 h1))) X)
abbrev rm_X0_load : Room := { frames := 21, cells := 1139, slots := 10211, locals := 10360 }
def f_X0_load (K : Nat → Option Nat) (a0 : Option Nat) (a1 : Int32) (a2 : Option Nat) (h : zw_H) (Q : Int32 → zw_H → Prop) (X : String → Nat → zw_H → Prop) : Prop :=
  oc_ h a0 [1] (f_X1_load K a0 a1 h (fun v1 h1 =>
  os_J h1 a2 [3] 0 v1.toInt64 (fun h2 =>
  Q 0 h2))
    (fun E9 q9 h9 =>
      if E9 = "java/lang/IndexOutOfBoundsException" then
        Q 1 h9
      else   if E9 = "java/lang/IllegalArgumentException" then
        Q 2 h9
      else False))
abbrev rm_X0_count : Room := { frames := 18, cells := 3, slots := 13, locals := 402 }
def f_X0_count (K : Nat → Option Nat) (a0 : Option Nat) (a1 : Int32) (a2 : Option Nat) (h : zw_H) (Q : Int32 → zw_H → Prop) (X : String → Nat → zw_H → Prop) : Prop :=
  oc_ h a0 [1] (f_X1_count K a0 a1 h (fun v1 h1 =>
  os_J h1 a2 [3] 0 v1.toInt64 (fun h2 =>
  Q 0 h2))
    (fun E9 q9 h9 =>
      if E9 = "java/lang/IllegalStateException" then
        Q 1 h9
      else   if E9 = "java/lang/IllegalArgumentException" then
        Q 2 h9
      else False))
abbrev rm_X0_body : Room := { frames := 10, cells := 3, slots := 18, locals := 204 }
def f_X0_body (K : Nat → Option Nat) (a0 : Option Nat) (a1 : Int32) (a2 : Int32) (a3 : Option Nat) (h : zw_H) (Q : Int32 → zw_H → Prop) (X : String → Nat → zw_H → Prop) : Prop :=
  oc_ h a0 [1] (f_X1_body_2 K a0 a1 a2 h (fun v1 h1 =>
  os_J h1 a3 [3] 0 v1.toInt64 (fun h2 =>
  Q 0 h2))
    (fun E9 q9 h9 =>
      if E9 = "java/lang/IllegalStateException" then
        Q 1 h9
      else   if E9 = "java/lang/IndexOutOfBoundsException" then
        Q 2 h9
      else   if E9 = "java/lang/IllegalArgumentException" then
        Q 3 h9
      else False))
abbrev rm_X0_bodyAt : Room := { frames := 10, cells := 2, slots := 12, locals := 205 }
def f_X0_bodyAt (K : Nat → Option Nat) (a0 : Option Nat) (a1 : Int32) (a2 : Option Nat) (h : zw_H) (Q : Int32 → zw_H → Prop) (X : String → Nat → zw_H → Prop) : Prop :=
  oc_ h a0 [1] (f_X1_bodyAt K a0 a1 h (fun v1 h1 =>
  os_J h1 a2 [3] 0 v1.toInt64 (fun h2 =>
  Q 0 h2))
    (fun E9 q9 h9 =>
      if E9 = "java/lang/IllegalStateException" then
        Q 1 h9
      else   if E9 = "java/lang/IllegalArgumentException" then
        Q 2 h9
      else False))
abbrev rm_X0_box : Room := { frames := 10, cells := 4, slots := 24, locals := 206 }
def f_X0_box (K : Nat → Option Nat) (a0 : Option Nat) (a1 : Int32) (a2 : Int32) (a3 : Int32) (a4 : Option Nat) (h : zw_H) (Q : Int32 → zw_H → Prop) (X : String → Nat → zw_H → Prop) : Prop :=
  oc_ h a0 [1] (f_X1_box K a0 a1 a2 a3 h (fun v1 h1 =>
  os_J h1 a4 [3] 0 v1.toInt64 (fun h2 =>
  Q 0 h2))
    (fun E9 q9 h9 =>
      if E9 = "java/lang/IllegalStateException" then
        Q 1 h9
      else   if E9 = "java/lang/IndexOutOfBoundsException" then
        Q 2 h9
      else   if E9 = "java/lang/IllegalArgumentException" then
        Q 3 h9
      else False))
abbrev rm_X0_boxAt : Room := { frames := 10, cells := 5, slots := 30, locals := 205 }
def f_X0_boxAt (K : Nat → Option Nat) (a0 : Option Nat) (a1 : Int32) (a2 : Int32) (a3 : Option Nat) (h : zw_H) (Q : Int32 → zw_H → Prop) (X : String → Nat → zw_H → Prop) : Prop :=
  oc_ h a0 [1] (f_X1_boxAt K a0 a1 a2 h (fun v1 h1 =>
  os_J h1 a3 [3] 0 v1.toInt64 (fun h2 =>
  Q 0 h2))
    (fun E9 q9 h9 =>
      if E9 = "java/lang/IllegalStateException" then
        Q 1 h9
      else   if E9 = "java/lang/IndexOutOfBoundsException" then
        Q 2 h9
      else   if E9 = "java/lang/IllegalArgumentException" then
        Q 3 h9
      else False))
abbrev rm_X0_firstEmpty : Room := { frames := 18, cells := 3, slots := 13, locals := 401 }
def f_X0_firstEmpty (K : Nat → Option Nat) (a0 : Option Nat) (a1 : Option Nat) (h : zw_H) (Q : Int32 → zw_H → Prop) (X : String → Nat → zw_H → Prop) : Prop :=
  oc_ h a0 [1] (f_X1_firstEmpty K a0 h (fun v1 h1 =>
  os_J h1 a1 [3] 0 v1.toInt64 (fun h2 =>
  Q 0 h2))
    (fun E9 q9 h9 =>
      if E9 = "java/lang/IllegalStateException" then
        Q 1 h9
      else False))
abbrev rm_X0_densest : Room := { frames := 18, cells := 3, slots := 13, locals := 405 }
def f_X0_densest (K : Nat → Option Nat) (a0 : Option Nat) (a1 : Option Nat) (h : zw_H) (Q : Int32 → zw_H → Prop) (X : String → Nat → zw_H → Prop) : Prop :=
  oc_ h a0 [1] (f_X1_densest K a0 h (fun v1 h1 =>
  os_J h1 a1 [3] 0 v1.toInt64 (fun h2 =>
  Q 0 h2))
    (fun E9 q9 h9 =>
      if E9 = "java/lang/IllegalStateException" then
        Q 1 h9
      else False))
abbrev rm_X0_moment : Room := { frames := 10, cells := 4, slots := 24, locals := 206 }
def f_X0_moment (K : Nat → Option Nat) (a0 : Option Nat) (a1 : Int32) (a2 : Int32) (a3 : Int32) (a4 : Option Nat) (h : zw_H) (Q : Int32 → zw_H → Prop) (X : String → Nat → zw_H → Prop) : Prop :=
  oc_ h a0 [1] (f_X1_moment K a0 a1 a2 a3 h (fun v1 h1 =>
  os_J h1 a4 [3] 0 v1 (fun h2 =>
  Q 0 h2))
    (fun E9 q9 h9 =>
      if E9 = "java/lang/IllegalStateException" then
        Q 1 h9
      else   if E9 = "java/lang/IndexOutOfBoundsException" then
        Q 2 h9
      else   if E9 = "java/lang/IllegalArgumentException" then
        Q 3 h9
      else False))
abbrev rm_X0_shifted : Room := { frames := 17, cells := 4, slots := 24, locals := 397 }
def f_X0_shifted (K : Nat → Option Nat) (a0 : Option Nat) (a1 : Int32) (a2 : Int32) (a3 : Int32) (a4 : Option Nat) (h : zw_H) (Q : Int32 → zw_H → Prop) (X : String → Nat → zw_H → Prop) : Prop :=
  oc_ h a0 [1] (f_X1_shifted K a0 a1 a2 a3 h (fun v1 h1 =>
  os_J h1 a4 [3] 0 v1 (fun h2 =>
  Q 0 h2))
    (fun E9 q9 h9 =>
      if E9 = "java/lang/IllegalStateException" then
        Q 1 h9
      else   if E9 = "java/lang/IndexOutOfBoundsException" then
        Q 2 h9
      else   if E9 = "java/lang/IllegalArgumentException" then
        Q 3 h9
      else False))
abbrev rm_X0_momentGap : Room := { frames := 18, cells := 1, slots := 6, locals := 421 }
def f_X0_momentGap (K : Nat → Option Nat) (a0 : Option Nat) (a1 : Option Nat) (h : zw_H) (Q : Int32 → zw_H → Prop) (X : String → Nat → zw_H → Prop) : Prop :=
  oc_ h a0 [1] (f_X1_momentGap K a0 h (fun v1 h1 =>
  os_J h1 a1 [3] 0 v1 (fun h2 =>
  Q 0 h2))
    (fun E9 q9 h9 =>
      if E9 = "java/lang/IllegalStateException" then
        Q 1 h9
      else False))
abbrev rm_X0_nearMany : Room := { frames := 10, cells := 53, slots := 116, locals := 203 }
def f_X0_nearMany (K : Nat → Option Nat) (a0 : Option Nat) (a1 : Int32) (a2 : Option Nat) (h : zw_H) (Q : Int32 → zw_H → Prop) (X : String → Nat → zw_H → Prop) : Prop :=
  oc_ h a0 [1] (f_X1_nearMany K a0 a1 h (fun v1 h1 =>
  os_J h1 a2 [3] 0 v1.toInt64 (fun h2 =>
  Q 0 h2))
    (fun E9 q9 h9 =>
      if E9 = "java/lang/IllegalStateException" then
        Q 1 h9
      else   if E9 = "java/lang/IllegalArgumentException" then
        Q 2 h9
      else False))
abbrev rm_X0_nearBody : Room := { frames := 10, cells := 54, slots := 121, locals := 211 }
def f_X0_nearBody (K : Nat → Option Nat) (a0 : Option Nat) (a1 : Int32) (a2 : Int32) (a3 : Option Nat) (h : zw_H) (Q : Int32 → zw_H → Prop) (X : String → Nat → zw_H → Prop) : Prop :=
  oc_ h a0 [1] (f_X1_nearBody K a0 a1 a2 h (fun v1 h1 =>
  os_J h1 a3 [3] 0 v1.toInt64 (fun h2 =>
  Q 0 h2))
    (fun E9 q9 h9 =>
      if E9 = "java/lang/IllegalStateException" then
        Q 1 h9
      else   if E9 = "java/lang/IllegalArgumentException" then
        Q 2 h9
      else False))
abbrev rm_X0_farMany : Room := { frames := 10, cells := 2, slots := 12, locals := 203 }
def f_X0_farMany (K : Nat → Option Nat) (a0 : Option Nat) (a1 : Int32) (a2 : Option Nat) (h : zw_H) (Q : Int32 → zw_H → Prop) (X : String → Nat → zw_H → Prop) : Prop :=
  oc_ h a0 [1] (f_X1_farMany K a0 a1 h (fun v1 h1 =>
  os_J h1 a2 [3] 0 v1.toInt64 (fun h2 =>
  Q 0 h2))
    (fun E9 q9 h9 =>
      if E9 = "java/lang/IllegalStateException" then
        Q 1 h9
      else   if E9 = "java/lang/IllegalArgumentException" then
        Q 2 h9
      else False))
abbrev rm_X0_farBox : Room := { frames := 10, cells := 2, slots := 12, locals := 205 }
def f_X0_farBox (K : Nat → Option Nat) (a0 : Option Nat) (a1 : Int32) (a2 : Int32) (a3 : Option Nat) (h : zw_H) (Q : Int32 → zw_H → Prop) (X : String → Nat → zw_H → Prop) : Prop :=
  oc_ h a0 [1] (f_X1_farBox K a0 a1 a2 h (fun v1 h1 =>
  os_J h1 a3 [3] 0 v1.toInt64 (fun h2 =>
  Q 0 h2))
    (fun E9 q9 h9 =>
      if E9 = "java/lang/IllegalStateException" then
        Q 1 h9
      else   if E9 = "java/lang/IllegalArgumentException" then
        Q 2 h9
      else False))
abbrev rm_X0_farBodies : Room := { frames := 10, cells := 2, slots := 12, locals := 203 }
def f_X0_farBodies (K : Nat → Option Nat) (a0 : Option Nat) (a1 : Int32) (a2 : Option Nat) (h : zw_H) (Q : Int32 → zw_H → Prop) (X : String → Nat → zw_H → Prop) : Prop :=
  oc_ h a0 [1] (f_X1_farBodies K a0 a1 h (fun v1 h1 =>
  os_J h1 a2 [3] 0 v1.toInt64 (fun h2 =>
  Q 0 h2))
    (fun E9 q9 h9 =>
      if E9 = "java/lang/IllegalStateException" then
        Q 1 h9
      else   if E9 = "java/lang/IllegalArgumentException" then
        Q 2 h9
      else False))
abbrev rm_X0_cost : Room := { frames := 10, cells := 2, slots := 12, locals := 204 }
def f_X0_cost (K : Nat → Option Nat) (a0 : Option Nat) (a1 : Int32) (a2 : Int32) (a3 : Option Nat) (h : zw_H) (Q : Int32 → zw_H → Prop) (X : String → Nat → zw_H → Prop) : Prop :=
  oc_ h a0 [1] (f_X1_cost K a0 a1 a2 h (fun v1 h1 =>
  os_J h1 a3 [3] 0 v1.toInt64 (fun h2 =>
  Q 0 h2))
    (fun E9 q9 h9 =>
      if E9 = "java/lang/IllegalStateException" then
        Q 1 h9
      else   if E9 = "java/lang/IllegalArgumentException" then
        Q 2 h9
      else False))
abbrev rm_X0_plain : Room := { frames := 10, cells := 2, slots := 12, locals := 223 }
def f_X0_plain (K : Nat → Option Nat) (a0 : Option Nat) (a1 : Int32) (a2 : Option Nat) (h : zw_H) (Q : Int32 → zw_H → Prop) (X : String → Nat → zw_H → Prop) : Prop :=
  oc_ h a0 [1] (f_X1_plain K a0 a1 h (fun v1 h1 =>
  os_D h1 a2 [4] 0 v1 (fun h2 =>
  Q 0 h2))
    (fun E9 q9 h9 =>
      if E9 = "java/lang/IllegalStateException" then
        Q 1 h9
      else   if E9 = "java/lang/IllegalArgumentException" then
        Q 2 h9
      else False))
abbrev rm_X0_nearSum : Room := { frames := 10, cells := 2, slots := 12, locals := 203 }
def f_X0_nearSum (K : Nat → Option Nat) (a0 : Option Nat) (a1 : Int32) (a2 : Option Nat) (h : zw_H) (Q : Int32 → zw_H → Prop) (X : String → Nat → zw_H → Prop) : Prop :=
  oc_ h a0 [1] (f_X1_nearSum K a0 a1 h (fun v1 h1 =>
  os_D h1 a2 [4] 0 v1 (fun h2 =>
  Q 0 h2))
    (fun E9 q9 h9 =>
      if E9 = "java/lang/IllegalStateException" then
        Q 1 h9
      else   if E9 = "java/lang/IllegalArgumentException" then
        Q 2 h9
      else False))
abbrev rm_X0_farSum : Room := { frames := 10, cells := 2, slots := 12, locals := 203 }
def f_X0_farSum (K : Nat → Option Nat) (a0 : Option Nat) (a1 : Int32) (a2 : Option Nat) (h : zw_H) (Q : Int32 → zw_H → Prop) (X : String → Nat → zw_H → Prop) : Prop :=
  oc_ h a0 [1] (f_X1_farSum K a0 a1 h (fun v1 h1 =>
  os_D h1 a2 [4] 0 v1 (fun h2 =>
  Q 0 h2))
    (fun E9 q9 h9 =>
      if E9 = "java/lang/IllegalStateException" then
        Q 1 h9
      else   if E9 = "java/lang/IllegalArgumentException" then
        Q 2 h9
      else False))
abbrev rm_X0_farBits : Room := { frames := 11, cells := 2, slots := 12, locals := 224 }
def f_X0_farBits (K : Nat → Option Nat) (a0 : Option Nat) (a1 : Int32) (a2 : Option Nat) (h : zw_H) (Q : Int32 → zw_H → Prop) (X : String → Nat → zw_H → Prop) : Prop :=
  oc_ h a0 [1] (f_X1_farBits K a0 a1 h (fun v1 h1 =>
  os_J h1 a2 [3] 0 v1 (fun h2 =>
  Q 0 h2))
    (fun E9 q9 h9 =>
      if E9 = "java/lang/IllegalStateException" then
        Q 1 h9
      else   if E9 = "java/lang/IllegalArgumentException" then
        Q 2 h9
      else False))
abbrev rm_X0_value : Room := { frames := 10, cells := 4, slots := 24, locals := 206 }
def f_X0_value (K : Nat → Option Nat) (a0 : Option Nat) (a1 : Int32) (a2 : Int32) (a3 : Int32) (a4 : Option Nat) (h : zw_H) (Q : Int32 → zw_H → Prop) (X : String → Nat → zw_H → Prop) : Prop :=
  oc_ h a0 [1] (f_X1_value K a0 a1 a2 a3 h (fun v1 h1 =>
  os_D h1 a4 [4] 0 v1 (fun h2 =>
  Q 0 h2))
    (fun E9 q9 h9 =>
      if E9 = "java/lang/IllegalStateException" then
        Q 1 h9
      else   if E9 = "java/lang/IndexOutOfBoundsException" then
        Q 2 h9
      else   if E9 = "java/lang/IllegalArgumentException" then
        Q 3 h9
      else False))
abbrev rm_X0_bound : Room := { frames := 10, cells := 2, slots := 12, locals := 207 }
def f_X0_bound (K : Nat → Option Nat) (a0 : Option Nat) (a1 : Int32) (a2 : Option Nat) (h : zw_H) (Q : Int32 → zw_H → Prop) (X : String → Nat → zw_H → Prop) : Prop :=
  oc_ h a0 [1] (f_X1_bound K a0 a1 h (fun v1 h1 =>
  os_D h1 a2 [4] 0 v1 (fun h2 =>
  Q 0 h2))
    (fun E9 q9 h9 =>
      if E9 = "java/lang/IllegalStateException" then
        Q 1 h9
      else   if E9 = "java/lang/IllegalArgumentException" then
        Q 2 h9
      else False))
abbrev rm_X0_gapAt : Room := { frames := 11, cells := 2, slots := 12, locals := 244 }
def f_X0_gapAt (K : Nat → Option Nat) (a0 : Option Nat) (a1 : Int32) (a2 : Option Nat) (h : zw_H) (Q : Int32 → zw_H → Prop) (X : String → Nat → zw_H → Prop) : Prop :=
  oc_ h a0 [1] (f_X1_gapAt K a0 a1 h (fun v1 h1 =>
  os_D h1 a2 [4] 0 v1 (fun h2 =>
  Q 0 h2))
    (fun E9 q9 h9 =>
      if E9 = "java/lang/IllegalStateException" then
        Q 1 h9
      else   if E9 = "java/lang/IllegalArgumentException" then
        Q 2 h9
      else False))
abbrev rm_X0_isWithin : Room := { frames := 11, cells := 2, slots := 12, locals := 244 }
def f_X0_isWithin (K : Nat → Option Nat) (a0 : Option Nat) (a1 : Int32) (a2 : Option Nat) (h : zw_H) (Q : Int32 → zw_H → Prop) (X : String → Nat → zw_H → Prop) : Prop :=
  oc_ h a0 [1] (f_X1_isWithin K a0 a1 h (fun v1 h1 =>
  if v1 = 0 then
    os_J h1 a2 [3] 0 0 (fun h2 =>
    Q 0 h2)
  else
    os_J h1 a2 [3] 0 1 (fun h3 =>
    Q 0 h3))
    (fun E9 q9 h9 =>
      if E9 = "java/lang/IllegalStateException" then
        Q 1 h9
      else   if E9 = "java/lang/IllegalArgumentException" then
        Q 2 h9
      else False))
abbrev rm_X0_worst : Room := { frames := 11, cells := 1, slots := 6, locals := 250 }
def f_X0_worst (K : Nat → Option Nat) (a0 : Option Nat) (a1 : Option Nat) (h : zw_H) (Q : Int32 → zw_H → Prop) (X : String → Nat → zw_H → Prop) : Prop :=
  oc_ h a0 [1] (f_X1_worst K a0 h (fun v1 h1 =>
  os_J h1 a1 [3] 0 v1.toInt64 (fun h2 =>
  Q 0 h2))
    (fun E9 q9 h9 =>
      if E9 = "java/lang/IllegalStateException" then
        Q 1 h9
      else False))
abbrev rm_X0_localEntry : Room := { frames := 14, cells := 14, slots := 120, locals := 368 }
def f_X0_localEntry (K : Nat → Option Nat) (a0 : Option Nat) (a1 : Int32) (a2 : Int32) (a3 : Int32) (a4 : Option Nat) (h : zw_H) (Q : Int32 → zw_H → Prop) (X : String → Nat → zw_H → Prop) : Prop :=
  oc_ h a0 [1] (f_X1_localEntry K a0 a1 a2 a3 h (fun v1 h1 =>
  os_D h1 a4 [4] 0 v1 (fun h2 =>
  Q 0 h2))
    (fun E9 q9 h9 =>
      if E9 = "java/lang/IllegalStateException" then
        Q 1 h9
      else   if E9 = "java/lang/IndexOutOfBoundsException" then
        Q 2 h9
      else   if E9 = "java/lang/IllegalArgumentException" then
        Q 3 h9
      else False))
abbrev rm_X0_localSum : Room := { frames := 15, cells := 10, slots := 96, locals := 392 }
def f_X0_localSum (K : Nat → Option Nat) (a0 : Option Nat) (a1 : Int32) (a2 : Option Nat) (h : zw_H) (Q : Int32 → zw_H → Prop) (X : String → Nat → zw_H → Prop) : Prop :=
  oc_ h a0 [1] (f_X1_localSum K a0 a1 h (fun v1 h1 =>
  os_D h1 a2 [4] 0 v1 (fun h2 =>
  Q 0 h2))
    (fun E9 q9 h9 =>
      if E9 = "java/lang/IllegalStateException" then
        Q 1 h9
      else   if E9 = "java/lang/IllegalArgumentException" then
        Q 2 h9
      else False))
abbrev rm_X0_pullPlain : Room := { frames := 10, cells := 2, slots := 12, locals := 203 }
def f_X0_pullPlain (K : Nat → Option Nat) (a0 : Option Nat) (a1 : Int32) (a2 : Option Nat) (h : zw_H) (Q : Int32 → zw_H → Prop) (X : String → Nat → zw_H → Prop) : Prop :=
  oc_ h a0 [1] (f_X1_pullPlain K a0 a1 h (fun v1 h1 =>
  os_D h1 a2 [4] 0 v1 (fun h2 =>
  Q 0 h2))
    (fun E9 q9 h9 =>
      if E9 = "java/lang/IllegalStateException" then
        Q 1 h9
      else   if E9 = "java/lang/IllegalArgumentException" then
        Q 2 h9
      else False))
abbrev rm_X0_pullFar : Room := { frames := 10, cells := 2, slots := 12, locals := 208 }
def f_X0_pullFar (K : Nat → Option Nat) (a0 : Option Nat) (a1 : Int32) (a2 : Option Nat) (h : zw_H) (Q : Int32 → zw_H → Prop) (X : String → Nat → zw_H → Prop) : Prop :=
  oc_ h a0 [1] (f_X1_pullFar K a0 a1 h (fun v1 h1 =>
  os_D h1 a2 [4] 0 v1 (fun h2 =>
  Q 0 h2))
    (fun E9 q9 h9 =>
      if E9 = "java/lang/IllegalStateException" then
        Q 1 h9
      else   if E9 = "java/lang/IllegalArgumentException" then
        Q 2 h9
      else False))
abbrev rm_X0_pull : Room := { frames := 10, cells := 2, slots := 12, locals := 229 }
def f_X0_pull (K : Nat → Option Nat) (a0 : Option Nat) (a1 : Int32) (a2 : Option Nat) (h : zw_H) (Q : Int32 → zw_H → Prop) (X : String → Nat → zw_H → Prop) : Prop :=
  oc_ h a0 [1] (f_X1_pull K a0 a1 h (fun v1 h1 =>
  os_D h1 a2 [4] 0 v1 (fun h2 =>
  Q 0 h2))
    (fun E9 q9 h9 =>
      if E9 = "java/lang/IllegalStateException" then
        Q 1 h9
      else   if E9 = "java/lang/IllegalArgumentException" then
        Q 2 h9
      else False))
abbrev rm_X0_willMove : Room := { frames := 11, cells := 2, slots := 12, locals := 255 }
def f_X0_willMove (K : Nat → Option Nat) (a0 : Option Nat) (a1 : Int32) (a2 : Option Nat) (h : zw_H) (Q : Int32 → zw_H → Prop) (X : String → Nat → zw_H → Prop) : Prop :=
  oc_ h a0 [1] (f_X1_willMove K a0 a1 h (fun v1 h1 =>
  os_J h1 a2 [3] 0 v1.toInt64 (fun h2 =>
  Q 0 h2))
    (fun E9 q9 h9 =>
      if E9 = "java/lang/IllegalStateException" then
        Q 1 h9
      else   if E9 = "java/lang/IndexOutOfBoundsException" then
        Q 2 h9
      else False))
abbrev rm_X0_placeIn : Room := { frames := 13, cells := 296, slots := 2375, locals := 303 }
def f_X0_placeIn (K : Nat → Option Nat) (a0 : Option Nat) (a1 : Int32) (a2 : Int32) (a3 : Option Nat) (h : zw_H) (Q : Int32 → zw_H → Prop) (X : String → Nat → zw_H → Prop) : Prop :=
  oc_ h a0 [1] (f_X1_placeIn K a0 a1 a2 h (fun v1 h1 =>
  os_J h1 a3 [3] 0 v1.toInt64 (fun h2 =>
  Q 0 h2))
    (fun E9 q9 h9 =>
      if E9 = "java/lang/IllegalStateException" then
        Q 1 h9
      else   if E9 = "java/lang/IndexOutOfBoundsException" then
        Q 2 h9
      else   if E9 = "java/lang/IllegalArgumentException" then
        Q 3 h9
      else False))
abbrev rm_X0_movesIn : Room := { frames := 13, cells := 295, slots := 2369, locals := 300 }
def f_X0_movesIn (K : Nat → Option Nat) (a0 : Option Nat) (a1 : Int32) (a2 : Option Nat) (h : zw_H) (Q : Int32 → zw_H → Prop) (X : String → Nat → zw_H → Prop) : Prop :=
  oc_ h a0 [1] (f_X1_movesIn K a0 a1 h (fun v1 h1 =>
  os_J h1 a2 [3] 0 v1.toInt64 (fun h2 =>
  Q 0 h2))
    (fun E9 q9 h9 =>
      if E9 = "java/lang/IllegalStateException" then
        Q 1 h9
      else   if E9 = "java/lang/IllegalArgumentException" then
        Q 2 h9
      else False))
abbrev rm_X0_stillIn : Room := { frames := 13, cells := 294, slots := 2363, locals := 301 }
def f_X0_stillIn (K : Nat → Option Nat) (a0 : Option Nat) (a1 : Option Nat) (h : zw_H) (Q : Int32 → zw_H → Prop) (X : String → Nat → zw_H → Prop) : Prop :=
  oc_ h a0 [1] (f_X1_stillIn K a0 h (fun v1 h1 =>
  os_J h1 a1 [3] 0 v1.toInt64 (fun h2 =>
  Q 0 h2))
    (fun E9 q9 h9 =>
      if E9 = "java/lang/IllegalStateException" then
        Q 1 h9
      else False))
abbrev rm_X0_orderFor : Room := { frames := 10, cells := 3, slots := 18, locals := 212 }
def f_X0_orderFor (K : Nat → Option Nat) (a0 : Option Nat) (a1 : Int32) (a2 : Int32) (a3 : Option Nat) (h : zw_H) (Q : Int32 → zw_H → Prop) (X : String → Nat → zw_H → Prop) : Prop :=
  oc_ h a0 [1] (f_X1_orderFor K a0 a1 a2 h (fun v1 h1 =>
  os_J h1 a3 [3] 0 v1.toInt64 (fun h2 =>
  Q 0 h2))
    (fun E9 q9 h9 =>
      if E9 = "java/lang/IllegalStateException" then
        Q 1 h9
      else   if E9 = "java/lang/IllegalArgumentException" then
        Q 2 h9
      else False))
abbrev rm_X0_bestLevels : Room := { frames := 10, cells := 1, slots := 6, locals := 226 }
def f_X0_bestLevels (K : Nat → Option Nat) (a0 : Option Nat) (a1 : Option Nat) (h : zw_H) (Q : Int32 → zw_H → Prop) (X : String → Nat → zw_H → Prop) : Prop :=
  oc_ h a0 [1] (f_X1_bestLevels K a0 h (fun v1 h1 =>
  os_J h1 a1 [3] 0 v1.toInt64 (fun h2 =>
  Q 0 h2))
    (fun E9 q9 h9 =>
      if E9 = "java/lang/IllegalStateException" then
        Q 1 h9
      else False))
abbrev rm_X0_without : Room := { frames := 10, cells := 4, slots := 24, locals := 205 }
def f_X0_without (K : Nat → Option Nat) (a0 : Option Nat) (a1 : Int32) (a2 : Int32) (a3 : Option Nat) (h : zw_H) (Q : Int32 → zw_H → Prop) (X : String → Nat → zw_H → Prop) : Prop :=
  oc_ h a0 [1] (f_X1_without K a0 a1 a2 h (fun v1 h1 =>
  os_D h1 a3 [4] 0 v1 (fun h2 =>
  Q 0 h2))
    (fun E9 q9 h9 =>
      if E9 = "java/lang/IllegalStateException" then
        Q 1 h9
      else   if E9 = "java/lang/IndexOutOfBoundsException" then
        Q 2 h9
      else   if E9 = "java/lang/IllegalArgumentException" then
        Q 3 h9
      else False))
abbrev rm_X0_quietest : Room := { frames := 11, cells := 515, slots := 3090, locals := 232 }
def f_X0_quietest (K : Nat → Option Nat) (a0 : Option Nat) (a1 : Option Nat) (h : zw_H) (Q : Int32 → zw_H → Prop) (X : String → Nat → zw_H → Prop) : Prop :=
  oc_ h a0 [1] (f_X1_quietest K a0 h (fun v1 h1 =>
  os_J h1 a1 [3] 0 v1.toInt64 (fun h2 =>
  Q 0 h2))
    (fun E9 q9 h9 =>
      if E9 = "java/lang/IllegalStateException" then
        Q 1 h9
      else False))
abbrev rm_X0_energy : Room := { frames := 10, cells := 1, slots := 6, locals := 228 }
def f_X0_energy (K : Nat → Option Nat) (a0 : Option Nat) (a1 : Int32) (a2 : Option Nat) (h : zw_H) (Q : Int32 → zw_H → Prop) (X : String → Nat → zw_H → Prop) : Prop :=
  oc_ h a0 [1] (f_X1_energy K a0 a1 h (fun v1 h1 =>
  os_D h1 a2 [4] 0 v1 (fun h2 =>
  Q 0 h2))
    (fun E9 q9 h9 =>
      if E9 = "java/lang/IllegalStateException" then
        Q 1 h9
      else False))
abbrev rm_X0_nearestZero : Room := { frames := 10, cells := 2, slots := 12, locals := 205 }
def f_X0_nearestZero (K : Nat → Option Nat) (a0 : Option Nat) (a1 : Int32) (a2 : Option Nat) (h : zw_H) (Q : Int32 → zw_H → Prop) (X : String → Nat → zw_H → Prop) : Prop :=
  oc_ h a0 [1] (f_X1_nearestZero K a0 a1 h (fun v1 h1 =>
  os_J h1 a2 [3] 0 v1.toInt64 (fun h2 =>
  Q 0 h2))
    (fun E9 q9 h9 =>
      if E9 = "java/lang/IllegalStateException" then
        Q 1 h9
      else   if E9 = "java/lang/IllegalArgumentException" then
        Q 2 h9
      else False))
abbrev rm_X0_pairs : Room := { frames := 9, cells := 2, slots := 12, locals := 187 }
def f_X0_pairs (K : Nat → Option Nat) (a0 : Option Nat) (a1 : Int32) (a2 : Option Nat) (h : zw_H) (Q : Int32 → zw_H → Prop) (X : String → Nat → zw_H → Prop) : Prop :=
  oc_ h a0 [1] (f_X1_pairs K a0 a1 h (fun v1 h1 =>
  os_J h1 a2 [3] 0 v1.toInt64 (fun h2 =>
  Q 0 h2))
    (fun E9 q9 h9 =>
      if E9 = "java/lang/IllegalStateException" then
        Q 1 h9
      else   if E9 = "java/lang/IllegalArgumentException" then
        Q 2 h9
      else False))
abbrev rm_X0_balance : Room := { frames := 9, cells := 1, slots := 6, locals := 181 }
def f_X0_balance (K : Nat → Option Nat) (a0 : Option Nat) (a1 : Option Nat) (h : zw_H) (Q : Int32 → zw_H → Prop) (X : String → Nat → zw_H → Prop) : Prop :=
  oc_ h a0 [1] (f_X1_balance K a0 h (fun v1 h1 =>
  (vf_n64 (FP.f2d v1) ∧ 
  os_D h1 a1 [4] 0 (FP.f2d v1) (fun h2 =>
  Q 0 h2)))
    (fun E9 q9 h9 =>
      if E9 = "java/lang/IllegalStateException" then
        Q 1 h9
      else False))
abbrev rm_X0_balanceBits : Room := { frames := 10, cells := 1, slots := 6, locals := 201 }
def f_X0_balanceBits (K : Nat → Option Nat) (a0 : Option Nat) (a1 : Option Nat) (h : zw_H) (Q : Int32 → zw_H → Prop) (X : String → Nat → zw_H → Prop) : Prop :=
  oc_ h a0 [1] (f_X1_balanceBits K a0 h (fun v1 h1 =>
  os_J h1 a1 [3] 0 v1.toInt64 (fun h2 =>
  Q 0 h2))
    (fun E9 q9 h9 =>
      if E9 = "java/lang/IllegalStateException" then
        Q 1 h9
      else False))
abbrev rm_X0_meanX : Room := { frames := 9, cells := 1, slots := 6, locals := 183 }
def f_X0_meanX (K : Nat → Option Nat) (a0 : Option Nat) (a1 : Option Nat) (h : zw_H) (Q : Int32 → zw_H → Prop) (X : String → Nat → zw_H → Prop) : Prop :=
  oc_ h a0 [1] (f_X1_meanX K a0 h (fun v1 h1 =>
  os_D h1 a1 [4] 0 v1 (fun h2 =>
  Q 0 h2))
    (fun E9 q9 h9 =>
      if E9 = "java/lang/IllegalStateException" then
        Q 1 h9
      else False))
abbrev rm_X0_writeLeaves : Room := { frames := 22, cells := 35, slots := 19590, locals := 493 }
def f_X0_writeLeaves (K : Nat → Option Nat) (a0 : Option Nat) (a1 : Option Nat) (h : zw_H) (Q : Int32 → zw_H → Prop) (X : String → Nat → zw_H → Prop) : Prop :=
  oc_ h a0 [1] (f_X1_writeLeaves K a0 h (fun v1 h1 =>
  os_J h1 a1 [3] 0 v1.toInt64 (fun h2 =>
  Q 0 h2))
    (fun E9 q9 h9 =>
      if E9 = "java/lang/IllegalStateException" then
        Q 1 h9
      else False))
abbrev rm_X0_writeBodies : Room := { frames := 22, cells := 128, slots := 73158, locals := 490 }
def f_X0_writeBodies (K : Nat → Option Nat) (a0 : Option Nat) (a1 : Option Nat) (h : zw_H) (Q : Int32 → zw_H → Prop) (X : String → Nat → zw_H → Prop) : Prop :=
  oc_ h a0 [1] (f_X1_writeBodies K a0 h (fun v1 h1 =>
  os_J h1 a1 [3] 0 v1.toInt64 (fun h2 =>
  Q 0 h2))
    (fun E9 q9 h9 =>
      if E9 = "java/lang/IllegalStateException" then
        Q 1 h9
      else False))
abbrev rm_X0_writeLine : Room := { frames := 22, cells := 111, slots := 63366, locals := 490 }
def f_X0_writeLine (K : Nat → Option Nat) (a0 : Option Nat) (a1 : Option Nat) (h : zw_H) (Q : Int32 → zw_H → Prop) (X : String → Nat → zw_H → Prop) : Prop :=
  oc_ h a0 [1] (f_X1_writeLine K a0 h (fun v1 h1 =>
  os_J h1 a1 [3] 0 v1.toInt64 (fun h2 =>
  Q 0 h2))
    (fun E9 q9 h9 =>
      if E9 = "java/lang/IllegalStateException" then
        Q 1 h9
      else False))
abbrev rm_X0_writeFar : Room := { frames := 22, cells := 104, slots := 58764, locals := 492 }
def f_X0_writeFar (K : Nat → Option Nat) (a0 : Option Nat) (a1 : Int32) (a2 : Option Nat) (h : zw_H) (Q : Int32 → zw_H → Prop) (X : String → Nat → zw_H → Prop) : Prop :=
  oc_ h a0 [1] (f_X1_writeFar K a0 a1 h (fun v1 h1 =>
  os_J h1 a2 [3] 0 v1.toInt64 (fun h2 =>
  Q 0 h2))
    (fun E9 q9 h9 =>
      if E9 = "java/lang/IllegalStateException" then
        Q 1 h9
      else   if E9 = "java/lang/IllegalArgumentException" then
        Q 2 h9
      else False))
abbrev rm_X0_textByte : Room := { frames := 8, cells := 1, slots := 6, locals := 162 }
def f_X0_textByte (K : Nat → Option Nat) (a0 : Option Nat) (a1 : Int32) (a2 : Option Nat) (h : zw_H) (Q : Int32 → zw_H → Prop) (X : String → Nat → zw_H → Prop) : Prop :=
  oc_ h a0 [1] (f_X1_textByte K a0 a1 h (fun v1 h1 =>
  os_J h1 a2 [3] 0 v1.toInt64 (fun h2 =>
  Q 0 h2))
    (fun E9 q9 h9 =>
      if E9 = "java/lang/IndexOutOfBoundsException" then
        Q 1 h9
      else False))
abbrev rm_X0_add : Room := { frames := 11, cells := 302, slots := 2484, locals := 10317 }
def f_X0_add (K : Nat → Option Nat) (a0 : Option Nat) (a1 : Int32) (a2 : Int32) (a3 : Int32) (a4 : Option Nat) (h : zw_H) (Q : Int32 → zw_H → Prop) (X : String → Nat → zw_H → Prop) : Prop :=
  oc_ h a0 [1] (f_X1_add K a0 a1 a2 a3 h (fun v1 h1 =>
  os_J h1 a4 [3] 0 v1.toInt64 (fun h2 =>
  Q 0 h2))
    (fun E9 q9 h9 =>
      if E9 = "java/lang/IllegalStateException" then
        Q 1 h9
      else   if E9 = "java/lang/IllegalArgumentException" then
        Q 2 h9
      else False))
abbrev rm_X0_move : Room := { frames := 11, cells := 297, slots := 2415, locals := 296 }
def f_X0_move (K : Nat → Option Nat) (a0 : Option Nat) (a1 : Int32) (a2 : Int32) (a3 : Option Nat) (h : zw_H) (Q : Int32 → zw_H → Prop) (X : String → Nat → zw_H → Prop) : Prop :=
  oc_ h a0 [1] (f_X1_move K a0 a1 a2 h (fun v1 h1 =>
  os_J h1 a3 [3] 0 v1.toInt64 (fun h2 =>
  Q 0 h2))
    (fun E9 q9 h9 =>
      if E9 = "java/lang/IllegalStateException" then
        Q 1 h9
      else   if E9 = "java/lang/IndexOutOfBoundsException" then
        Q 2 h9
      else   if E9 = "java/lang/IllegalArgumentException" then
        Q 3 h9
      else False))
abbrev rm_X0_setCharge : Room := { frames := 11, cells := 297, slots := 2415, locals := 296 }
def f_X0_setCharge (K : Nat → Option Nat) (a0 : Option Nat) (a1 : Int32) (a2 : Int32) (a3 : Option Nat) (h : zw_H) (Q : Int32 → zw_H → Prop) (X : String → Nat → zw_H → Prop) : Prop :=
  oc_ h a0 [1] (f_X1_setCharge K a0 a1 a2 h (fun v1 h1 =>
  os_J h1 a3 [3] 0 v1.toInt64 (fun h2 =>
  Q 0 h2))
    (fun E9 q9 h9 =>
      if E9 = "java/lang/IllegalStateException" then
        Q 1 h9
      else   if E9 = "java/lang/IndexOutOfBoundsException" then
        Q 2 h9
      else   if E9 = "java/lang/IllegalArgumentException" then
        Q 3 h9
      else False))
abbrev rm_X0_remove : Room := { frames := 11, cells := 296, slots := 2409, locals := 296 }
def f_X0_remove (K : Nat → Option Nat) (a0 : Option Nat) (a1 : Int32) (a2 : Option Nat) (h : zw_H) (Q : Int32 → zw_H → Prop) (X : String → Nat → zw_H → Prop) : Prop :=
  oc_ h a0 [1] (f_X1_remove K a0 a1 h (fun v1 h1 =>
  os_J h1 a2 [3] 0 v1.toInt64 (fun h2 =>
  Q 0 h2))
    (fun E9 q9 h9 =>
      if E9 = "java/lang/IllegalStateException" then
        Q 1 h9
      else   if E9 = "java/lang/IndexOutOfBoundsException" then
        Q 2 h9
      else False))
abbrev rm_X0_step : Room := { frames := 13, cells := 297, slots := 2415, locals := 300 }
def f_X0_step (K : Nat → Option Nat) (a0 : Option Nat) (a1 : Int32) (a2 : Option Nat) (h : zw_H) (Q : Int32 → zw_H → Prop) (X : String → Nat → zw_H → Prop) : Prop :=
  oc_ h a0 [1] (f_X1_step K a0 a1 h (fun v1 h1 =>
  os_J h1 a2 [3] 0 v1.toInt64 (fun h2 =>
  Q 0 h2))
    (fun E9 q9 h9 =>
      if E9 = "java/lang/IllegalStateException" then
        Q 1 h9
      else   if E9 = "java/lang/IllegalArgumentException" then
        Q 2 h9
      else False))
abbrev rm_X0_setNumber : Room := { frames := 11, cells := 296, slots := 2409, locals := 297 }
def f_X0_setNumber (K : Nat → Option Nat) (a0 : Option Nat) (a1 : Int32) (a2 : Int32) (a3 : Option Nat) (h : zw_H) (Q : Int32 → zw_H → Prop) (X : String → Nat → zw_H → Prop) : Prop :=
  oc_ h a0 [1] (f_X1_setNumber K a0 a1 a2 h (fun v1 h1 =>
  os_J h1 a3 [3] 0 v1.toInt64 (fun h2 =>
  Q 0 h2))
    (fun E9 q9 h9 =>
      if E9 = "java/lang/IllegalStateException" then
        Q 1 h9
      else   if E9 = "java/lang/IllegalArgumentException" then
        Q 2 h9
      else False))
abbrev rm_X0_undo : Room := { frames := 8, cells := 1, slots := 6, locals := 160 }
def f_X0_undo (K : Nat → Option Nat) (a0 : Option Nat) (a1 : Option Nat) (h : zw_H) (Q : Int32 → zw_H → Prop) (X : String → Nat → zw_H → Prop) : Prop :=
  oc_ h a0 [1] (f_X1_undo K a0 h (fun v1 h1 =>
  os_J h1 a1 [3] 0 v1.toInt64 (fun h2 =>
  Q 0 h2))
    (fun E9 q9 h9 =>
      if E9 = "java/lang/IllegalStateException" then
        Q 1 h9
      else False))
abbrev rm_X0_save : Room := { frames := 10, cells := 295, slots := 2369, locals := 275 }
def f_X0_save (K : Nat → Option Nat) (a0 : Option Nat) (a1 : Int32) (a2 : Option Nat) (h : zw_H) (Q : Int32 → zw_H → Prop) (X : String → Nat → zw_H → Prop) : Prop :=
  oc_ h a0 [1] (f_X1_save K a0 a1 h (fun v1 h1 =>
  os_J h1 a2 [3] 0 v1.toInt64 (fun h2 =>
  Q 0 h2))
    (fun E9 q9 h9 =>
      if E9 = "java/lang/IllegalStateException" then
        Q 1 h9
      else   if E9 = "java/lang/IndexOutOfBoundsException" then
        Q 2 h9
      else False))
abbrev rm_X0_restore : Room := { frames := 10, cells := 295, slots := 2369, locals := 274 }
def f_X0_restore (K : Nat → Option Nat) (a0 : Option Nat) (a1 : Int32) (a2 : Option Nat) (h : zw_H) (Q : Int32 → zw_H → Prop) (X : String → Nat → zw_H → Prop) : Prop :=
  oc_ h a0 [1] (f_X1_restore K a0 a1 h (fun v1 h1 =>
  os_J h1 a2 [3] 0 v1.toInt64 (fun h2 =>
  Q 0 h2))
    (fun E9 q9 h9 =>
      if E9 = "java/lang/IndexOutOfBoundsException" then
        Q 1 h9
      else   if E9 = "java/lang/IllegalStateException" then
        Q 2 h9
      else False))
