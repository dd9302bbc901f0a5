set_option maxRecDepth 100000
/-! the reference: its state as an overlay of fourteen cells -/
/-- scalars by field, arrays of int, byte, boolean by field, the longs, arrays of double by field -/
abbrev zM : Type := (Nat → Int32) × (Nat → Nat → Int32) × (Nat → Int64) × (Nat → Nat → UInt64)
def zS (w : zM) (k : Nat) (v : Int32) : zM := (upd w.1 k v, w.2)
def zAI (w : zM) (k : Nat) (f : Nat → Int32) : zM := (w.1, (fun j => if j = k then f else w.2.1 j), w.2.2)
def zAJ (w : zM) (k : Nat) (f : Nat → Int64) : zM := (w.1, w.2.1, f, w.2.2.2)
def zAD (w : zM) (k : Nat) (f : Nat → UInt64) : zM := (w.1, w.2.1, w.2.2.1, fun j => if j = k then f else w.2.2.2 j)
def zm_f (m : Nat → Nat) (w : zM) : List Value := [.int (w.1 0), .ref (m 1), .ref (m 2), .ref (m 3), .ref (m 4), .ref (m 5), .int (w.1 6), .int (w.1 7), .ref (m 8), .int (w.1 9), .int (w.1 10), .int (w.1 11), .int (w.1 12), .int (w.1 13), .int (w.1 14), .int (w.1 15), .int (w.1 16), .ref (m 17), .ref (m 18), .ref (m 19), .int (w.1 20), .ref (m 21), .ref (m 22), .ref (m 23), .ref (m 24), .int (w.1 25)]
def zm_o (m : Nat → Nat) (w : zM) (h : zw_H) : zw_H := fun q => if q = m 0 then some (.inr (0, zm_f m w)) else if q = m 1 then some (.inl (0, 103, .inl (w.2.1 1))) else if q = m 2 then some (.inl (0, 103, .inl (w.2.1 2))) else if q = m 3 then some (.inl (0, 824, .inl (w.2.1 3))) else if q = m 4 then some (.inl (0, 206, .inl (w.2.1 4))) else if q = m 5 then some (.inl (2, 2, .inl (w.2.1 5))) else if q = m 8 then some (.inl (1, 500, .inl (w.2.1 8))) else if q = m 17 then some (.inl (3, 315, .inr (.inl (w.2.2.1)))) else if q = m 18 then some (.inl (0, 30, .inl (w.2.1 18))) else if q = m 19 then some (.inl (0, 30, .inl (w.2.1 19))) else if q = m 21 then some (.inl (4, 5, .inr (.inr (.inr (.inl (w.2.2.2 21)))))) else if q = m 22 then some (.inl (4, 5, .inr (.inr (.inr (.inl (w.2.2.2 22)))))) else if q = m 23 then some (.inl (0, 24, .inl (w.2.1 23))) else if q = m 24 then some (.inl (1, 480, .inl (w.2.1 24))) else h q
/-- the fourteen addresses differ -/
def zm_d (m : Nat → Nat) : Prop := m 0 ≠ m 1 ∧ m 0 ≠ m 2 ∧ m 0 ≠ m 3 ∧ m 0 ≠ m 4 ∧ m 0 ≠ m 5 ∧ m 0 ≠ m 8 ∧ m 0 ≠ m 17 ∧ m 0 ≠ m 18 ∧ m 0 ≠ m 19 ∧ m 0 ≠ m 21 ∧ m 0 ≠ m 22 ∧ m 0 ≠ m 23 ∧ m 0 ≠ m 24 ∧ m 1 ≠ m 2 ∧ m 1 ≠ m 3 ∧ m 1 ≠ m 4 ∧ m 1 ≠ m 5 ∧ m 1 ≠ m 8 ∧ m 1 ≠ m 17 ∧ m 1 ≠ m 18 ∧ m 1 ≠ m 19 ∧ m 1 ≠ m 21 ∧ m 1 ≠ m 22 ∧ m 1 ≠ m 23 ∧ m 1 ≠ m 24 ∧ m 2 ≠ m 3 ∧ m 2 ≠ m 4 ∧ m 2 ≠ m 5 ∧ m 2 ≠ m 8 ∧ m 2 ≠ m 17 ∧ m 2 ≠ m 18 ∧ m 2 ≠ m 19 ∧ m 2 ≠ m 21 ∧ m 2 ≠ m 22 ∧ m 2 ≠ m 23 ∧ m 2 ≠ m 24 ∧ m 3 ≠ m 4 ∧ m 3 ≠ m 5 ∧ m 3 ≠ m 8 ∧ m 3 ≠ m 17 ∧ m 3 ≠ m 18 ∧ m 3 ≠ m 19 ∧ m 3 ≠ m 21 ∧ m 3 ≠ m 22 ∧ m 3 ≠ m 23 ∧ m 3 ≠ m 24 ∧ m 4 ≠ m 5 ∧ m 4 ≠ m 8 ∧ m 4 ≠ m 17 ∧ m 4 ≠ m 18 ∧ m 4 ≠ m 19 ∧ m 4 ≠ m 21 ∧ m 4 ≠ m 22 ∧ m 4 ≠ m 23 ∧ m 4 ≠ m 24 ∧ m 5 ≠ m 8 ∧ m 5 ≠ m 17 ∧ m 5 ≠ m 18 ∧ m 5 ≠ m 19 ∧ m 5 ≠ m 21 ∧ m 5 ≠ m 22 ∧ m 5 ≠ m 23 ∧ m 5 ≠ m 24 ∧ m 8 ≠ m 17 ∧ m 8 ≠ m 18 ∧ m 8 ≠ m 19 ∧ m 8 ≠ m 21 ∧ m 8 ≠ m 22 ∧ m 8 ≠ m 23 ∧ m 8 ≠ m 24 ∧ m 17 ≠ m 18 ∧ m 17 ≠ m 19 ∧ m 17 ≠ m 21 ∧ m 17 ≠ m 22 ∧ m 17 ≠ m 23 ∧ m 17 ≠ m 24 ∧ m 18 ≠ m 19 ∧ m 18 ≠ m 21 ∧ m 18 ≠ m 22 ∧ m 18 ≠ m 23 ∧ m 18 ≠ m 24 ∧ m 19 ≠ m 21 ∧ m 19 ≠ m 22 ∧ m 19 ≠ m 23 ∧ m 19 ≠ m 24 ∧ m 21 ≠ m 22 ∧ m 21 ≠ m 23 ∧ m 21 ≠ m 24 ∧ m 22 ≠ m 23 ∧ m 22 ≠ m 24 ∧ m 23 ≠ m 24
section ZMO
variable {m : Nat → Nat} {w : zM} {h : zw_H}
theorem zm_o0 (d : zm_d m) : zm_o m w h (m 0) = some (.inr (0, zm_f m w)) := by
  unfold zm_o
  rw [if_pos rfl]
theorem zm_o1 (d : zm_d m) : zm_o m w h (m 1) = some (.inl (0, 103, .inl (w.2.1 1))) := by
  unfold zm_o
  rw [if_neg (Ne.symm (d.1)), if_pos rfl]
theorem zm_o2 (d : zm_d m) : zm_o m w h (m 2) = some (.inl (0, 103, .inl (w.2.1 2))) := by
  unfold zm_o
  rw [if_neg (Ne.symm (d.2.1)), if_neg (Ne.symm (d.2.2.2.2.2.2.2.2.2.2.2.2.2.1)), if_pos rfl]
theorem zm_o3 (d : zm_d m) : zm_o m w h (m 3) = some (.inl (0, 824, .inl (w.2.1 3))) := by
  unfold zm_o
  rw [if_neg (Ne.symm (d.2.2.1)), if_neg (Ne.symm (d.2.2.2.2.2.2.2.2.2.2.2.2.2.2.1)), if_neg (Ne.symm (d.2.2.2.2.2.2.2.2.2.2.2.2.2.2.2.2.2.2.2.2.2.2.2.2.2.1)), if_pos rfl]
theorem zm_o4 (d : zm_d m) : zm_o m w h (m 4) = some (.inl (0, 206, .inl (w.2.1 4))) := by
  unfold zm_o
  rw [if_neg (Ne.symm (d.2.2.2.1)), if_neg (Ne.symm (d.2.2.2.2.2.2.2.2.2.2.2.2.2.2.2.1)), if_neg (Ne.symm (d.2.2.2.2.2.2.2.2.2.2.2.2.2.2.2.2.2.2.2.2.2.2.2.2.2.2.1)), if_neg (Ne.symm (d.2.2.2.2.2.2.2.2.2.2.2.2.2.2.2.2.2.2.2.2.2.2.2.2.2.2.2.2.2.2.2.2.2.2.2.2.1)), if_pos rfl]
theorem zm_o5 (d : zm_d m) : zm_o m w h (m 5) = some (.inl (2, 2, .inl (w.2.1 5))) := by
  unfold zm_o
  rw [if_neg (Ne.symm (d.2.2.2.2.1)), if_neg (Ne.symm (d.2.2.2.2.2.2.2.2.2.2.2.2.2.2.2.2.1)), if_neg (Ne.symm (d.2.2.2.2.2.2.2.2.2.2.2.2.2.2.2.2.2.2.2.2.2.2.2.2.2.2.2.1)), if_neg (Ne.symm (d.2.2.2.2.2.2.2.2.2.2.2.2.2.2.2.2.2.2.2.2.2.2.2.2.2.2.2.2.2.2.2.2.2.2.2.2.2.1)), if_neg (Ne.symm (d.2.2.2.2.2.2.2.2.2.2.2.2.2.2.2.2.2.2.2.2.2.2.2.2.2.2.2.2.2.2.2.2.2.2.2.2.2.2.2.2.2.2.2.2.2.2.1)), if_pos rfl]
theorem zm_o8 (d : zm_d m) : zm_o m w h (m 8) = some (.inl (1, 500, .inl (w.2.1 8))) := by
  unfold zm_o
  rw [if_neg (Ne.symm (d.2.2.2.2.2.1)), if_neg (Ne.symm (d.2.2.2.2.2.2.2.2.2.2.2.2.2.2.2.2.2.1)), if_neg (Ne.symm (d.2.2.2.2.2.2.2.2.2.2.2.2.2.2.2.2.2.2.2.2.2.2.2.2.2.2.2.2.1)), if_neg (Ne.symm (d.2.2.2.2.2.2.2.2.2.2.2.2.2.2.2.2.2.2.2.2.2.2.2.2.2.2.2.2.2.2.2.2.2.2.2.2.2.2.1)), if_neg (Ne.symm (d.2.2.2.2.2.2.2.2.2.2.2.2.2.2.2.2.2.2.2.2.2.2.2.2.2.2.2.2.2.2.2.2.2.2.2.2.2.2.2.2.2.2.2.2.2.2.2.1)), if_neg (Ne.symm (d.2.2.2.2.2.2.2.2.2.2.2.2.2.2.2.2.2.2.2.2.2.2.2.2.2.2.2.2.2.2.2.2.2.2.2.2.2.2.2.2.2.2.2.2.2.2.2.2.2.2.2.2.2.2.2.1)), if_pos rfl]
theorem zm_o17 (d : zm_d m) : zm_o m w h (m 17) = some (.inl (3, 315, .inr (.inl (w.2.2.1)))) := by
  unfold zm_o
  rw [if_neg (Ne.symm (d.2.2.2.2.2.2.1)), if_neg (Ne.symm (d.2.2.2.2.2.2.2.2.2.2.2.2.2.2.2.2.2.2.1)), if_neg (Ne.symm (d.2.2.2.2.2.2.2.2.2.2.2.2.2.2.2.2.2.2.2.2.2.2.2.2.2.2.2.2.2.1)), if_neg (Ne.symm (d.2.2.2.2.2.2.2.2.2.2.2.2.2.2.2.2.2.2.2.2.2.2.2.2.2.2.2.2.2.2.2.2.2.2.2.2.2.2.2.1)), if_neg (Ne.symm (d.2.2.2.2.2.2.2.2.2.2.2.2.2.2.2.2.2.2.2.2.2.2.2.2.2.2.2.2.2.2.2.2.2.2.2.2.2.2.2.2.2.2.2.2.2.2.2.2.1)), if_neg (Ne.symm (d.2.2.2.2.2.2.2.2.2.2.2.2.2.2.2.2.2.2.2.2.2.2.2.2.2.2.2.2.2.2.2.2.2.2.2.2.2.2.2.2.2.2.2.2.2.2.2.2.2.2.2.2.2.2.2.2.1)), if_neg (Ne.symm (d.2.2.2.2.2.2.2.2.2.2.2.2.2.2.2.2.2.2.2.2.2.2.2.2.2.2.2.2.2.2.2.2.2.2.2.2.2.2.2.2.2.2.2.2.2.2.2.2.2.2.2.2.2.2.2.2.2.2.2.2.2.2.2.1)), if_pos rfl]
theorem zm_o18 (d : zm_d m) : zm_o m w h (m 18) = some (.inl (0, 30, .inl (w.2.1 18))) := by
  unfold zm_o
  rw [if_neg (Ne.symm (d.2.2.2.2.2.2.2.1)), if_neg (Ne.symm (d.2.2.2.2.2.2.2.2.2.2.2.2.2.2.2.2.2.2.2.1)), if_neg (Ne.symm (d.2.2.2.2.2.2.2.2.2.2.2.2.2.2.2.2.2.2.2.2.2.2.2.2.2.2.2.2.2.2.1)), if_neg (Ne.symm (d.2.2.2.2.2.2.2.2.2.2.2.2.2.2.2.2.2.2.2.2.2.2.2.2.2.2.2.2.2.2.2.2.2.2.2.2.2.2.2.2.1)), if_neg (Ne.symm (d.2.2.2.2.2.2.2.2.2.2.2.2.2.2.2.2.2.2.2.2.2.2.2.2.2.2.2.2.2.2.2.2.2.2.2.2.2.2.2.2.2.2.2.2.2.2.2.2.2.1)), if_neg (Ne.symm (d.2.2.2.2.2.2.2.2.2.2.2.2.2.2.2.2.2.2.2.2.2.2.2.2.2.2.2.2.2.2.2.2.2.2.2.2.2.2.2.2.2.2.2.2.2.2.2.2.2.2.2.2.2.2.2.2.2.1)), if_neg (Ne.symm (d.2.2.2.2.2.2.2.2.2.2.2.2.2.2.2.2.2.2.2.2.2.2.2.2.2.2.2.2.2.2.2.2.2.2.2.2.2.2.2.2.2.2.2.2.2.2.2.2.2.2.2.2.2.2.2.2.2.2.2.2.2.2.2.2.1)), if_neg (Ne.symm (d.2.2.2.2.2.2.2.2.2.2.2.2.2.2.2.2.2.2.2.2.2.2.2.2.2.2.2.2.2.2.2.2.2.2.2.2.2.2.2.2.2.2.2.2.2.2.2.2.2.2.2.2.2.2.2.2.2.2.2.2.2.2.2.2.2.2.2.2.2.2.1)), if_pos rfl]
theorem zm_o19 (d : zm_d m) : zm_o m w h (m 19) = some (.inl (0, 30, .inl (w.2.1 19))) := by
  unfold zm_o
  rw [if_neg (Ne.symm (d.2.2.2.2.2.2.2.2.1)), if_neg (Ne.symm (d.2.2.2.2.2.2.2.2.2.2.2.2.2.2.2.2.2.2.2.2.1)), if_neg (Ne.symm (d.2.2.2.2.2.2.2.2.2.2.2.2.2.2.2.2.2.2.2.2.2.2.2.2.2.2.2.2.2.2.2.1)), if_neg (Ne.symm (d.2.2.2.2.2.2.2.2.2.2.2.2.2.2.2.2.2.2.2.2.2.2.2.2.2.2.2.2.2.2.2.2.2.2.2.2.2.2.2.2.2.1)), if_neg (Ne.symm (d.2.2.2.2.2.2.2.2.2.2.2.2.2.2.2.2.2.2.2.2.2.2.2.2.2.2.2.2.2.2.2.2.2.2.2.2.2.2.2.2.2.2.2.2.2.2.2.2.2.2.1)), if_neg (Ne.symm (d.2.2.2.2.2.2.2.2.2.2.2.2.2.2.2.2.2.2.2.2.2.2.2.2.2.2.2.2.2.2.2.2.2.2.2.2.2.2.2.2.2.2.2.2.2.2.2.2.2.2.2.2.2.2.2.2.2.2.1)), if_neg (Ne.symm (d.2.2.2.2.2.2.2.2.2.2.2.2.2.2.2.2.2.2.2.2.2.2.2.2.2.2.2.2.2.2.2.2.2.2.2.2.2.2.2.2.2.2.2.2.2.2.2.2.2.2.2.2.2.2.2.2.2.2.2.2.2.2.2.2.2.1)), if_neg (Ne.symm (d.2.2.2.2.2.2.2.2.2.2.2.2.2.2.2.2.2.2.2.2.2.2.2.2.2.2.2.2.2.2.2.2.2.2.2.2.2.2.2.2.2.2.2.2.2.2.2.2.2.2.2.2.2.2.2.2.2.2.2.2.2.2.2.2.2.2.2.2.2.2.2.1)), if_neg (Ne.symm (d.2.2.2.2.2.2.2.2.2.2.2.2.2.2.2.2.2.2.2.2.2.2.2.2.2.2.2.2.2.2.2.2.2.2.2.2.2.2.2.2.2.2.2.2.2.2.2.2.2.2.2.2.2.2.2.2.2.2.2.2.2.2.2.2.2.2.2.2.2.2.2.2.2.2.2.2.1)), if_pos rfl]
theorem zm_o21 (d : zm_d m) : zm_o m w h (m 21) = some (.inl (4, 5, .inr (.inr (.inr (.inl (w.2.2.2 21)))))) := by
  unfold zm_o
  rw [if_neg (Ne.symm (d.2.2.2.2.2.2.2.2.2.1)), if_neg (Ne.symm (d.2.2.2.2.2.2.2.2.2.2.2.2.2.2.2.2.2.2.2.2.2.1)), if_neg (Ne.symm (d.2.2.2.2.2.2.2.2.2.2.2.2.2.2.2.2.2.2.2.2.2.2.2.2.2.2.2.2.2.2.2.2.1)), if_neg (Ne.symm (d.2.2.2.2.2.2.2.2.2.2.2.2.2.2.2.2.2.2.2.2.2.2.2.2.2.2.2.2.2.2.2.2.2.2.2.2.2.2.2.2.2.2.1)), if_neg (Ne.symm (d.2.2.2.2.2.2.2.2.2.2.2.2.2.2.2.2.2.2.2.2.2.2.2.2.2.2.2.2.2.2.2.2.2.2.2.2.2.2.2.2.2.2.2.2.2.2.2.2.2.2.2.1)), if_neg (Ne.symm (d.2.2.2.2.2.2.2.2.2.2.2.2.2.2.2.2.2.2.2.2.2.2.2.2.2.2.2.2.2.2.2.2.2.2.2.2.2.2.2.2.2.2.2.2.2.2.2.2.2.2.2.2.2.2.2.2.2.2.2.1)), if_neg (Ne.symm (d.2.2.2.2.2.2.2.2.2.2.2.2.2.2.2.2.2.2.2.2.2.2.2.2.2.2.2.2.2.2.2.2.2.2.2.2.2.2.2.2.2.2.2.2.2.2.2.2.2.2.2.2.2.2.2.2.2.2.2.2.2.2.2.2.2.2.1)), if_neg (Ne.symm (d.2.2.2.2.2.2.2.2.2.2.2.2.2.2.2.2.2.2.2.2.2.2.2.2.2.2.2.2.2.2.2.2.2.2.2.2.2.2.2.2.2.2.2.2.2.2.2.2.2.2.2.2.2.2.2.2.2.2.2.2.2.2.2.2.2.2.2.2.2.2.2.2.1)), if_neg (Ne.symm (d.2.2.2.2.2.2.2.2.2.2.2.2.2.2.2.2.2.2.2.2.2.2.2.2.2.2.2.2.2.2.2.2.2.2.2.2.2.2.2.2.2.2.2.2.2.2.2.2.2.2.2.2.2.2.2.2.2.2.2.2.2.2.2.2.2.2.2.2.2.2.2.2.2.2.2.2.2.1)), if_neg (Ne.symm (d.2.2.2.2.2.2.2.2.2.2.2.2.2.2.2.2.2.2.2.2.2.2.2.2.2.2.2.2.2.2.2.2.2.2.2.2.2.2.2.2.2.2.2.2.2.2.2.2.2.2.2.2.2.2.2.2.2.2.2.2.2.2.2.2.2.2.2.2.2.2.2.2.2.2.2.2.2.2.2.2.2.1)), if_pos rfl]
theorem zm_o22 (d : zm_d m) : zm_o m w h (m 22) = some (.inl (4, 5, .inr (.inr (.inr (.inl (w.2.2.2 22)))))) := by
  unfold zm_o
  rw [if_neg (Ne.symm (d.2.2.2.2.2.2.2.2.2.2.1)), if_neg (Ne.symm (d.2.2.2.2.2.2.2.2.2.2.2.2.2.2.2.2.2.2.2.2.2.2.1)), if_neg (Ne.symm (d.2.2.2.2.2.2.2.2.2.2.2.2.2.2.2.2.2.2.2.2.2.2.2.2.2.2.2.2.2.2.2.2.2.1)), if_neg (Ne.symm (d.2.2.2.2.2.2.2.2.2.2.2.2.2.2.2.2.2.2.2.2.2.2.2.2.2.2.2.2.2.2.2.2.2.2.2.2.2.2.2.2.2.2.2.1)), if_neg (Ne.symm (d.2.2.2.2.2.2.2.2.2.2.2.2.2.2.2.2.2.2.2.2.2.2.2.2.2.2.2.2.2.2.2.2.2.2.2.2.2.2.2.2.2.2.2.2.2.2.2.2.2.2.2.2.1)), if_neg (Ne.symm (d.2.2.2.2.2.2.2.2.2.2.2.2.2.2.2.2.2.2.2.2.2.2.2.2.2.2.2.2.2.2.2.2.2.2.2.2.2.2.2.2.2.2.2.2.2.2.2.2.2.2.2.2.2.2.2.2.2.2.2.2.1)), if_neg (Ne.symm (d.2.2.2.2.2.2.2.2.2.2.2.2.2.2.2.2.2.2.2.2.2.2.2.2.2.2.2.2.2.2.2.2.2.2.2.2.2.2.2.2.2.2.2.2.2.2.2.2.2.2.2.2.2.2.2.2.2.2.2.2.2.2.2.2.2.2.2.1)), if_neg (Ne.symm (d.2.2.2.2.2.2.2.2.2.2.2.2.2.2.2.2.2.2.2.2.2.2.2.2.2.2.2.2.2.2.2.2.2.2.2.2.2.2.2.2.2.2.2.2.2.2.2.2.2.2.2.2.2.2.2.2.2.2.2.2.2.2.2.2.2.2.2.2.2.2.2.2.2.1)), if_neg (Ne.symm (d.2.2.2.2.2.2.2.2.2.2.2.2.2.2.2.2.2.2.2.2.2.2.2.2.2.2.2.2.2.2.2.2.2.2.2.2.2.2.2.2.2.2.2.2.2.2.2.2.2.2.2.2.2.2.2.2.2.2.2.2.2.2.2.2.2.2.2.2.2.2.2.2.2.2.2.2.2.2.1)), if_neg (Ne.symm (d.2.2.2.2.2.2.2.2.2.2.2.2.2.2.2.2.2.2.2.2.2.2.2.2.2.2.2.2.2.2.2.2.2.2.2.2.2.2.2.2.2.2.2.2.2.2.2.2.2.2.2.2.2.2.2.2.2.2.2.2.2.2.2.2.2.2.2.2.2.2.2.2.2.2.2.2.2.2.2.2.2.2.1)), if_neg (Ne.symm (d.2.2.2.2.2.2.2.2.2.2.2.2.2.2.2.2.2.2.2.2.2.2.2.2.2.2.2.2.2.2.2.2.2.2.2.2.2.2.2.2.2.2.2.2.2.2.2.2.2.2.2.2.2.2.2.2.2.2.2.2.2.2.2.2.2.2.2.2.2.2.2.2.2.2.2.2.2.2.2.2.2.2.2.2.2.1)), if_pos rfl]
theorem zm_o23 (d : zm_d m) : zm_o m w h (m 23) = some (.inl (0, 24, .inl (w.2.1 23))) := by
  unfold zm_o
  rw [if_neg (Ne.symm (d.2.2.2.2.2.2.2.2.2.2.2.1)), if_neg (Ne.symm (d.2.2.2.2.2.2.2.2.2.2.2.2.2.2.2.2.2.2.2.2.2.2.2.1)), if_neg (Ne.symm (d.2.2.2.2.2.2.2.2.2.2.2.2.2.2.2.2.2.2.2.2.2.2.2.2.2.2.2.2.2.2.2.2.2.2.1)), if_neg (Ne.symm (d.2.2.2.2.2.2.2.2.2.2.2.2.2.2.2.2.2.2.2.2.2.2.2.2.2.2.2.2.2.2.2.2.2.2.2.2.2.2.2.2.2.2.2.2.1)), if_neg (Ne.symm (d.2.2.2.2.2.2.2.2.2.2.2.2.2.2.2.2.2.2.2.2.2.2.2.2.2.2.2.2.2.2.2.2.2.2.2.2.2.2.2.2.2.2.2.2.2.2.2.2.2.2.2.2.2.1)), if_neg (Ne.symm (d.2.2.2.2.2.2.2.2.2.2.2.2.2.2.2.2.2.2.2.2.2.2.2.2.2.2.2.2.2.2.2.2.2.2.2.2.2.2.2.2.2.2.2.2.2.2.2.2.2.2.2.2.2.2.2.2.2.2.2.2.2.1)), if_neg (Ne.symm (d.2.2.2.2.2.2.2.2.2.2.2.2.2.2.2.2.2.2.2.2.2.2.2.2.2.2.2.2.2.2.2.2.2.2.2.2.2.2.2.2.2.2.2.2.2.2.2.2.2.2.2.2.2.2.2.2.2.2.2.2.2.2.2.2.2.2.2.2.1)), if_neg (Ne.symm (d.2.2.2.2.2.2.2.2.2.2.2.2.2.2.2.2.2.2.2.2.2.2.2.2.2.2.2.2.2.2.2.2.2.2.2.2.2.2.2.2.2.2.2.2.2.2.2.2.2.2.2.2.2.2.2.2.2.2.2.2.2.2.2.2.2.2.2.2.2.2.2.2.2.2.1)), if_neg (Ne.symm (d.2.2.2.2.2.2.2.2.2.2.2.2.2.2.2.2.2.2.2.2.2.2.2.2.2.2.2.2.2.2.2.2.2.2.2.2.2.2.2.2.2.2.2.2.2.2.2.2.2.2.2.2.2.2.2.2.2.2.2.2.2.2.2.2.2.2.2.2.2.2.2.2.2.2.2.2.2.2.2.1)), if_neg (Ne.symm (d.2.2.2.2.2.2.2.2.2.2.2.2.2.2.2.2.2.2.2.2.2.2.2.2.2.2.2.2.2.2.2.2.2.2.2.2.2.2.2.2.2.2.2.2.2.2.2.2.2.2.2.2.2.2.2.2.2.2.2.2.2.2.2.2.2.2.2.2.2.2.2.2.2.2.2.2.2.2.2.2.2.2.2.1)), if_neg (Ne.symm (d.2.2.2.2.2.2.2.2.2.2.2.2.2.2.2.2.2.2.2.2.2.2.2.2.2.2.2.2.2.2.2.2.2.2.2.2.2.2.2.2.2.2.2.2.2.2.2.2.2.2.2.2.2.2.2.2.2.2.2.2.2.2.2.2.2.2.2.2.2.2.2.2.2.2.2.2.2.2.2.2.2.2.2.2.2.2.1)), if_neg (Ne.symm (d.2.2.2.2.2.2.2.2.2.2.2.2.2.2.2.2.2.2.2.2.2.2.2.2.2.2.2.2.2.2.2.2.2.2.2.2.2.2.2.2.2.2.2.2.2.2.2.2.2.2.2.2.2.2.2.2.2.2.2.2.2.2.2.2.2.2.2.2.2.2.2.2.2.2.2.2.2.2.2.2.2.2.2.2.2.2.2.2.1)), if_pos rfl]
theorem zm_o24 (d : zm_d m) : zm_o m w h (m 24) = some (.inl (1, 480, .inl (w.2.1 24))) := by
  unfold zm_o
  rw [if_neg (Ne.symm (d.2.2.2.2.2.2.2.2.2.2.2.2.1)), if_neg (Ne.symm (d.2.2.2.2.2.2.2.2.2.2.2.2.2.2.2.2.2.2.2.2.2.2.2.2.1)), if_neg (Ne.symm (d.2.2.2.2.2.2.2.2.2.2.2.2.2.2.2.2.2.2.2.2.2.2.2.2.2.2.2.2.2.2.2.2.2.2.2.1)), if_neg (Ne.symm (d.2.2.2.2.2.2.2.2.2.2.2.2.2.2.2.2.2.2.2.2.2.2.2.2.2.2.2.2.2.2.2.2.2.2.2.2.2.2.2.2.2.2.2.2.2.1)), if_neg (Ne.symm (d.2.2.2.2.2.2.2.2.2.2.2.2.2.2.2.2.2.2.2.2.2.2.2.2.2.2.2.2.2.2.2.2.2.2.2.2.2.2.2.2.2.2.2.2.2.2.2.2.2.2.2.2.2.2.1)), if_neg (Ne.symm (d.2.2.2.2.2.2.2.2.2.2.2.2.2.2.2.2.2.2.2.2.2.2.2.2.2.2.2.2.2.2.2.2.2.2.2.2.2.2.2.2.2.2.2.2.2.2.2.2.2.2.2.2.2.2.2.2.2.2.2.2.2.2.1)), if_neg (Ne.symm (d.2.2.2.2.2.2.2.2.2.2.2.2.2.2.2.2.2.2.2.2.2.2.2.2.2.2.2.2.2.2.2.2.2.2.2.2.2.2.2.2.2.2.2.2.2.2.2.2.2.2.2.2.2.2.2.2.2.2.2.2.2.2.2.2.2.2.2.2.2.1)), if_neg (Ne.symm (d.2.2.2.2.2.2.2.2.2.2.2.2.2.2.2.2.2.2.2.2.2.2.2.2.2.2.2.2.2.2.2.2.2.2.2.2.2.2.2.2.2.2.2.2.2.2.2.2.2.2.2.2.2.2.2.2.2.2.2.2.2.2.2.2.2.2.2.2.2.2.2.2.2.2.2.1)), if_neg (Ne.symm (d.2.2.2.2.2.2.2.2.2.2.2.2.2.2.2.2.2.2.2.2.2.2.2.2.2.2.2.2.2.2.2.2.2.2.2.2.2.2.2.2.2.2.2.2.2.2.2.2.2.2.2.2.2.2.2.2.2.2.2.2.2.2.2.2.2.2.2.2.2.2.2.2.2.2.2.2.2.2.2.2.1)), if_neg (Ne.symm (d.2.2.2.2.2.2.2.2.2.2.2.2.2.2.2.2.2.2.2.2.2.2.2.2.2.2.2.2.2.2.2.2.2.2.2.2.2.2.2.2.2.2.2.2.2.2.2.2.2.2.2.2.2.2.2.2.2.2.2.2.2.2.2.2.2.2.2.2.2.2.2.2.2.2.2.2.2.2.2.2.2.2.2.2.1)), if_neg (Ne.symm (d.2.2.2.2.2.2.2.2.2.2.2.2.2.2.2.2.2.2.2.2.2.2.2.2.2.2.2.2.2.2.2.2.2.2.2.2.2.2.2.2.2.2.2.2.2.2.2.2.2.2.2.2.2.2.2.2.2.2.2.2.2.2.2.2.2.2.2.2.2.2.2.2.2.2.2.2.2.2.2.2.2.2.2.2.2.2.2.1)), if_neg (Ne.symm (d.2.2.2.2.2.2.2.2.2.2.2.2.2.2.2.2.2.2.2.2.2.2.2.2.2.2.2.2.2.2.2.2.2.2.2.2.2.2.2.2.2.2.2.2.2.2.2.2.2.2.2.2.2.2.2.2.2.2.2.2.2.2.2.2.2.2.2.2.2.2.2.2.2.2.2.2.2.2.2.2.2.2.2.2.2.2.2.2.2.1)), if_neg (Ne.symm (d.2.2.2.2.2.2.2.2.2.2.2.2.2.2.2.2.2.2.2.2.2.2.2.2.2.2.2.2.2.2.2.2.2.2.2.2.2.2.2.2.2.2.2.2.2.2.2.2.2.2.2.2.2.2.2.2.2.2.2.2.2.2.2.2.2.2.2.2.2.2.2.2.2.2.2.2.2.2.2.2.2.2.2.2.2.2.2.2.2.2)), if_pos rfl]
theorem zm_up {a : Nat} {x : zw_C} {w2 : zM} (h1 : zm_o m w2 h a = some x) (h2 : ∀ q, q ≠ a → zm_o m w2 h q = zm_o m w h q) : zw_up (zm_o m w h) a x = zm_o m w2 h := by
  funext q
  unfold zw_up
  by_cases e : q = a
  · rw [if_pos e, e, h1]
  · rw [if_neg e, h2 q e]
theorem zm_u1 (d : zm_d m) (f : Nat → Int32) : zw_up (zm_o m w h) (m 1) (.inl (0, 103, .inl f)) = zm_o m (zAI w 1 f) h := by
  refine zm_up (zm_o1 d) (fun q hq => ?_)
  unfold zm_o
  simp only [if_neg hq]
  rfl
theorem zm_u2 (d : zm_d m) (f : Nat → Int32) : zw_up (zm_o m w h) (m 2) (.inl (0, 103, .inl f)) = zm_o m (zAI w 2 f) h := by
  refine zm_up (zm_o2 d) (fun q hq => ?_)
  unfold zm_o
  simp only [if_neg hq]
  rfl
theorem zm_u3 (d : zm_d m) (f : Nat → Int32) : zw_up (zm_o m w h) (m 3) (.inl (0, 824, .inl f)) = zm_o m (zAI w 3 f) h := by
  refine zm_up (zm_o3 d) (fun q hq => ?_)
  unfold zm_o
  simp only [if_neg hq]
  rfl
theorem zm_u4 (d : zm_d m) (f : Nat → Int32) : zw_up (zm_o m w h) (m 4) (.inl (0, 206, .inl f)) = zm_o m (zAI w 4 f) h := by
  refine zm_up (zm_o4 d) (fun q hq => ?_)
  unfold zm_o
  simp only [if_neg hq]
  rfl
theorem zm_u5 (d : zm_d m) (f : Nat → Int32) : zw_up (zm_o m w h) (m 5) (.inl (2, 2, .inl f)) = zm_o m (zAI w 5 f) h := by
  refine zm_up (zm_o5 d) (fun q hq => ?_)
  unfold zm_o
  simp only [if_neg hq]
  rfl
theorem zm_u8 (d : zm_d m) (f : Nat → Int32) : zw_up (zm_o m w h) (m 8) (.inl (1, 500, .inl f)) = zm_o m (zAI w 8 f) h := by
  refine zm_up (zm_o8 d) (fun q hq => ?_)
  unfold zm_o
  simp only [if_neg hq]
  rfl
theorem zm_u17 (d : zm_d m) (f : Nat → Int64) : zw_up (zm_o m w h) (m 17) (.inl (3, 315, .inr (.inl f))) = zm_o m (zAJ w 17 f) h := by
  refine zm_up (zm_o17 d) (fun q hq => ?_)
  unfold zm_o
  simp only [if_neg hq]
  rfl
theorem zm_u18 (d : zm_d m) (f : Nat → Int32) : zw_up (zm_o m w h) (m 18) (.inl (0, 30, .inl f)) = zm_o m (zAI w 18 f) h := by
  refine zm_up (zm_o18 d) (fun q hq => ?_)
  unfold zm_o
  simp only [if_neg hq]
  rfl
theorem zm_u19 (d : zm_d m) (f : Nat → Int32) : zw_up (zm_o m w h) (m 19) (.inl (0, 30, .inl f)) = zm_o m (zAI w 19 f) h := by
  refine zm_up (zm_o19 d) (fun q hq => ?_)
  unfold zm_o
  simp only [if_neg hq]
  rfl
theorem zm_u21 (d : zm_d m) (f : Nat → UInt64) : zw_up (zm_o m w h) (m 21) (.inl (4, 5, .inr (.inr (.inr (.inl f))))) = zm_o m (zAD w 21 f) h := by
  refine zm_up (zm_o21 d) (fun q hq => ?_)
  unfold zm_o
  simp only [if_neg hq]
  rfl
theorem zm_u22 (d : zm_d m) (f : Nat → UInt64) : zw_up (zm_o m w h) (m 22) (.inl (4, 5, .inr (.inr (.inr (.inl f))))) = zm_o m (zAD w 22 f) h := by
  refine zm_up (zm_o22 d) (fun q hq => ?_)
  unfold zm_o
  simp only [if_neg hq]
  rfl
theorem zm_u23 (d : zm_d m) (f : Nat → Int32) : zw_up (zm_o m w h) (m 23) (.inl (0, 24, .inl f)) = zm_o m (zAI w 23 f) h := by
  refine zm_up (zm_o23 d) (fun q hq => ?_)
  unfold zm_o
  simp only [if_neg hq]
  rfl
theorem zm_u24 (d : zm_d m) (f : Nat → Int32) : zw_up (zm_o m w h) (m 24) (.inl (1, 480, .inl f)) = zm_o m (zAI w 24 f) h := by
  refine zm_up (zm_o24 d) (fun q hq => ?_)
  unfold zm_o
  simp only [if_neg hq]
  rfl
theorem zm_v0 (d : zm_d m) (v : Int32) : zw_up (zm_o m w h) (m 0) (.inr (0, (zm_f m w).set 0 (.int v))) = zm_o m (zS w 0 v) h := by
  refine zm_up (zm_o0 d) (fun q hq => ?_)
  unfold zm_o
  simp only [if_neg hq]
  rfl
theorem zm_v6 (d : zm_d m) (v : Int32) : zw_up (zm_o m w h) (m 0) (.inr (0, (zm_f m w).set 6 (.int v))) = zm_o m (zS w 6 v) h := by
  refine zm_up (zm_o0 d) (fun q hq => ?_)
  unfold zm_o
  simp only [if_neg hq]
  rfl
theorem zm_v7 (d : zm_d m) (v : Int32) : zw_up (zm_o m w h) (m 0) (.inr (0, (zm_f m w).set 7 (.int v))) = zm_o m (zS w 7 v) h := by
  refine zm_up (zm_o0 d) (fun q hq => ?_)
  unfold zm_o
  simp only [if_neg hq]
  rfl
theorem zm_v9 (d : zm_d m) (v : Int32) : zw_up (zm_o m w h) (m 0) (.inr (0, (zm_f m w).set 9 (.int v))) = zm_o m (zS w 9 v) h := by
  refine zm_up (zm_o0 d) (fun q hq => ?_)
  unfold zm_o
  simp only [if_neg hq]
  rfl
theorem zm_v10 (d : zm_d m) (v : Int32) : zw_up (zm_o m w h) (m 0) (.inr (0, (zm_f m w).set 10 (.int v))) = zm_o m (zS w 10 v) h := by
  refine zm_up (zm_o0 d) (fun q hq => ?_)
  unfold zm_o
  simp only [if_neg hq]
  rfl
theorem zm_v11 (d : zm_d m) (v : Int32) : zw_up (zm_o m w h) (m 0) (.inr (0, (zm_f m w).set 11 (.int v))) = zm_o m (zS w 11 v) h := by
  refine zm_up (zm_o0 d) (fun q hq => ?_)
  unfold zm_o
  simp only [if_neg hq]
  rfl
theorem zm_v12 (d : zm_d m) (v : Int32) : zw_up (zm_o m w h) (m 0) (.inr (0, (zm_f m w).set 12 (.int v))) = zm_o m (zS w 12 v) h := by
  refine zm_up (zm_o0 d) (fun q hq => ?_)
  unfold zm_o
  simp only [if_neg hq]
  rfl
theorem zm_v13 (d : zm_d m) (v : Int32) : zw_up (zm_o m w h) (m 0) (.inr (0, (zm_f m w).set 13 (.int v))) = zm_o m (zS w 13 v) h := by
  refine zm_up (zm_o0 d) (fun q hq => ?_)
  unfold zm_o
  simp only [if_neg hq]
  rfl
theorem zm_v14 (d : zm_d m) (v : Int32) : zw_up (zm_o m w h) (m 0) (.inr (0, (zm_f m w).set 14 (.int v))) = zm_o m (zS w 14 v) h := by
  refine zm_up (zm_o0 d) (fun q hq => ?_)
  unfold zm_o
  simp only [if_neg hq]
  rfl
theorem zm_v15 (d : zm_d m) (v : Int32) : zw_up (zm_o m w h) (m 0) (.inr (0, (zm_f m w).set 15 (.int v))) = zm_o m (zS w 15 v) h := by
  refine zm_up (zm_o0 d) (fun q hq => ?_)
  unfold zm_o
  simp only [if_neg hq]
  rfl
theorem zm_v16 (d : zm_d m) (v : Int32) : zw_up (zm_o m w h) (m 0) (.inr (0, (zm_f m w).set 16 (.int v))) = zm_o m (zS w 16 v) h := by
  refine zm_up (zm_o0 d) (fun q hq => ?_)
  unfold zm_o
  simp only [if_neg hq]
  rfl
theorem zm_v20 (d : zm_d m) (v : Int32) : zw_up (zm_o m w h) (m 0) (.inr (0, (zm_f m w).set 20 (.int v))) = zm_o m (zS w 20 v) h := by
  refine zm_up (zm_o0 d) (fun q hq => ?_)
  unfold zm_o
  simp only [if_neg hq]
  rfl
theorem zm_v25 (d : zm_d m) (v : Int32) : zw_up (zm_o m w h) (m 0) (.inr (0, (zm_f m w).set 25 (.int v))) = zm_o m (zS w 25 v) h := by
  refine zm_up (zm_o0 d) (fun q hq => ?_)
  unfold zm_o
  simp only [if_neg hq]
  rfl
theorem zm_g0 (d : zm_d m) (F : Int32 → Prop) : og_I (zm_o m w h) (some (m 0)) [0] 0 F = F (w.1 0) := by
  unfold og_I zg_f
  simp only [zm_o0 d]
  rfl
theorem zm_p0 (d : zm_d m) (v : Int32) (F : zw_H → Prop) : op_V (zm_o m w h) (some (m 0)) [0] 0 (.int v) F = F (zm_o m (zS w 0 v) h) := by
  unfold op_V
  simp only [zm_o0 d]
  rw [zm_v0 d]
  exact propext ⟨fun g => g.2.2, fun g => ⟨List.mem_cons_self, (by decide : 0 < 26), g⟩⟩
theorem zm_g6 (d : zm_d m) (F : Int32 → Prop) : og_I (zm_o m w h) (some (m 0)) [0] 6 F = F (w.1 6) := by
  unfold og_I zg_f
  simp only [zm_o0 d]
  rfl
theorem zm_p6 (d : zm_d m) (v : Int32) (F : zw_H → Prop) : op_V (zm_o m w h) (some (m 0)) [0] 6 (.int v) F = F (zm_o m (zS w 6 v) h) := by
  unfold op_V
  simp only [zm_o0 d]
  rw [zm_v6 d]
  exact propext ⟨fun g => g.2.2, fun g => ⟨List.mem_cons_self, (by decide : 6 < 26), g⟩⟩
theorem zm_g7 (d : zm_d m) (F : Int32 → Prop) : og_I (zm_o m w h) (some (m 0)) [0] 7 F = F (w.1 7) := by
  unfold og_I zg_f
  simp only [zm_o0 d]
  rfl
theorem zm_p7 (d : zm_d m) (v : Int32) (F : zw_H → Prop) : op_V (zm_o m w h) (some (m 0)) [0] 7 (.int v) F = F (zm_o m (zS w 7 v) h) := by
  unfold op_V
  simp only [zm_o0 d]
  rw [zm_v7 d]
  exact propext ⟨fun g => g.2.2, fun g => ⟨List.mem_cons_self, (by decide : 7 < 26), g⟩⟩
theorem zm_g9 (d : zm_d m) (F : Int32 → Prop) : og_I (zm_o m w h) (some (m 0)) [0] 9 F = F (w.1 9) := by
  unfold og_I zg_f
  simp only [zm_o0 d]
  rfl
theorem zm_p9 (d : zm_d m) (v : Int32) (F : zw_H → Prop) : op_V (zm_o m w h) (some (m 0)) [0] 9 (.int v) F = F (zm_o m (zS w 9 v) h) := by
  unfold op_V
  simp only [zm_o0 d]
  rw [zm_v9 d]
  exact propext ⟨fun g => g.2.2, fun g => ⟨List.mem_cons_self, (by decide : 9 < 26), g⟩⟩
theorem zm_g10 (d : zm_d m) (F : Int32 → Prop) : og_I (zm_o m w h) (some (m 0)) [0] 10 F = F (w.1 10) := by
  unfold og_I zg_f
  simp only [zm_o0 d]
  rfl
theorem zm_p10 (d : zm_d m) (v : Int32) (F : zw_H → Prop) : op_V (zm_o m w h) (some (m 0)) [0] 10 (.int v) F = F (zm_o m (zS w 10 v) h) := by
  unfold op_V
  simp only [zm_o0 d]
  rw [zm_v10 d]
  exact propext ⟨fun g => g.2.2, fun g => ⟨List.mem_cons_self, (by decide : 10 < 26), g⟩⟩
theorem zm_g11 (d : zm_d m) (F : Int32 → Prop) : og_I (zm_o m w h) (some (m 0)) [0] 11 F = F (w.1 11) := by
  unfold og_I zg_f
  simp only [zm_o0 d]
  rfl
theorem zm_p11 (d : zm_d m) (v : Int32) (F : zw_H → Prop) : op_V (zm_o m w h) (some (m 0)) [0] 11 (.int v) F = F (zm_o m (zS w 11 v) h) := by
  unfold op_V
  simp only [zm_o0 d]
  rw [zm_v11 d]
  exact propext ⟨fun g => g.2.2, fun g => ⟨List.mem_cons_self, (by decide : 11 < 26), g⟩⟩
theorem zm_g12 (d : zm_d m) (F : Int32 → Prop) : og_I (zm_o m w h) (some (m 0)) [0] 12 F = F (w.1 12) := by
  unfold og_I zg_f
  simp only [zm_o0 d]
  rfl
theorem zm_p12 (d : zm_d m) (v : Int32) (F : zw_H → Prop) : op_V (zm_o m w h) (some (m 0)) [0] 12 (.int v) F = F (zm_o m (zS w 12 v) h) := by
  unfold op_V
  simp only [zm_o0 d]
  rw [zm_v12 d]
  exact propext ⟨fun g => g.2.2, fun g => ⟨List.mem_cons_self, (by decide : 12 < 26), g⟩⟩
theorem zm_g13 (d : zm_d m) (F : Int32 → Prop) : og_I (zm_o m w h) (some (m 0)) [0] 13 F = F (w.1 13) := by
  unfold og_I zg_f
  simp only [zm_o0 d]
  rfl
theorem zm_p13 (d : zm_d m) (v : Int32) (F : zw_H → Prop) : op_V (zm_o m w h) (some (m 0)) [0] 13 (.int v) F = F (zm_o m (zS w 13 v) h) := by
  unfold op_V
  simp only [zm_o0 d]
  rw [zm_v13 d]
  exact propext ⟨fun g => g.2.2, fun g => ⟨List.mem_cons_self, (by decide : 13 < 26), g⟩⟩
theorem zm_g14 (d : zm_d m) (F : Int32 → Prop) : og_I (zm_o m w h) (some (m 0)) [0] 14 F = F (w.1 14) := by
  unfold og_I zg_f
  simp only [zm_o0 d]
  rfl
theorem zm_p14 (d : zm_d m) (v : Int32) (F : zw_H → Prop) : op_V (zm_o m w h) (some (m 0)) [0] 14 (.int v) F = F (zm_o m (zS w 14 v) h) := by
  unfold op_V
  simp only [zm_o0 d]
  rw [zm_v14 d]
  exact propext ⟨fun g => g.2.2, fun g => ⟨List.mem_cons_self, (by decide : 14 < 26), g⟩⟩
theorem zm_g15 (d : zm_d m) (F : Int32 → Prop) : og_I (zm_o m w h) (some (m 0)) [0] 15 F = F (w.1 15) := by
  unfold og_I zg_f
  simp only [zm_o0 d]
  rfl
theorem zm_p15 (d : zm_d m) (v : Int32) (F : zw_H → Prop) : op_V (zm_o m w h) (some (m 0)) [0] 15 (.int v) F = F (zm_o m (zS w 15 v) h) := by
  unfold op_V
  simp only [zm_o0 d]
  rw [zm_v15 d]
  exact propext ⟨fun g => g.2.2, fun g => ⟨List.mem_cons_self, (by decide : 15 < 26), g⟩⟩
theorem zm_g16 (d : zm_d m) (F : Int32 → Prop) : og_I (zm_o m w h) (some (m 0)) [0] 16 F = F (w.1 16) := by
  unfold og_I zg_f
  simp only [zm_o0 d]
  rfl
theorem zm_p16 (d : zm_d m) (v : Int32) (F : zw_H → Prop) : op_V (zm_o m w h) (some (m 0)) [0] 16 (.int v) F = F (zm_o m (zS w 16 v) h) := by
  unfold op_V
  simp only [zm_o0 d]
  rw [zm_v16 d]
  exact propext ⟨fun g => g.2.2, fun g => ⟨List.mem_cons_self, (by decide : 16 < 26), g⟩⟩
theorem zm_g20 (d : zm_d m) (F : Int32 → Prop) : og_I (zm_o m w h) (some (m 0)) [0] 20 F = F (w.1 20) := by
  unfold og_I zg_f
  simp only [zm_o0 d]
  rfl
theorem zm_p20 (d : zm_d m) (v : Int32) (F : zw_H → Prop) : op_V (zm_o m w h) (some (m 0)) [0] 20 (.int v) F = F (zm_o m (zS w 20 v) h) := by
  unfold op_V
  simp only [zm_o0 d]
  rw [zm_v20 d]
  exact propext ⟨fun g => g.2.2, fun g => ⟨List.mem_cons_self, (by decide : 20 < 26), g⟩⟩
theorem zm_g25 (d : zm_d m) (F : Int32 → Prop) : og_I (zm_o m w h) (some (m 0)) [0] 25 F = F (w.1 25) := by
  unfold og_I zg_f
  simp only [zm_o0 d]
  rfl
theorem zm_p25 (d : zm_d m) (v : Int32) (F : zw_H → Prop) : op_V (zm_o m w h) (some (m 0)) [0] 25 (.int v) F = F (zm_o m (zS w 25 v) h) := by
  unfold op_V
  simp only [zm_o0 d]
  rw [zm_v25 d]
  exact propext ⟨fun g => g.2.2, fun g => ⟨List.mem_cons_self, (by decide : 25 < 26), g⟩⟩
theorem zm_g1 (d : zm_d m) (F : Option Nat → Prop) : og_A (zm_o m w h) (some (m 0)) [0] 1 F = F (some (m 1)) := by
  unfold og_A zg_f
  simp only [zm_o0 d]
  rfl
theorem zm_r1 (d : zm_d m) {ts : List Nat} (ht : 0 ∈ ts) (i : Int32) (F : Int32 → Prop) : oa_I (zm_o m w h) (some (m 1)) ts i F = (vp_in i 103 ∧ F (w.2.1 1 i.toNatClampNeg)) := by
  unfold oa_I
  simp only [zm_o1 d]
  exact propext ⟨fun g => g.2, fun g => ⟨ht, g⟩⟩
theorem zm_s1 (d : zm_d m) {ts : List Nat} (ht : 0 ∈ ts) (i : Int32) (x : Int32) (F : zw_H → Prop) : os_I (zm_o m w h) (some (m 1)) ts i x F = (vp_in i 103 ∧ F (zm_o m (zAI w 1 (upd (w.2.1 1) i.toNatClampNeg x)) h)) := by
  unfold os_I
  simp only [zm_o1 d, zm_u1 d]
  exact propext ⟨fun g => g.2, fun g => ⟨ht, g⟩⟩
theorem zm_g2 (d : zm_d m) (F : Option Nat → Prop) : og_A (zm_o m w h) (some (m 0)) [0] 2 F = F (some (m 2)) := by
  unfold og_A zg_f
  simp only [zm_o0 d]
  rfl
theorem zm_r2 (d : zm_d m) {ts : List Nat} (ht : 0 ∈ ts) (i : Int32) (F : Int32 → Prop) : oa_I (zm_o m w h) (some (m 2)) ts i F = (vp_in i 103 ∧ F (w.2.1 2 i.toNatClampNeg)) := by
  unfold oa_I
  simp only [zm_o2 d]
  exact propext ⟨fun g => g.2, fun g => ⟨ht, g⟩⟩
theorem zm_s2 (d : zm_d m) {ts : List Nat} (ht : 0 ∈ ts) (i : Int32) (x : Int32) (F : zw_H → Prop) : os_I (zm_o m w h) (some (m 2)) ts i x F = (vp_in i 103 ∧ F (zm_o m (zAI w 2 (upd (w.2.1 2) i.toNatClampNeg x)) h)) := by
  unfold os_I
  simp only [zm_o2 d, zm_u2 d]
  exact propext ⟨fun g => g.2, fun g => ⟨ht, g⟩⟩
theorem zm_g3 (d : zm_d m) (F : Option Nat → Prop) : og_A (zm_o m w h) (some (m 0)) [0] 3 F = F (some (m 3)) := by
  unfold og_A zg_f
  simp only [zm_o0 d]
  rfl
theorem zm_r3 (d : zm_d m) {ts : List Nat} (ht : 0 ∈ ts) (i : Int32) (F : Int32 → Prop) : oa_I (zm_o m w h) (some (m 3)) ts i F = (vp_in i 824 ∧ F (w.2.1 3 i.toNatClampNeg)) := by
  unfold oa_I
  simp only [zm_o3 d]
  exact propext ⟨fun g => g.2, fun g => ⟨ht, g⟩⟩
theorem zm_s3 (d : zm_d m) {ts : List Nat} (ht : 0 ∈ ts) (i : Int32) (x : Int32) (F : zw_H → Prop) : os_I (zm_o m w h) (some (m 3)) ts i x F = (vp_in i 824 ∧ F (zm_o m (zAI w 3 (upd (w.2.1 3) i.toNatClampNeg x)) h)) := by
  unfold os_I
  simp only [zm_o3 d, zm_u3 d]
  exact propext ⟨fun g => g.2, fun g => ⟨ht, g⟩⟩
theorem zm_g4 (d : zm_d m) (F : Option Nat → Prop) : og_A (zm_o m w h) (some (m 0)) [0] 4 F = F (some (m 4)) := by
  unfold og_A zg_f
  simp only [zm_o0 d]
  rfl
theorem zm_r4 (d : zm_d m) {ts : List Nat} (ht : 0 ∈ ts) (i : Int32) (F : Int32 → Prop) : oa_I (zm_o m w h) (some (m 4)) ts i F = (vp_in i 206 ∧ F (w.2.1 4 i.toNatClampNeg)) := by
  unfold oa_I
  simp only [zm_o4 d]
  exact propext ⟨fun g => g.2, fun g => ⟨ht, g⟩⟩
theorem zm_s4 (d : zm_d m) {ts : List Nat} (ht : 0 ∈ ts) (i : Int32) (x : Int32) (F : zw_H → Prop) : os_I (zm_o m w h) (some (m 4)) ts i x F = (vp_in i 206 ∧ F (zm_o m (zAI w 4 (upd (w.2.1 4) i.toNatClampNeg x)) h)) := by
  unfold os_I
  simp only [zm_o4 d, zm_u4 d]
  exact propext ⟨fun g => g.2, fun g => ⟨ht, g⟩⟩
theorem zm_g5 (d : zm_d m) (F : Option Nat → Prop) : og_A (zm_o m w h) (some (m 0)) [0] 5 F = F (some (m 5)) := by
  unfold og_A zg_f
  simp only [zm_o0 d]
  rfl
theorem zm_r5 (d : zm_d m) {ts : List Nat} (ht : 2 ∈ ts) (i : Int32) (F : Int32 → Prop) : oa_I (zm_o m w h) (some (m 5)) ts i F = (vp_in i 2 ∧ F (w.2.1 5 i.toNatClampNeg)) := by
  unfold oa_I
  simp only [zm_o5 d]
  exact propext ⟨fun g => g.2, fun g => ⟨ht, g⟩⟩
theorem zm_s5 (d : zm_d m) {ts : List Nat} (ht : 2 ∈ ts) (i : Int32) (x : Int32) (F : zw_H → Prop) : os_I (zm_o m w h) (some (m 5)) ts i x F = (vp_in i 2 ∧ F (zm_o m (zAI w 5 (upd (w.2.1 5) i.toNatClampNeg x)) h)) := by
  unfold os_I
  simp only [zm_o5 d, zm_u5 d]
  exact propext ⟨fun g => g.2, fun g => ⟨ht, g⟩⟩
theorem zm_g8 (d : zm_d m) (F : Option Nat → Prop) : og_A (zm_o m w h) (some (m 0)) [0] 8 F = F (some (m 8)) := by
  unfold og_A zg_f
  simp only [zm_o0 d]
  rfl
theorem zm_r8 (d : zm_d m) {ts : List Nat} (ht : 1 ∈ ts) (i : Int32) (F : Int32 → Prop) : oa_I (zm_o m w h) (some (m 8)) ts i F = (vp_in i 500 ∧ F (w.2.1 8 i.toNatClampNeg)) := by
  unfold oa_I
  simp only [zm_o8 d]
  exact propext ⟨fun g => g.2, fun g => ⟨ht, g⟩⟩
theorem zm_s8 (d : zm_d m) {ts : List Nat} (ht : 1 ∈ ts) (i : Int32) (x : Int32) (F : zw_H → Prop) : os_I (zm_o m w h) (some (m 8)) ts i x F = (vp_in i 500 ∧ F (zm_o m (zAI w 8 (upd (w.2.1 8) i.toNatClampNeg x)) h)) := by
  unfold os_I
  simp only [zm_o8 d, zm_u8 d]
  exact propext ⟨fun g => g.2, fun g => ⟨ht, g⟩⟩
theorem zm_g17 (d : zm_d m) (F : Option Nat → Prop) : og_A (zm_o m w h) (some (m 0)) [0] 17 F = F (some (m 17)) := by
  unfold og_A zg_f
  simp only [zm_o0 d]
  rfl
theorem zm_r17 (d : zm_d m) {ts : List Nat} (ht : 3 ∈ ts) (i : Int32) (F : Int64 → Prop) : oa_J (zm_o m w h) (some (m 17)) ts i F = (vp_in i 315 ∧ F (w.2.2.1 i.toNatClampNeg)) := by
  unfold oa_J
  simp only [zm_o17 d]
  exact propext ⟨fun g => g.2, fun g => ⟨ht, g⟩⟩
theorem zm_s17 (d : zm_d m) {ts : List Nat} (ht : 3 ∈ ts) (i : Int32) (x : Int64) (F : zw_H → Prop) : os_J (zm_o m w h) (some (m 17)) ts i x F = (vp_in i 315 ∧ F (zm_o m (zAJ w 17 (vp_updL (w.2.2.1) i.toNatClampNeg x)) h)) := by
  unfold os_J
  simp only [zm_o17 d, zm_u17 d]
  exact propext ⟨fun g => g.2, fun g => ⟨ht, g⟩⟩
theorem zm_g18 (d : zm_d m) (F : Option Nat → Prop) : og_A (zm_o m w h) (some (m 0)) [0] 18 F = F (some (m 18)) := by
  unfold og_A zg_f
  simp only [zm_o0 d]
  rfl
theorem zm_r18 (d : zm_d m) {ts : List Nat} (ht : 0 ∈ ts) (i : Int32) (F : Int32 → Prop) : oa_I (zm_o m w h) (some (m 18)) ts i F = (vp_in i 30 ∧ F (w.2.1 18 i.toNatClampNeg)) := by
  unfold oa_I
  simp only [zm_o18 d]
  exact propext ⟨fun g => g.2, fun g => ⟨ht, g⟩⟩
theorem zm_s18 (d : zm_d m) {ts : List Nat} (ht : 0 ∈ ts) (i : Int32) (x : Int32) (F : zw_H → Prop) : os_I (zm_o m w h) (some (m 18)) ts i x F = (vp_in i 30 ∧ F (zm_o m (zAI w 18 (upd (w.2.1 18) i.toNatClampNeg x)) h)) := by
  unfold os_I
  simp only [zm_o18 d, zm_u18 d]
  exact propext ⟨fun g => g.2, fun g => ⟨ht, g⟩⟩
theorem zm_g19 (d : zm_d m) (F : Option Nat → Prop) : og_A (zm_o m w h) (some (m 0)) [0] 19 F = F (some (m 19)) := by
  unfold og_A zg_f
  simp only [zm_o0 d]
  rfl
theorem zm_r19 (d : zm_d m) {ts : List Nat} (ht : 0 ∈ ts) (i : Int32) (F : Int32 → Prop) : oa_I (zm_o m w h) (some (m 19)) ts i F = (vp_in i 30 ∧ F (w.2.1 19 i.toNatClampNeg)) := by
  unfold oa_I
  simp only [zm_o19 d]
  exact propext ⟨fun g => g.2, fun g => ⟨ht, g⟩⟩
theorem zm_s19 (d : zm_d m) {ts : List Nat} (ht : 0 ∈ ts) (i : Int32) (x : Int32) (F : zw_H → Prop) : os_I (zm_o m w h) (some (m 19)) ts i x F = (vp_in i 30 ∧ F (zm_o m (zAI w 19 (upd (w.2.1 19) i.toNatClampNeg x)) h)) := by
  unfold os_I
  simp only [zm_o19 d, zm_u19 d]
  exact propext ⟨fun g => g.2, fun g => ⟨ht, g⟩⟩
theorem zm_g21 (d : zm_d m) (F : Option Nat → Prop) : og_A (zm_o m w h) (some (m 0)) [0] 21 F = F (some (m 21)) := by
  unfold og_A zg_f
  simp only [zm_o0 d]
  rfl
theorem zm_r21 (d : zm_d m) {ts : List Nat} (ht : 4 ∈ ts) (i : Int32) (F : UInt64 → Prop) : oa_D (zm_o m w h) (some (m 21)) ts i F = (vp_in i 5 ∧ F (w.2.2.2 21 i.toNatClampNeg)) := by
  unfold oa_D
  simp only [zm_o21 d]
  exact propext ⟨fun g => g.2, fun g => ⟨ht, g⟩⟩
theorem zm_s21 (d : zm_d m) {ts : List Nat} (ht : 4 ∈ ts) (i : Int32) (x : UInt64) (F : zw_H → Prop) : os_D (zm_o m w h) (some (m 21)) ts i x F = (vp_in i 5 ∧ F (zm_o m (zAD w 21 (vf_upd (w.2.2.2 21) i.toNatClampNeg x)) h)) := by
  unfold os_D
  simp only [zm_o21 d, zm_u21 d]
  exact propext ⟨fun g => g.2, fun g => ⟨ht, g⟩⟩
theorem zm_g22 (d : zm_d m) (F : Option Nat → Prop) : og_A (zm_o m w h) (some (m 0)) [0] 22 F = F (some (m 22)) := by
  unfold og_A zg_f
  simp only [zm_o0 d]
  rfl
theorem zm_r22 (d : zm_d m) {ts : List Nat} (ht : 4 ∈ ts) (i : Int32) (F : UInt64 → Prop) : oa_D (zm_o m w h) (some (m 22)) ts i F = (vp_in i 5 ∧ F (w.2.2.2 22 i.toNatClampNeg)) := by
  unfold oa_D
  simp only [zm_o22 d]
  exact propext ⟨fun g => g.2, fun g => ⟨ht, g⟩⟩
theorem zm_s22 (d : zm_d m) {ts : List Nat} (ht : 4 ∈ ts) (i : Int32) (x : UInt64) (F : zw_H → Prop) : os_D (zm_o m w h) (some (m 22)) ts i x F = (vp_in i 5 ∧ F (zm_o m (zAD w 22 (vf_upd (w.2.2.2 22) i.toNatClampNeg x)) h)) := by
  unfold os_D
  simp only [zm_o22 d, zm_u22 d]
  exact propext ⟨fun g => g.2, fun g => ⟨ht, g⟩⟩
theorem zm_g23 (d : zm_d m) (F : Option Nat → Prop) : og_A (zm_o m w h) (some (m 0)) [0] 23 F = F (some (m 23)) := by
  unfold og_A zg_f
  simp only [zm_o0 d]
  rfl
theorem zm_r23 (d : zm_d m) {ts : List Nat} (ht : 0 ∈ ts) (i : Int32) (F : Int32 → Prop) : oa_I (zm_o m w h) (some (m 23)) ts i F = (vp_in i 24 ∧ F (w.2.1 23 i.toNatClampNeg)) := by
  unfold oa_I
  simp only [zm_o23 d]
  exact propext ⟨fun g => g.2, fun g => ⟨ht, g⟩⟩
theorem zm_s23 (d : zm_d m) {ts : List Nat} (ht : 0 ∈ ts) (i : Int32) (x : Int32) (F : zw_H → Prop) : os_I (zm_o m w h) (some (m 23)) ts i x F = (vp_in i 24 ∧ F (zm_o m (zAI w 23 (upd (w.2.1 23) i.toNatClampNeg x)) h)) := by
  unfold os_I
  simp only [zm_o23 d, zm_u23 d]
  exact propext ⟨fun g => g.2, fun g => ⟨ht, g⟩⟩
theorem zm_g24 (d : zm_d m) (F : Option Nat → Prop) : og_A (zm_o m w h) (some (m 0)) [0] 24 F = F (some (m 24)) := by
  unfold og_A zg_f
  simp only [zm_o0 d]
  rfl
theorem zm_r24 (d : zm_d m) {ts : List Nat} (ht : 1 ∈ ts) (i : Int32) (F : Int32 → Prop) : oa_I (zm_o m w h) (some (m 24)) ts i F = (vp_in i 480 ∧ F (w.2.1 24 i.toNatClampNeg)) := by
  unfold oa_I
  simp only [zm_o24 d]
  exact propext ⟨fun g => g.2, fun g => ⟨ht, g⟩⟩
theorem zm_s24 (d : zm_d m) {ts : List Nat} (ht : 1 ∈ ts) (i : Int32) (x : Int32) (F : zw_H → Prop) : os_I (zm_o m w h) (some (m 24)) ts i x F = (vp_in i 480 ∧ F (zm_o m (zAI w 24 (upd (w.2.1 24) i.toNatClampNeg x)) h)) := by
  unfold os_I
  simp only [zm_o24 d, zm_u24 d]
  exact propext ⟨fun g => g.2, fun g => ⟨ht, g⟩⟩
theorem zm_c (d : zm_d m) (P : Prop) : oc_ (zm_o m w h) (some (m 0)) [0] P = P := by
  unfold oc_
  simp only [zm_o0 d]
  exact propext ⟨fun g => g.2, fun g => ⟨List.mem_cons_self, g⟩⟩
end ZMO
