set_option maxRecDepth 100000
/-! reading and writing cells that are known -/
section ZHP
variable {h : zw_H} {a c k t n : Nat} {fs : List Value} {cs : List Nat}
theorem k_gA (h1 : h a = some (.inr (c, fs))) (hc : c ∈ cs) {b : Nat} (hk : fs[k]? = some (.ref b)) (F : Option Nat → Prop) : og_A h (some a) cs k F = F (some b) := by
  unfold og_A zg_f
  simp only [h1, if_pos hc, hk]
theorem k_gN (h1 : h a = some (.inr (c, fs))) (hc : c ∈ cs) (hk : fs[k]? = some .null) (F : Option Nat → Prop) : og_A h (some a) cs k F = F none := by
  unfold og_A zg_f
  simp only [h1, if_pos hc, hk]
theorem k_gI (h1 : h a = some (.inr (c, fs))) (hc : c ∈ cs) {x : Int32} (hk : fs[k]? = some (.int x)) (F : Int32 → Prop) : og_I h (some a) cs k F = F x := by
  unfold og_I zg_f
  simp only [h1, if_pos hc, hk]
theorem k_p (h1 : h a = some (.inr (c, fs))) (hc : c ∈ cs) (hk : k < fs.length) (v : Value) (F : zw_H → Prop) : op_V h (some a) cs k v F = F (zw_up h a (.inr (c, fs.set k v))) := by
  unfold op_V
  simp only [h1]
  exact propext ⟨fun g => g.2.2, fun g => ⟨hc, hk, g⟩⟩
theorem k_c (h1 : h a = some (.inr (c, fs))) (hc : c ∈ cs) (P : Prop) : oc_ h (some a) cs P = P := by
  unfold oc_
  simp only [h1]
  exact propext ⟨fun g => g.2, fun g => ⟨hc, g⟩⟩
theorem k_n (h1 : h a = some (.inr (c, fs))) (hc : c ∈ cs) (P : Prop) : on_ h (some a) cs P = P := by
  unfold on_
  simp only [h1]
  exact propext ⟨fun g => g.2, fun g => ⟨hc, g⟩⟩
theorem k_rI {f : Nat → Int32} {ts : List Nat} {i : Int32} (h1 : h a = some (.inl (t, n, .inl f))) (ht : t ∈ ts) (hi : vp_in i n) (F : Int32 → Prop) : oa_I h (some a) ts i F = F (f i.toNatClampNeg) := by
  unfold oa_I
  simp only [h1]
  exact propext ⟨fun g => g.2.2, fun g => ⟨ht, hi, g⟩⟩
theorem k_rA {f : Nat → Option Nat} {ts : List Nat} {i : Int32} (h1 : h a = some (.inl (t, n, .inr (.inr (.inr (.inr f)))))) (ht : t ∈ ts) (hi : vp_in i n) (F : Option Nat → Prop) : oa_A h (some a) ts i F = F (f i.toNatClampNeg) := by
  unfold oa_A
  simp only [h1]
  exact propext ⟨fun g => g.2.2, fun g => ⟨ht, hi, g⟩⟩
theorem k_rD {f : Nat → UInt64} {ts : List Nat} {i : Int32} (h1 : h a = some (.inl (t, n, .inr (.inr (.inr (.inl f)))))) (ht : t ∈ ts) (hi : vp_in i n) (F : UInt64 → Prop) : oa_D h (some a) ts i F = F (f i.toNatClampNeg) := by
  unfold oa_D
  simp only [h1]
  exact propext ⟨fun g => g.2.2, fun g => ⟨ht, hi, g⟩⟩
theorem k_rJ {f : Nat → Int64} {ts : List Nat} {i : Int32} (h1 : h a = some (.inl (t, n, .inr (.inl f)))) (ht : t ∈ ts) (hi : vp_in i n) (F : Int64 → Prop) : oa_J h (some a) ts i F = F (f i.toNatClampNeg) := by
  unfold oa_J
  simp only [h1]
  exact propext ⟨fun g => g.2.2, fun g => ⟨ht, hi, g⟩⟩
theorem k_sI {f : Nat → Int32} {ts : List Nat} {i x : Int32} (h1 : h a = some (.inl (t, n, .inl f))) (ht : t ∈ ts) (hi : vp_in i n) (F : zw_H → Prop) : os_I h (some a) ts i x F = F (zw_up h a (.inl (t, n, .inl (upd f i.toNatClampNeg x)))) := by
  unfold os_I
  simp only [h1]
  exact propext ⟨fun g => g.2.2, fun g => ⟨ht, hi, g⟩⟩
theorem k_sD {f : Nat → UInt64} {ts : List Nat} {i : Int32} {x : UInt64} (h1 : h a = some (.inl (t, n, .inr (.inr (.inr (.inl f)))))) (ht : t ∈ ts) (hi : vp_in i n) (F : zw_H → Prop) : os_D h (some a) ts i x F = F (zw_up h a (.inl (t, n, .inr (.inr (.inr (.inl (vf_upd f i.toNatClampNeg x))))))) := by
  unfold os_D
  simp only [h1]
  exact propext ⟨fun g => g.2.2, fun g => ⟨ht, hi, g⟩⟩
theorem k_sJ {f : Nat → Int64} {ts : List Nat} {i : Int32} {x : Int64} (h1 : h a = some (.inl (t, n, .inr (.inl f)))) (ht : t ∈ ts) (hi : vp_in i n) (F : zw_H → Prop) : os_J h (some a) ts i x F = F (zw_up h a (.inl (t, n, .inr (.inl (vp_updL f i.toNatClampNeg x))))) := by
  unfold os_J
  simp only [h1]
  exact propext ⟨fun g => g.2.2, fun g => ⟨ht, hi, g⟩⟩
theorem k_sA {f : Nat → Option Nat} {t0 : Nat} {us : List Nat} {i : Int32} {v : Option Nat} (h1 : h a = some (.inl (t0, n, .inr (.inr (.inr (.inr f)))))) (hi : vp_in i n) (hv : os_ok h v cs us) (F : zw_H → Prop) : os_A h (some a) t0 cs us i v F = F (zw_up h a (.inl (t0, n, .inr (.inr (.inr (.inr (va_up f i.toNatClampNeg v))))))) := by
  unfold os_A
  simp only [h1]
  exact propext ⟨fun g => g.2.2.2, fun g => ⟨trivial, hi, hv, g⟩⟩
theorem k_l {x : (Nat → Int32) ⊕ (Nat → Int64) ⊕ (Nat → UInt32) ⊕ (Nat → UInt64) ⊕ (Nat → Option Nat)} (h1 : h a = some (.inl (t, n, x))) (ht : t < 14) (F : Int32 → Prop) : ol_ h (some a) F = F (Int32.ofNat n) := by
  unfold ol_
  simp only [h1]
  exact propext ⟨fun g => g.2, fun g => ⟨ht, g⟩⟩
theorem k_ok {v b : Nat} {us : List Nat} (h1 : h v = some (.inr (b, fs))) (hb : b ∈ cs) : os_ok h (some v) cs us := by
  unfold os_ok
  simp only [h1]
  exact hb
theorem k_u1 (h : zw_H) (a : Nat) (x : zw_C) : zw_up h a x a = some x := if_pos rfl
theorem k_u2 {h : zw_H} {a b : Nat} {x : zw_C} (e : b ≠ a) : zw_up h a x b = h b := if_neg e
end ZHP
