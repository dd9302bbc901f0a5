set_option maxRecDepth 100000
/-! a whole text -/
abbrev zEi (α : Type) : Type := (Nat × Nat) ⊕ α
section ZSQ
variable (B : Nat → Int32) (N : Nat)
def sq_mt (t2 : zTk) : zTk := if sp_isW B t2 zs_minus then sp_tk B N t2.2.2 else t2
def sq_bdC (a : Nat → Int32) (n : Nat) (fx x : Int32) (t2 : zTk) : zEi ((Nat → Int32) × zTk) :=
  match sp_nmb B 1 99 (sq_mt B N t2) with
  | .inl e => .inl e
  | .inr c => .inr (sp_add a n (sp_b (fx ≠ 0)) x (if sp_isW B t2 zs_minus then -c else c), sp_tk B N (sq_mt B N t2).2.2)
def sq_bdR (a : Nat → Int32) (n : Nat) (fx : Int32) (t1 : zTk) : zEi ((Nat → Int32) × zTk) :=
  match sp_nmb B 0 255 t1 with
  | .inl e => .inl e
  | .inr x => if fx ≠ 0 ∧ sp_fixedAt a n x < n then .inl (3, t1.2.1) else sq_bdC B N a n fx x (sp_tk B N t1.2.2)
def sq_bdy (a : Nat → Int32) (n : Nat) (fx : Int32) (t : zTk) : zEi ((Nat → Int32) × zTk) := if n = 24 then .inl (4, t.2.1) else sq_bdR B N a n fx (sp_tk B N t.2.2)
def sq_ln (a : Nat → Int32) (n : Nat) (t : zTk) : zEi ((Nat → Int32) × zTk) := if sp_isW B t zs_fixed ∨ sp_isW B t zs_free then sq_bdy B N a n (sp_b (sp_isW B t zs_fixed)) t else .inl (1, t.2.1)
def sq_lns : Nat → (Nat → Int32) → Nat → zTk → zEi ((Nat → Int32) × Nat × zTk)
  | 0, a, n, t => .inr (a, n, t)
  | f + 1, a, n, t => if t.1 = 4 then (match sq_ln B N a n (sp_tk B N t.2.2) with
    | .inl e => .inl e
    | .inr r => sq_lns f r.1 (n + 1) r.2) else .inr (a, n, t)
def sq_end (a : Nat → Int32) (n : Nat) (t : zTk) : zEi ((Nat → Int32) × Nat) := if t.1 = 1 then (if n = 0 then .inl (5, t.2.1) else .inr (a, n)) else .inl (1, t.2.1)
def sq_4 (a : Nat → Int32) (t : zTk) : zEi ((Nat → Int32) × Nat) :=
  match sq_lns B N 26 a 0 t with
  | .inl e => .inl e
  | .inr r => sq_end r.1 r.2.1 r.2.2
def sq_3 (a : Nat → Int32) (t : zTk) : zEi ((Nat → Int32) × Nat) :=
  match sp_nmb B 0 999 t with
  | .inl e => .inl e
  | .inr x => sq_4 B N (upd a 5 x) (sp_tk B N t.2.2)
def sq_2 (a : Nat → Int32) (t : zTk) : zEi ((Nat → Int32) × Nat) :=
  match sp_nmb B 0 4 t with
  | .inl e => .inl e
  | .inr x => sq_3 B N (upd a 4 x) (sp_tk B N t.2.2)
def sq_1 (a : Nat → Int32) (t : zTk) : zEi ((Nat → Int32) × Nat) :=
  match sp_nmb B 2 5 t with
  | .inl e => .inl e
  | .inr x => sq_2 B N (upd a 3 x) (sp_tk B N t.2.2)
def sq_all (a : Nat → Int32) : zEi ((Nat → Int32) × Nat) := if sp_isW B (sp_tk B N 0) zs_line then sq_1 B N a (sp_tk B N (sp_tk B N 0).2.2) else .inl (1, (sp_tk B N 0).2.1)
end ZSQ
theorem zTs.t10 {w v : zM} {N : Nat} {t : zTk} (h : zTs w N t v) (g : zG w N) : v.1 10 = 0 := by
  obtain ⟨x, rfl, -⟩ := h
  exact g.1
theorem zTs.t11 {w v : zM} {N : Nat} {t : zTk} (h : zTs w N t v) : v.1 11 = w.1 11 := by
  obtain ⟨x, rfl, -⟩ := h
  rfl
theorem zTs.t2 {w v : zM} {N : Nat} {t : zTk} (h : zTs w N t v) : v.2 = w.2 := by
  obtain ⟨x, rfl, -⟩ := h
  rfl
theorem sp_add_0 (a : Nat → Int32) (n : Nat) (f x c : Int32) : sp_add a n f x c 0 = Int32.ofNat (n + 1) := by
  unfold sp_add upd
  rw [if_neg (by omega), if_neg (by omega), if_neg (by omega), if_neg (by omega), if_pos rfl]
section ZM25
variable {m : Nat → Nat} {w : zM} {h : zw_H} {K : Nat → Option Nat} {X : String → Nat → zw_H → Prop} {N n : Nat} {a : Nat → Int32} {t : zTk} {v : zM}
theorem c_bd72 (d : zm_d m) (g : zG w N) (ha : w.2.1 1 = a) (hn : a 0 = Int32.ofNat n) (h24 : n < 24) (ht : zTs w N t v) {fx x mi : Int32} {Q : zw_H → Prop} (h0 : ∀ e, sp_nmb (w.2.1 8) 1 99 t = .inl e → ∀ v', zEr w e v' → Q (zm_o m v' h)) (h1 : ∀ c, sp_nmb (w.2.1 8) 1 99 t = .inr c → ∀ v', zTs (zAI w 1 (sp_add a n (sp_b (fx ≠ 0)) x (if mi = 0 then c else -c))) N (sp_tk (w.2.1 8) N t.2.2) v' → Q (zm_o m v' h)) : f_X2_readsBody_J72 K Q X (some (m 0)) fx x mi (zm_o m v h) := by
  unfold f_X2_readsBody_J72 f_X2_readsBody_J103
  rw [zm_c d]
  refine c_num d g ht (fun e he v' hv => ?_) (fun c hc v' hv => ?_)
  · rw [zm_g10 d, if_pos (zi_pos0 hv.pos)]
    exact h0 e he v' hv
  · rw [zm_g10 d, hv.t10 g, if_neg (fun c => c rfl)]
    have ha2 : v'.2.1 1 = a := by rw [hv.t2]; exact ha
    by_cases e : mi = 0
    · rw [if_pos e, zm_c d]
      refine c_addsBody d ha2 hn h24 ?_
      have k := h1 c hc _ (hv.ai _)
      rw [if_pos e] at k
      exact k
    · rw [if_neg e, zm_c d]
      refine c_addsBody d ha2 hn h24 ?_
      have k := h1 c hc _ (hv.ai _)
      rw [if_neg e] at k
      exact k
theorem c_bd53 (d : zm_d m) (hx : zm_x m h) (hK : zKs K h) (g : zG w N) (ha : w.2.1 1 = a) (hn : a 0 = Int32.ofNat n) (h24 : n < 24) (ht : zTs w N t v) {fx x : Int32} {Q : zw_H → Prop} (h0 : ∀ e, sq_bdC (w.2.1 8) N a n fx x (sp_tk (w.2.1 8) N t.2.2) = .inl e → ∀ v', zEr w e v' → Q (zm_o m v' h)) (h1 : ∀ r, sq_bdC (w.2.1 8) N a n fx x (sp_tk (w.2.1 8) N t.2.2) = .inr r → ∀ v', zTs (zAI w 1 r.1) N r.2 v' → Q (zm_o m v' h)) : f_X2_readsBody_J53 K Q X (some (m 0)) fx x (zm_o m v h) := by
  unfold f_X2_readsBody_J53
  rw [zm_c d]
  refine c_next d g ht (fun v1 hv1 => ?_)
  rw [zm_c d]
  refine c_isWord d hx g hv1 hK.2.2.2.1 ?_
  unfold sq_bdC sq_mt at h0 h1
  generalize sp_tk (w.2.1 8) N t.2.2 = t2 at h0 h1 hv1 ⊢
  by_cases e : sp_isW (w.2.1 8) t2 zs_minus
  · rw [sp_bt e, if_neg (by decide), zm_c d]
    refine c_next d g hv1 (fun v2 hv2 => ?_)
    simp only [if_pos e] at h0 h1
    refine c_bd72 d g ha hn h24 hv2 (fun er he v' hv => h0 er (by rw [he]) v' hv) (fun c hc v' hv => h1 _ (by rw [hc]) v' ?_)
    rw [if_neg (by decide)] at hv
    exact hv
  · rw [sp_bf e, if_pos rfl]
    simp only [if_neg e] at h0 h1
    refine c_bd72 d g ha hn h24 hv1 (fun er he v' hv => h0 er (by rw [he]) v' hv) (fun c hc v' hv => h1 _ (by rw [hc]) v' ?_)
    rw [if_pos rfl] at hv
    exact hv
theorem c_bd16 (d : zm_d m) (hx : zm_x m h) (hK : zKs K h) (g : zG w N) (ha : w.2.1 1 = a) (hn : a 0 = Int32.ofNat n) (h24 : n < 24) (ht : zTs w N t v) {fx : Int32} {Q : zw_H → Prop} (h0 : ∀ e, sq_bdR (w.2.1 8) N a n fx (sp_tk (w.2.1 8) N t.2.2) = .inl e → ∀ v', zEr w e v' → Q (zm_o m v' h)) (h1 : ∀ r, sq_bdR (w.2.1 8) N a n fx (sp_tk (w.2.1 8) N t.2.2) = .inr r → ∀ v', zTs (zAI w 1 r.1) N r.2 v' → Q (zm_o m v' h)) : f_X2_readsBody_J16 K Q X (some (m 0)) fx (zm_o m v h) := by
  unfold f_X2_readsBody_J16
  rw [zm_c d]
  refine c_next d g ht (fun v1 hv1 => ?_)
  rw [zm_c d]
  unfold sq_bdR at h0 h1
  generalize sp_tk (w.2.1 8) N t.2.2 = t1 at h0 h1 hv1 ⊢
  refine c_numH d g hv1 (fun e he v' hv => ?_) (fun x hc => ?_)
  · rw [zm_g10 d, if_pos (zi_pos0 hv.pos), e_J53B d hv.pos]
    rw [he] at h0
    exact h0 e rfl v' hv
  · rw [hc] at h0 h1
    dsimp only at h0 h1
    rw [zm_g10 d, hv1.t10 g, if_neg (fun c => c rfl)]
    by_cases e : fx = 0
    · rw [if_pos e]
      rw [if_neg (fun c => c.1 e)] at h0 h1
      exact c_bd53 d hx hK g ha hn h24 hv1 h0 h1
    · rw [if_neg e, zm_c d]
      refine c_isFixedAt d (n := n) (by rw [hv1.t2, ha]; exact hn) (by omega) ?_
      rw [hv1.t2, ha]
      by_cases e2 : sp_fixedAt a n x < n
      · rw [sp_bt e2, if_neg (by decide), zm_c d]
        rw [if_pos ⟨e, e2⟩] at h0
        refine c_faults d g hv1 (c := 3) (by decide) (by decide) (fun v' hv => ?_)
        rw [e_J53B d hv.pos]
        exact h0 _ rfl v' hv
      · rw [sp_bf e2, if_pos rfl]
        rw [if_neg (fun c => e2 c.2)] at h0 h1
        exact c_bd53 d hx hK g ha hn h24 hv1 h0 h1
theorem c_readsBody (d : zm_d m) (hx : zm_x m h) (hK : zKs K h) (g : zG w N) (ha : w.2.1 1 = a) (hn : a 0 = Int32.ofNat n) (h24 : n ≤ 24) (ht : zTs w N t v) {fx : Int32} {Q : zw_H → Prop} (h0 : ∀ e, sq_bdy (w.2.1 8) N a n fx t = .inl e → ∀ v', zEr w e v' → Q (zm_o m v' h)) (h1 : ∀ r, sq_bdy (w.2.1 8) N a n fx t = .inr r → ∀ v', zTs (zAI w 1 r.1) N r.2 v' → Q (zm_o m v' h)) : f_X2_readsBody K (some (m 0)) fx (zm_o m v h) Q X := by
  unfold f_X2_readsBody
  unfold sq_bdy at h0 h1
  rw [e_n d (show v.2.1 1 0 = Int32.ofNat n by rw [ht.t2, ha]; exact hn)]
  by_cases e : n = 24
  · rw [if_pos e] at h0
    rw [if_neg (fun c => c (by rw [e]; rfl)), zm_c d]
    refine c_faults d g ht (c := 4) (by decide) (by decide) (fun v' hv => ?_)
    rw [e_J16B d hv.pos]
    exact h0 _ rfl v' hv
  · rw [if_neg e] at h0 h1
    rw [if_pos (show Int32.ofNat n ≠ 24 from fun c => e ((zi_inj (b := 24) (by omega) (by decide)).mp c))]
    exact c_bd16 d hx hK g ha hn (by omega) ht h0 h1
theorem sq_bdy_ok {B : Nat → Int32} {fx : Int32} {r : (Nat → Int32) × zTk} (h24 : n ≤ 24) (h : sq_bdy B N a n fx t = .inr r) : n < 24 ∧ ∃ c x, r.1 = sp_add a n (sp_b (fx ≠ 0)) x c ∧ (0 ≤ x ∧ x ≤ 255) ∧ c ≠ 0 ∧ -99 ≤ c ∧ c ≤ 99 := by
  unfold sq_bdy at h
  by_cases e : n = 24
  · rw [if_pos e] at h
    cases h
  rw [if_neg e] at h
  refine ⟨by omega, ?_⟩
  unfold sq_bdR at h
  cases k : sp_nmb B 0 255 (sp_tk B N t.2.2) with
  | inl er =>
    rw [k] at h
    cases h
  | inr x =>
    rw [k] at h
    dsimp only at h
    by_cases e2 : fx ≠ 0 ∧ sp_fixedAt a n x < n
    · rw [if_pos e2] at h
      cases h
    rw [if_neg e2] at h
    unfold sq_bdC at h
    generalize sp_tk B N (sp_tk B N t.2.2).2.2 = t2 at h
    cases k2 : sp_nmb B 1 99 (sq_mt B N t2) with
    | inl er =>
      rw [k2] at h
      cases h
    | inr c =>
      rw [k2] at h
      cases h
      refine ⟨_, x, rfl, sp_nmb_in k, ?_⟩
      have kc := sp_nmb_in k2
      obtain ⟨cn, hcn, rfl⟩ := zi_of (Int32.le_trans (show (0 : Int32) ≤ 1 by decide) kc.1)
      have k3 := (zi_le (a := 1) (by decide) hcn).mp kc.1
      have k4 := (zi_le (b := 99) hcn (by decide)).mp kc.2
      have all : ∀ q : Nat, q < 100 → 1 ≤ q → ∀ p : Bool, (if p then -Int32.ofNat q else Int32.ofNat q) ≠ 0 ∧ -99 ≤ (if p then -Int32.ofNat q else Int32.ofNat q) ∧ (if p then -Int32.ofNat q else Int32.ofNat q) ≤ 99 := by decide
      have k5 := all cn (by omega) k3 (decide (sp_isW B t2 zs_minus))
      by_cases e3 : sp_isW B t2 zs_minus
      · rw [decide_eq_true e3] at k5
        rw [if_pos e3]
        exact k5
      · rw [decide_eq_false e3] at k5
        rw [if_neg e3]
        exact k5
theorem zl1_S {α : Type} {B : (α → Prop) → α → Prop} {M : Nat} {x : α} (h : B (zl1 B M) x) : zl1 B (M + 1) x := h
theorem c_linesB (d : zm_d m) (h0 : 0 < v.1 10) {M : Nat} {Q kk : zw_H → Prop} (hk : kk (zm_o m v h)) : zl1 (f_X2_readsText_B60 K Q X kk (some (m 0))) (M + 1) (zm_o m v h) := by
  refine zl1_S ?_
  unfold f_X2_readsText_B60
  rw [zm_c d, e_isB d h0, if_pos rfl]
  exact hk
theorem c_lns (d : zm_d m) (hx : zm_x m h) (hK : zKs K h) (g : zG w N) {Q kk : zw_H → Prop} : ∀ (f n : Nat) (a : Nat → Int32) (t : zTk) (v : zM) (M : Nat), 26 ≤ n + f → n ≤ 24 → a 0 = Int32.ofNat n → f < M → zTs (zAI w 1 a) N t v → (∀ e, sq_lns (w.2.1 8) N f a n t = .inl e → ∀ v', zEr w e v' → kk (zm_o m v' h)) → (∀ r, sq_lns (w.2.1 8) N f a n t = .inr r → r.1 0 = Int32.ofNat r.2.1 → r.2.1 ≤ 24 → ∀ v', zTs (zAI w 1 r.1) N r.2.2 v' → kk (zm_o m v' h)) → zl1 (f_X2_readsText_B60 K Q X kk (some (m 0))) M (zm_o m v h)
  | 0, n, a, t, v, M, h1, h2, _, _, _, _, _ => by omega
  | f + 1, n, a, t, v, 0, _, _, _, h3, _, _, _ => absurd h3 (Nat.not_lt_zero _)
  | f + 1, n, a, t, v, M + 1, h1, h24, hn, h3, ht, h0, hr => by
    have ga : zG (zAI w 1 a) N := g.ai a
    refine zl1_S ?_
    unfold f_X2_readsText_B60 f_X2_readsText_J92 f_X2_readsText_J105
    unfold sq_lns at h0 hr
    rw [zm_c d, e_isK d ga ht (c := 4) (c' := 4) rfl (by decide)]
    by_cases e : t.1 = 4
    · rw [if_pos e] at h0 hr
      rw [sp_bt e, if_neg (by decide), zm_c d]
      refine c_next d ga ht (fun v1 hv1 => ?_)
      have eB : (zAI w 1 a).2.1 8 = w.2.1 8 := rfl
      rw [eB] at hv1
      generalize sp_tk (w.2.1 8) N t.2.2 = t1 at h0 hr hv1
      have hM : ∃ M', M = M' + 1 := ⟨M - 1, by omega⟩
      obtain ⟨M', rfl⟩ := hM
      have step : ∀ fx : Int32, fx = sp_b (sp_isW (w.2.1 8) t1 zs_fixed) → (sp_isW (w.2.1 8) t1 zs_fixed ∨ sp_isW (w.2.1 8) t1 zs_free) → f_X2_readsBody K (some (m 0)) fx (zm_o m v1 h) (fun h13 => zl1 (f_X2_readsText_B60 K Q X kk (some (m 0))) (M' + 1) h13) X := by
        intro fx hfx hw
        subst hfx
        unfold sq_ln at h0 hr
        rw [if_pos hw] at h0 hr
        refine c_readsBody d hx hK ga (a := a) rfl hn h24 hv1 (fun e he v' hv => ?_) (fun r hrr v' hv => ?_)
        · rw [eB] at he
          rw [he] at h0
          exact c_linesB (Q := Q) d hv.pos (h0 e rfl v' (hv.up (zPr.ai w a)))
        · rw [eB] at hrr
          rw [hrr] at h0 hr
          obtain ⟨hlt, c, x, hr1, -⟩ := sq_bdy_ok h24 hrr
          exact c_lns d hx hK g f (n + 1) r.1 r.2 v' (M' + 1) (by omega) (by omega) (by rw [hr1, sp_add_0]) (by omega) (by rw [zAI_twice] at hv; exact hv) h0 hr
      rw [zm_c d]
      refine c_isWord d hx ga hv1 hK.2.1 ?_
      rw [eB]
      by_cases e1 : sp_isW (w.2.1 8) t1 zs_fixed
      · rw [sp_bt e1, if_pos (by decide), zm_c d]
        have := step 1 (sp_bt e1).symm (Or.inl e1)
        exact this
      · rw [sp_bf e1, if_neg (fun c => c rfl), zm_c d]
        refine c_isWord d hx ga hv1 hK.2.2.1 ?_
        rw [eB]
        by_cases e2 : sp_isW (w.2.1 8) t1 zs_free
        · rw [sp_bt e2, if_neg (by decide), zm_c d]
          exact step 0 (sp_bf e1).symm (Or.inr e2)
        · rw [sp_bf e2, if_pos rfl, zm_c d]
          refine c_faults d ga hv1 (c := 1) (by decide) (by decide) (fun v' hv => ?_)
          unfold sq_ln at h0
          rw [if_neg (fun c => c.elim e1 e2)] at h0
          exact c_linesB (Q := Q) d hv.pos (h0 _ rfl v' (hv.up (zPr.ai w a)))
    · rw [if_neg e] at hr
      rw [sp_bf e, if_pos rfl]
      exact hr _ rfl hn h24 v ht
theorem c_J121 (d : zm_d m) (g : zG w N) (hn : w.2.1 1 0 = Int32.ofNat n) (h24 : n ≤ 24) (ht : zTs w N t v) (k1 : t.1 = 1) {Q : zw_H → Prop} (h0 : ∀ e, sq_end (w.2.1 1) n t = .inl e → ∀ v', zEr w e v' → Q (zm_o m v' h)) (h1 : ∀ r, sq_end (w.2.1 1) n t = .inr r → Q (zm_o m v h)) : f_X2_readsText_J121 K Q X (some (m 0)) (zm_o m v h) := by
  unfold f_X2_readsText_J121
  unfold sq_end at h0 h1
  rw [if_pos k1] at h0 h1
  rw [e_n d (show v.2.1 1 0 = Int32.ofNat n by rw [ht.t2]; exact hn)]
  by_cases e : n = 0
  · rw [if_pos e] at h0
    rw [if_neg (fun c => c (by rw [e]; rfl)), zm_c d]
    exact c_faults d g ht (c := 5) (by decide) (by decide) (fun v' hv => h0 _ rfl v' hv)
  · rw [if_neg e] at h1
    rw [if_pos (show Int32.ofNat n ≠ 0 from fun c => e ((zi_inj (b := 0) (by omega) (by decide)).mp c))]
    exact h1 _ rfl
/-- behind a whole text: the state of the reference -/
def zEnd (w v : zM) : Prop := zPr w v ∧ v.1 10 = 0 ∧ v.1 11 = w.1 11
theorem c_tail (d : zm_d m) (hx : zm_x m h) (hK : zKs K h) (g : zG w N) (hn : a 0 = Int32.ofNat 0) (ht : zTs (zAI w 1 a) N t v) {Q : zw_H → Prop} (h0 : ∀ e, sq_4 (w.2.1 8) N a t = .inl e → ∀ v', zEr w e v' → Q (zm_o m v' h)) (h1 : ∀ r, sq_4 (w.2.1 8) N a t = .inr r → ∀ v', zEnd w v' → v'.2.1 1 = r.1 → Q (zm_o m v' h)) : zl1 (f_X2_readsText_B60 K Q X (fun h16 => oc_ h16 (some (m 0)) [0] (f_X2_is K (some (m 0)) 1 h16 (fun v11 h17 => if v11 ≠ 0 then f_X2_readsText_J121 K Q X (some (m 0)) h17 else oc_ h17 (some (m 0)) [0] (f_X2_faults K (some (m 0)) 1 h17 (fun h19 => f_X2_readsText_J121 K Q X (some (m 0)) h19) X)) X)) (some (m 0))) zfu (zm_o m v h) := by
  unfold sq_4 at h0 h1
  refine c_lns d hx hK g 26 0 a t v zfu (by decide) (by decide) hn (by decide) ht (fun e he v' hv => ?_) (fun r hr hr0 hr24 v' hv => ?_)
  · rw [he] at h0
    rw [zm_c d, e_isB d hv.pos, if_neg (fun c => c rfl), zm_c d, e_faultsB d hv.pos, e_J121B d hv.pos]
    exact h0 e rfl v' hv
  · rw [hr] at h0 h1
    dsimp only at h0 h1
    have gr : zG (zAI w 1 r.1) N := g.ai r.1
    rw [zm_c d, e_isK d gr hv (c := 1) (c' := 1) rfl (by decide)]
    by_cases e : r.2.2.1 = 1
    · rw [sp_bt e, if_pos (by decide)]
      refine c_J121 d gr (n := r.2.1) hr0 hr24 hv e (fun er he v2 hv2 => h0 er he v2 (hv2.up (zPr.ai w r.1))) (fun q hq => h1 q hq v' ⟨(zPr.ai w r.1).tr hv.pr, hv.t10 gr, hv.t11⟩ ?_)
      rw [hv.t2]
      unfold sq_end at hq
      rw [if_pos e] at hq
      by_cases e2 : r.2.1 = 0
      · rw [if_pos e2] at hq
        cases hq
      · rw [if_neg e2] at hq
        cases hq
        rfl
    · rw [sp_bf e, if_neg (fun c => c rfl), zm_c d]
      refine c_faults d gr hv (c := 1) (by decide) (by decide) (fun v2 hv2 => ?_)
      rw [e_J121B d hv2.pos]
      unfold sq_end at h0
      rw [if_neg e] at h0
      exact h0 _ rfl v2 (hv2.up (zPr.ai w r.1))
theorem c_tailB (d : zm_d m) (h0 : 0 < v.1 10) {Q : zw_H → Prop} (hQ : Q (zm_o m v h)) : zl1 (f_X2_readsText_B60 K Q X (fun h16 => oc_ h16 (some (m 0)) [0] (f_X2_is K (some (m 0)) 1 h16 (fun v11 h17 => if v11 ≠ 0 then f_X2_readsText_J121 K Q X (some (m 0)) h17 else oc_ h17 (some (m 0)) [0] (f_X2_faults K (some (m 0)) 1 h17 (fun h19 => f_X2_readsText_J121 K Q X (some (m 0)) h19) X)) X)) (some (m 0))) zfu (zm_o m v h) := by
  refine c_linesB d h0 ?_
  rw [zm_c d, e_isB d h0, if_neg (fun c => c rfl), zm_c d, e_faultsB d h0, e_J121B d h0]
  exact hQ
theorem zv_in {k : Nat} (hk : k < 103) : vp_in (Int32.ofNat k) 103 = True := eq_true (zi_inn hk (by decide))
theorem c_J18 (d : zm_d m) (hx : zm_x m h) (hK : zKs K h) (g : zG w N) (hn : w.2.1 1 0 = Int32.ofNat 0) (ht : zTs w N t v) {Q : zw_H → Prop} (h0 : ∀ e, sq_1 (w.2.1 8) N (w.2.1 1) (sp_tk (w.2.1 8) N t.2.2) = .inl e → ∀ v', zEr w e v' → Q (zm_o m v' h)) (h1 : ∀ r, sq_1 (w.2.1 8) N (w.2.1 1) (sp_tk (w.2.1 8) N t.2.2) = .inr r → ∀ v', zEnd w v' → v'.2.1 1 = r.1 → Q (zm_o m v' h)) : f_X2_readsText_J18 K Q X (some (m 0)) (zm_o m v h) := by
  have b3 := zv_in (k := 3) (by decide)
  have b4 := zv_in (k := 4) (by decide)
  have b5 := zv_in (k := 5) (by decide)
  have s3 : ∀ (w : zM) (x : Int32) (F : zw_H → Prop), os_I (zm_o m w h) (some (m 1)) [0] 3 x F = F (zm_o m (zAI w 1 (upd (w.2.1 1) 3 x)) h) := fun w x F => by
    rw [zm_s1 d (by decide)]
    exact propext ⟨fun e => e.2, fun e => ⟨zi_inn (a := 3) (by decide) (by decide), e⟩⟩
  have s4 : ∀ (w : zM) (x : Int32) (F : zw_H → Prop), os_I (zm_o m w h) (some (m 1)) [0] 4 x F = F (zm_o m (zAI w 1 (upd (w.2.1 1) 4 x)) h) := fun w x F => by
    rw [zm_s1 d (by decide)]
    exact propext ⟨fun e => e.2, fun e => ⟨zi_inn (a := 4) (by decide) (by decide), e⟩⟩
  have s5 : ∀ (w : zM) (x : Int32) (F : zw_H → Prop), os_I (zm_o m w h) (some (m 1)) [0] 5 x F = F (zm_o m (zAI w 1 (upd (w.2.1 1) 5 x)) h) := fun w x F => by
    rw [zm_s1 d (by decide)]
    exact propext ⟨fun e => e.2, fun e => ⟨zi_inn (a := 5) (by decide) (by decide), e⟩⟩
  unfold f_X2_readsText_J18
  rw [zm_c d]
  refine c_next d g ht (fun v1 hv1 => ?_)
  generalize sp_tk (w.2.1 8) N t.2.2 = t1 at h0 h1 hv1
  rw [zm_g1 d, zm_c d]
  unfold sq_1 at h0 h1
  refine c_num d g hv1 (fun e he v' hv => ?_) (fun x3 hx3 v2 hv2 => ?_)
  · rw [he] at h0
    rw [s3, zm_g1 d, zm_c d, e_numB d (hv.ai _).pos, s4, zm_g1 d, zm_c d, e_numB d ((hv.ai _).ai _).pos, s5]
    exact c_tailB d (((hv.ai _).ai _).ai _).pos (h0 e rfl _ (((hv.ai _).ai _).ai _))
  rw [hx3] at h0 h1
  dsimp only at h0 h1
  rw [s3, zm_g1 d, zm_c d, hv2.t2]
  have hv2 := hv2.ai (upd (w.2.1 1) 3 x3)
  have g2 := g.ai (upd (w.2.1 1) 3 x3)
  generalize sp_tk (w.2.1 8) N t1.2.2 = t2 at h0 h1 hv2
  generalize hw2 : zAI w 1 (upd (w.2.1 1) 3 x3) = w2 at hv2 g2
  have e8 : w2.2.1 8 = w.2.1 8 := by rw [← hw2]; rfl
  have e1 : w2.2.1 1 = upd (w.2.1 1) 3 x3 := by rw [← hw2]; rfl
  have q2 : w2.1 11 = w.1 11 := by rw [← hw2]; rfl
  have p2 : zPr w w2 := by rw [← hw2]; exact zPr.ai _ _
  clear hw2
  generalize zAI v2 1 (upd (w.2.1 1) 3 x3) = v2 at hv2 ⊢
  rw [← e1, ← e8] at h0 h1
  unfold sq_2 at h0 h1
  refine c_num d g2 hv2 (fun e he v' hv => ?_) (fun x4 hx4 v3 hv3 => ?_)
  · rw [he] at h0
    rw [s4, zm_g1 d, zm_c d, e_numB d (hv.ai _).pos, s5]
    exact c_tailB d ((hv.ai _).ai _).pos (h0 e rfl _ (((hv.ai _).ai _).up p2))
  rw [hx4] at h0 h1
  dsimp only at h0 h1
  rw [s4, zm_g1 d, zm_c d, hv3.t2]
  have hv3 := hv3.ai (upd (w2.2.1 1) 4 x4)
  have g3 := g2.ai (upd (w2.2.1 1) 4 x4)
  generalize sp_tk (w2.2.1 8) N t2.2.2 = t3 at h0 h1 hv3
  generalize hw3 : zAI w2 1 (upd (w2.2.1 1) 4 x4) = w3 at hv3 g3
  have f8 : w3.2.1 8 = w2.2.1 8 := by rw [← hw3]; rfl
  have f1 : w3.2.1 1 = upd (w2.2.1 1) 4 x4 := by rw [← hw3]; rfl
  have q3 : w3.1 11 = w.1 11 := (show w3.1 11 = w2.1 11 by rw [← hw3]; rfl).trans q2
  have p3 : zPr w w3 := p2.tr (by rw [← hw3]; exact zPr.ai _ _)
  clear hw3
  generalize zAI v3 1 (upd (w2.2.1 1) 4 x4) = v3 at hv3 ⊢
  rw [← f1, ← f8] at h0 h1
  unfold sq_3 at h0 h1
  refine c_num d g3 hv3 (fun e he v' hv => ?_) (fun x5 hx5 v4 hv4 => ?_)
  · rw [he] at h0
    rw [s5]
    exact c_tailB d (hv.ai _).pos (h0 e rfl _ ((hv.ai _).up p3))
  rw [hx5] at h0 h1
  dsimp only at h0 h1
  rw [s5, hv4.t2]
  have hv4 := hv4.ai (upd (w3.2.1 1) 5 x5)
  have en : upd (w3.2.1 1) 5 x5 0 = Int32.ofNat 0 := by rw [f1, e1]; exact hn
  refine c_tail d hx hK g3 en hv4 (fun e he v' hv => h0 e he v' (hv.up p3)) (fun r hr v' hv => h1 r hr v' ⟨p3.tr hv.1, hv.2.1, hv.2.2.trans q3⟩)
theorem c_readsText (d : zm_d m) (hx : zm_x m h) (hK : zKs K h) (g : zG w N) (hn : w.2.1 1 0 = Int32.ofNat 0) (h13 : w.1 13 = 0) {Q : zw_H → Prop} (h0 : ∀ e, sq_all (w.2.1 8) N (w.2.1 1) = .inl e → ∀ v', zEr w e v' → Q (zm_o m v' h)) (h1 : ∀ r, sq_all (w.2.1 8) N (w.2.1 1) = .inr r → ∀ v', zEnd w v' → v'.2.1 1 = r.1 → Q (zm_o m v' h)) : f_X2_readsText K (some (m 0)) (zm_o m w h) Q X := by
  unfold f_X2_readsText
  rw [zm_c d]
  have key : ∀ w2, w2 = w → f_X2_next K (some (m 0)) (zm_o m w2 h) (fun h1 => oc_ h1 (some (m 0)) [0] (f_X2_isWord K (some (m 0)) (K 16) h1 (fun v1 h2 => if v1 ≠ 0 then f_X2_readsText_J18 K Q X (some (m 0)) h2 else oc_ h2 (some (m 0)) [0] (f_X2_faults K (some (m 0)) 1 h2 (fun h20 => f_X2_readsText_J18 K Q X (some (m 0)) h20) X)) X)) X := by
    intro w2 hw2
    rw [zT_eta w] at hw2
    subst hw2
    rw [h13]
    refine c_next0 d g (i := 0) (Nat.zero_le _) (fun v1 hv1 => ?_)
    unfold sq_all at h0 h1
    rw [zm_c d]
    refine c_isWord d hx g hv1 hK.1 ?_
    by_cases e : sp_isW (w.2.1 8) (sp_tk (w.2.1 8) N 0) zs_line
    · rw [if_pos e] at h0 h1
      rw [sp_bt e, if_pos (by decide)]
      exact c_J18 d hx hK g hn hv1 h0 h1
    · rw [if_neg e] at h0
      rw [sp_bf e, if_neg (fun c => c rfl), zm_c d]
      refine c_faults d g hv1 (c := 1) (by decide) (by decide) (fun v' hv => ?_)
      unfold f_X2_readsText_J18
      have s3 : ∀ (w : zM) (x : Int32) (F : zw_H → Prop), os_I (zm_o m w h) (some (m 1)) [0] 3 x F = F (zm_o m (zAI w 1 (upd (w.2.1 1) 3 x)) h) := fun w x F => by
        rw [zm_s1 d (by decide)]
        exact propext ⟨fun e => e.2, fun e => ⟨zi_inn (a := 3) (by decide) (by decide), e⟩⟩
      have s4 : ∀ (w : zM) (x : Int32) (F : zw_H → Prop), os_I (zm_o m w h) (some (m 1)) [0] 4 x F = F (zm_o m (zAI w 1 (upd (w.2.1 1) 4 x)) h) := fun w x F => by
        rw [zm_s1 d (by decide)]
        exact propext ⟨fun e => e.2, fun e => ⟨zi_inn (a := 4) (by decide) (by decide), e⟩⟩
      have s5 : ∀ (w : zM) (x : Int32) (F : zw_H → Prop), os_I (zm_o m w h) (some (m 1)) [0] 5 x F = F (zm_o m (zAI w 1 (upd (w.2.1 1) 5 x)) h) := fun w x F => by
        rw [zm_s1 d (by decide)]
        exact propext ⟨fun e => e.2, fun e => ⟨zi_inn (a := 5) (by decide) (by decide), e⟩⟩
      rw [zm_c d, e_nextB d hv.pos, zm_g1 d, zm_c d, e_numB d hv.pos, s3, zm_g1 d, zm_c d, e_numB d (hv.ai _).pos, s4, zm_g1 d, zm_c d, e_numB d ((hv.ai _).ai _).pos, s5]
      exact c_tailB d (((hv.ai _).ai _).ai _).pos (h0 _ rfl _ (((hv.ai _).ai _).ai _))
  exact key w rfl
end ZM25
