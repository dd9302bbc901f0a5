/-! loops along sequences of states -/
def zacc {α : Type} (f : Nat → α → α) (a : α) : Nat → α
  | 0 => a
  | b + 1 => f b (zacc f a b)
theorem zacc_cong {α : Type} {f g : Nat → α → α} {a : α} : ∀ {n : Nat}, (∀ b, b < n → ∀ x, f b x = g b x) → zacc f a n = zacc g a n
  | 0, _ => rfl
  | n + 1, h => by
    show f n (zacc f a n) = g n (zacc g a n)
    rw [zacc_cong (n := n) (fun b hb => h b (Nat.lt_succ_of_lt hb)), h n (Nat.lt_succ_self n)]
theorem zl1_inv {α1 : Type} {B : (α1 → Prop) → α1 → Prop} (P : Nat → α1 → Prop) {n : Nat} (hs : ∀ (R : α1 → Prop) (b : Nat), b < n → ∀ x1, P b x1 → (∀ y1, P (b + 1) y1 → R y1) → B R x1) (he : ∀ (R : α1 → Prop) x1, P n x1 → B R x1) : ∀ (k N b : Nat), b + k = n → k < N → ∀ x1, P b x1 → zl1 B N x1
  | 0, N + 1, b, h1, _, x1, hp => by
    have e : b = n := by omega
    subst e
    exact he _ x1 hp
  | k + 1, N + 1, b, h1, h2, x1, hp => hs _ b (by omega) x1 hp (fun y1 hq => zl1_inv P hs he k N (b + 1) (by omega) (by omega) y1 hq)
theorem zl1_run {α1 : Type} {B : (α1 → Prop) → α1 → Prop} (s1 : Nat → α1) {n : Nat} (hs : ∀ (R : α1 → Prop) (b : Nat), b < n → R (s1 (b + 1)) → B R (s1 b)) (he : ∀ R : α1 → Prop, B R (s1 n)) : ∀ (k N b : Nat), b + k = n → k < N → zl1 B N (s1 b)
  | 0, N + 1, b, h1, _ => by
    have e : b = n := by omega
    subst e
    exact he _
  | k + 1, N + 1, b, h1, h2 => hs _ b (by omega) (zl1_run s1 hs he k N (b + 1) (by omega) (by omega))
theorem zl2_inv {α1 α2 : Type} {B : (α1 → α2 → Prop) → α1 → α2 → Prop} (P : Nat → α1 → α2 → Prop) {n : Nat} (hs : ∀ (R : α1 → α2 → Prop) (b : Nat), b < n → ∀ x1 x2, P b x1 x2 → (∀ y1 y2, P (b + 1) y1 y2 → R y1 y2) → B R x1 x2) (he : ∀ (R : α1 → α2 → Prop) x1 x2, P n x1 x2 → B R x1 x2) : ∀ (k N b : Nat), b + k = n → k < N → ∀ x1 x2, P b x1 x2 → zl2 B N x1 x2
  | 0, N + 1, b, h1, _, x1, x2, hp => by
    have e : b = n := by omega
    subst e
    exact he _ x1 x2 hp
  | k + 1, N + 1, b, h1, h2, x1, x2, hp => hs _ b (by omega) x1 x2 hp (fun y1 y2 hq => zl2_inv P hs he k N (b + 1) (by omega) (by omega) y1 y2 hq)
theorem zl2_run {α1 α2 : Type} {B : (α1 → α2 → Prop) → α1 → α2 → Prop} (s1 : Nat → α1) (s2 : Nat → α2) {n : Nat} (hs : ∀ (R : α1 → α2 → Prop) (b : Nat), b < n → R (s1 (b + 1)) (s2 (b + 1)) → B R (s1 b) (s2 b)) (he : ∀ R : α1 → α2 → Prop, B R (s1 n) (s2 n)) : ∀ (k N b : Nat), b + k = n → k < N → zl2 B N (s1 b) (s2 b)
  | 0, N + 1, b, h1, _ => by
    have e : b = n := by omega
    subst e
    exact he _
  | k + 1, N + 1, b, h1, h2 => hs _ b (by omega) (zl2_run s1 s2 hs he k N (b + 1) (by omega) (by omega))
theorem zl3_inv {α1 α2 α3 : Type} {B : (α1 → α2 → α3 → Prop) → α1 → α2 → α3 → Prop} (P : Nat → α1 → α2 → α3 → Prop) {n : Nat} (hs : ∀ (R : α1 → α2 → α3 → Prop) (b : Nat), b < n → ∀ x1 x2 x3, P b x1 x2 x3 → (∀ y1 y2 y3, P (b + 1) y1 y2 y3 → R y1 y2 y3) → B R x1 x2 x3) (he : ∀ (R : α1 → α2 → α3 → Prop) x1 x2 x3, P n x1 x2 x3 → B R x1 x2 x3) : ∀ (k N b : Nat), b + k = n → k < N → ∀ x1 x2 x3, P b x1 x2 x3 → zl3 B N x1 x2 x3
  | 0, N + 1, b, h1, _, x1, x2, x3, hp => by
    have e : b = n := by omega
    subst e
    exact he _ x1 x2 x3 hp
  | k + 1, N + 1, b, h1, h2, x1, x2, x3, hp => hs _ b (by omega) x1 x2 x3 hp (fun y1 y2 y3 hq => zl3_inv P hs he k N (b + 1) (by omega) (by omega) y1 y2 y3 hq)
theorem zl3_run {α1 α2 α3 : Type} {B : (α1 → α2 → α3 → Prop) → α1 → α2 → α3 → Prop} (s1 : Nat → α1) (s2 : Nat → α2) (s3 : Nat → α3) {n : Nat} (hs : ∀ (R : α1 → α2 → α3 → Prop) (b : Nat), b < n → R (s1 (b + 1)) (s2 (b + 1)) (s3 (b + 1)) → B R (s1 b) (s2 b) (s3 b)) (he : ∀ R : α1 → α2 → α3 → Prop, B R (s1 n) (s2 n) (s3 n)) : ∀ (k N b : Nat), b + k = n → k < N → zl3 B N (s1 b) (s2 b) (s3 b)
  | 0, N + 1, b, h1, _ => by
    have e : b = n := by omega
    subst e
    exact he _
  | k + 1, N + 1, b, h1, h2 => hs _ b (by omega) (zl3_run s1 s2 s3 hs he k N (b + 1) (by omega) (by omega))
theorem zl4_inv {α1 α2 α3 α4 : Type} {B : (α1 → α2 → α3 → α4 → Prop) → α1 → α2 → α3 → α4 → Prop} (P : Nat → α1 → α2 → α3 → α4 → Prop) {n : Nat} (hs : ∀ (R : α1 → α2 → α3 → α4 → Prop) (b : Nat), b < n → ∀ x1 x2 x3 x4, P b x1 x2 x3 x4 → (∀ y1 y2 y3 y4, P (b + 1) y1 y2 y3 y4 → R y1 y2 y3 y4) → B R x1 x2 x3 x4) (he : ∀ (R : α1 → α2 → α3 → α4 → Prop) x1 x2 x3 x4, P n x1 x2 x3 x4 → B R x1 x2 x3 x4) : ∀ (k N b : Nat), b + k = n → k < N → ∀ x1 x2 x3 x4, P b x1 x2 x3 x4 → zl4 B N x1 x2 x3 x4
  | 0, N + 1, b, h1, _, x1, x2, x3, x4, hp => by
    have e : b = n := by omega
    subst e
    exact he _ x1 x2 x3 x4 hp
  | k + 1, N + 1, b, h1, h2, x1, x2, x3, x4, hp => hs _ b (by omega) x1 x2 x3 x4 hp (fun y1 y2 y3 y4 hq => zl4_inv P hs he k N (b + 1) (by omega) (by omega) y1 y2 y3 y4 hq)
theorem zl4_run {α1 α2 α3 α4 : Type} {B : (α1 → α2 → α3 → α4 → Prop) → α1 → α2 → α3 → α4 → Prop} (s1 : Nat → α1) (s2 : Nat → α2) (s3 : Nat → α3) (s4 : Nat → α4) {n : Nat} (hs : ∀ (R : α1 → α2 → α3 → α4 → Prop) (b : Nat), b < n → R (s1 (b + 1)) (s2 (b + 1)) (s3 (b + 1)) (s4 (b + 1)) → B R (s1 b) (s2 b) (s3 b) (s4 b)) (he : ∀ R : α1 → α2 → α3 → α4 → Prop, B R (s1 n) (s2 n) (s3 n) (s4 n)) : ∀ (k N b : Nat), b + k = n → k < N → zl4 B N (s1 b) (s2 b) (s3 b) (s4 b)
  | 0, N + 1, b, h1, _ => by
    have e : b = n := by omega
    subst e
    exact he _
  | k + 1, N + 1, b, h1, h2 => hs _ b (by omega) (zl4_run s1 s2 s3 s4 hs he k N (b + 1) (by omega) (by omega))
theorem zl5_inv {α1 α2 α3 α4 α5 : Type} {B : (α1 → α2 → α3 → α4 → α5 → Prop) → α1 → α2 → α3 → α4 → α5 → Prop} (P : Nat → α1 → α2 → α3 → α4 → α5 → Prop) {n : Nat} (hs : ∀ (R : α1 → α2 → α3 → α4 → α5 → Prop) (b : Nat), b < n → ∀ x1 x2 x3 x4 x5, P b x1 x2 x3 x4 x5 → (∀ y1 y2 y3 y4 y5, P (b + 1) y1 y2 y3 y4 y5 → R y1 y2 y3 y4 y5) → B R x1 x2 x3 x4 x5) (he : ∀ (R : α1 → α2 → α3 → α4 → α5 → Prop) x1 x2 x3 x4 x5, P n x1 x2 x3 x4 x5 → B R x1 x2 x3 x4 x5) : ∀ (k N b : Nat), b + k = n → k < N → ∀ x1 x2 x3 x4 x5, P b x1 x2 x3 x4 x5 → zl5 B N x1 x2 x3 x4 x5
  | 0, N + 1, b, h1, _, x1, x2, x3, x4, x5, hp => by
    have e : b = n := by omega
    subst e
    exact he _ x1 x2 x3 x4 x5 hp
  | k + 1, N + 1, b, h1, h2, x1, x2, x3, x4, x5, hp => hs _ b (by omega) x1 x2 x3 x4 x5 hp (fun y1 y2 y3 y4 y5 hq => zl5_inv P hs he k N (b + 1) (by omega) (by omega) y1 y2 y3 y4 y5 hq)
theorem zl5_run {α1 α2 α3 α4 α5 : Type} {B : (α1 → α2 → α3 → α4 → α5 → Prop) → α1 → α2 → α3 → α4 → α5 → Prop} (s1 : Nat → α1) (s2 : Nat → α2) (s3 : Nat → α3) (s4 : Nat → α4) (s5 : Nat → α5) {n : Nat} (hs : ∀ (R : α1 → α2 → α3 → α4 → α5 → Prop) (b : Nat), b < n → R (s1 (b + 1)) (s2 (b + 1)) (s3 (b + 1)) (s4 (b + 1)) (s5 (b + 1)) → B R (s1 b) (s2 b) (s3 b) (s4 b) (s5 b)) (he : ∀ R : α1 → α2 → α3 → α4 → α5 → Prop, B R (s1 n) (s2 n) (s3 n) (s4 n) (s5 n)) : ∀ (k N b : Nat), b + k = n → k < N → zl5 B N (s1 b) (s2 b) (s3 b) (s4 b) (s5 b)
  | 0, N + 1, b, h1, _ => by
    have e : b = n := by omega
    subst e
    exact he _
  | k + 1, N + 1, b, h1, h2 => hs _ b (by omega) (zl5_run s1 s2 s3 s4 s5 hs he k N (b + 1) (by omega) (by omega))
theorem zl6_inv {α1 α2 α3 α4 α5 α6 : Type} {B : (α1 → α2 → α3 → α4 → α5 → α6 → Prop) → α1 → α2 → α3 → α4 → α5 → α6 → Prop} (P : Nat → α1 → α2 → α3 → α4 → α5 → α6 → Prop) {n : Nat} (hs : ∀ (R : α1 → α2 → α3 → α4 → α5 → α6 → Prop) (b : Nat), b < n → ∀ x1 x2 x3 x4 x5 x6, P b x1 x2 x3 x4 x5 x6 → (∀ y1 y2 y3 y4 y5 y6, P (b + 1) y1 y2 y3 y4 y5 y6 → R y1 y2 y3 y4 y5 y6) → B R x1 x2 x3 x4 x5 x6) (he : ∀ (R : α1 → α2 → α3 → α4 → α5 → α6 → Prop) x1 x2 x3 x4 x5 x6, P n x1 x2 x3 x4 x5 x6 → B R x1 x2 x3 x4 x5 x6) : ∀ (k N b : Nat), b + k = n → k < N → ∀ x1 x2 x3 x4 x5 x6, P b x1 x2 x3 x4 x5 x6 → zl6 B N x1 x2 x3 x4 x5 x6
  | 0, N + 1, b, h1, _, x1, x2, x3, x4, x5, x6, hp => by
    have e : b = n := by omega
    subst e
    exact he _ x1 x2 x3 x4 x5 x6 hp
  | k + 1, N + 1, b, h1, h2, x1, x2, x3, x4, x5, x6, hp => hs _ b (by omega) x1 x2 x3 x4 x5 x6 hp (fun y1 y2 y3 y4 y5 y6 hq => zl6_inv P hs he k N (b + 1) (by omega) (by omega) y1 y2 y3 y4 y5 y6 hq)
theorem zl6_run {α1 α2 α3 α4 α5 α6 : Type} {B : (α1 → α2 → α3 → α4 → α5 → α6 → Prop) → α1 → α2 → α3 → α4 → α5 → α6 → Prop} (s1 : Nat → α1) (s2 : Nat → α2) (s3 : Nat → α3) (s4 : Nat → α4) (s5 : Nat → α5) (s6 : Nat → α6) {n : Nat} (hs : ∀ (R : α1 → α2 → α3 → α4 → α5 → α6 → Prop) (b : Nat), b < n → R (s1 (b + 1)) (s2 (b + 1)) (s3 (b + 1)) (s4 (b + 1)) (s5 (b + 1)) (s6 (b + 1)) → B R (s1 b) (s2 b) (s3 b) (s4 b) (s5 b) (s6 b)) (he : ∀ R : α1 → α2 → α3 → α4 → α5 → α6 → Prop, B R (s1 n) (s2 n) (s3 n) (s4 n) (s5 n) (s6 n)) : ∀ (k N b : Nat), b + k = n → k < N → zl6 B N (s1 b) (s2 b) (s3 b) (s4 b) (s5 b) (s6 b)
  | 0, N + 1, b, h1, _ => by
    have e : b = n := by omega
    subst e
    exact he _
  | k + 1, N + 1, b, h1, h2 => hs _ b (by omega) (zl6_run s1 s2 s3 s4 s5 s6 hs he k N (b + 1) (by omega) (by omega))
theorem zl7_inv {α1 α2 α3 α4 α5 α6 α7 : Type} {B : (α1 → α2 → α3 → α4 → α5 → α6 → α7 → Prop) → α1 → α2 → α3 → α4 → α5 → α6 → α7 → Prop} (P : Nat → α1 → α2 → α3 → α4 → α5 → α6 → α7 → Prop) {n : Nat} (hs : ∀ (R : α1 → α2 → α3 → α4 → α5 → α6 → α7 → Prop) (b : Nat), b < n → ∀ x1 x2 x3 x4 x5 x6 x7, P b x1 x2 x3 x4 x5 x6 x7 → (∀ y1 y2 y3 y4 y5 y6 y7, P (b + 1) y1 y2 y3 y4 y5 y6 y7 → R y1 y2 y3 y4 y5 y6 y7) → B R x1 x2 x3 x4 x5 x6 x7) (he : ∀ (R : α1 → α2 → α3 → α4 → α5 → α6 → α7 → Prop) x1 x2 x3 x4 x5 x6 x7, P n x1 x2 x3 x4 x5 x6 x7 → B R x1 x2 x3 x4 x5 x6 x7) : ∀ (k N b : Nat), b + k = n → k < N → ∀ x1 x2 x3 x4 x5 x6 x7, P b x1 x2 x3 x4 x5 x6 x7 → zl7 B N x1 x2 x3 x4 x5 x6 x7
  | 0, N + 1, b, h1, _, x1, x2, x3, x4, x5, x6, x7, hp => by
    have e : b = n := by omega
    subst e
    exact he _ x1 x2 x3 x4 x5 x6 x7 hp
  | k + 1, N + 1, b, h1, h2, x1, x2, x3, x4, x5, x6, x7, hp => hs _ b (by omega) x1 x2 x3 x4 x5 x6 x7 hp (fun y1 y2 y3 y4 y5 y6 y7 hq => zl7_inv P hs he k N (b + 1) (by omega) (by omega) y1 y2 y3 y4 y5 y6 y7 hq)
theorem zl7_run {α1 α2 α3 α4 α5 α6 α7 : Type} {B : (α1 → α2 → α3 → α4 → α5 → α6 → α7 → Prop) → α1 → α2 → α3 → α4 → α5 → α6 → α7 → Prop} (s1 : Nat → α1) (s2 : Nat → α2) (s3 : Nat → α3) (s4 : Nat → α4) (s5 : Nat → α5) (s6 : Nat → α6) (s7 : Nat → α7) {n : Nat} (hs : ∀ (R : α1 → α2 → α3 → α4 → α5 → α6 → α7 → Prop) (b : Nat), b < n → R (s1 (b + 1)) (s2 (b + 1)) (s3 (b + 1)) (s4 (b + 1)) (s5 (b + 1)) (s6 (b + 1)) (s7 (b + 1)) → B R (s1 b) (s2 b) (s3 b) (s4 b) (s5 b) (s6 b) (s7 b)) (he : ∀ R : α1 → α2 → α3 → α4 → α5 → α6 → α7 → Prop, B R (s1 n) (s2 n) (s3 n) (s4 n) (s5 n) (s6 n) (s7 n)) : ∀ (k N b : Nat), b + k = n → k < N → zl7 B N (s1 b) (s2 b) (s3 b) (s4 b) (s5 b) (s6 b) (s7 b)
  | 0, N + 1, b, h1, _ => by
    have e : b = n := by omega
    subst e
    exact he _
  | k + 1, N + 1, b, h1, h2 => hs _ b (by omega) (zl7_run s1 s2 s3 s4 s5 s6 s7 hs he k N (b + 1) (by omega) (by omega))
theorem zl8_inv {α1 α2 α3 α4 α5 α6 α7 α8 : Type} {B : (α1 → α2 → α3 → α4 → α5 → α6 → α7 → α8 → Prop) → α1 → α2 → α3 → α4 → α5 → α6 → α7 → α8 → Prop} (P : Nat → α1 → α2 → α3 → α4 → α5 → α6 → α7 → α8 → Prop) {n : Nat} (hs : ∀ (R : α1 → α2 → α3 → α4 → α5 → α6 → α7 → α8 → Prop) (b : Nat), b < n → ∀ x1 x2 x3 x4 x5 x6 x7 x8, P b x1 x2 x3 x4 x5 x6 x7 x8 → (∀ y1 y2 y3 y4 y5 y6 y7 y8, P (b + 1) y1 y2 y3 y4 y5 y6 y7 y8 → R y1 y2 y3 y4 y5 y6 y7 y8) → B R x1 x2 x3 x4 x5 x6 x7 x8) (he : ∀ (R : α1 → α2 → α3 → α4 → α5 → α6 → α7 → α8 → Prop) x1 x2 x3 x4 x5 x6 x7 x8, P n x1 x2 x3 x4 x5 x6 x7 x8 → B R x1 x2 x3 x4 x5 x6 x7 x8) : ∀ (k N b : Nat), b + k = n → k < N → ∀ x1 x2 x3 x4 x5 x6 x7 x8, P b x1 x2 x3 x4 x5 x6 x7 x8 → zl8 B N x1 x2 x3 x4 x5 x6 x7 x8
  | 0, N + 1, b, h1, _, x1, x2, x3, x4, x5, x6, x7, x8, hp => by
    have e : b = n := by omega
    subst e
    exact he _ x1 x2 x3 x4 x5 x6 x7 x8 hp
  | k + 1, N + 1, b, h1, h2, x1, x2, x3, x4, x5, x6, x7, x8, hp => hs _ b (by omega) x1 x2 x3 x4 x5 x6 x7 x8 hp (fun y1 y2 y3 y4 y5 y6 y7 y8 hq => zl8_inv P hs he k N (b + 1) (by omega) (by omega) y1 y2 y3 y4 y5 y6 y7 y8 hq)
theorem zl8_run {α1 α2 α3 α4 α5 α6 α7 α8 : Type} {B : (α1 → α2 → α3 → α4 → α5 → α6 → α7 → α8 → Prop) → α1 → α2 → α3 → α4 → α5 → α6 → α7 → α8 → Prop} (s1 : Nat → α1) (s2 : Nat → α2) (s3 : Nat → α3) (s4 : Nat → α4) (s5 : Nat → α5) (s6 : Nat → α6) (s7 : Nat → α7) (s8 : Nat → α8) {n : Nat} (hs : ∀ (R : α1 → α2 → α3 → α4 → α5 → α6 → α7 → α8 → Prop) (b : Nat), b < n → R (s1 (b + 1)) (s2 (b + 1)) (s3 (b + 1)) (s4 (b + 1)) (s5 (b + 1)) (s6 (b + 1)) (s7 (b + 1)) (s8 (b + 1)) → B R (s1 b) (s2 b) (s3 b) (s4 b) (s5 b) (s6 b) (s7 b) (s8 b)) (he : ∀ R : α1 → α2 → α3 → α4 → α5 → α6 → α7 → α8 → Prop, B R (s1 n) (s2 n) (s3 n) (s4 n) (s5 n) (s6 n) (s7 n) (s8 n)) : ∀ (k N b : Nat), b + k = n → k < N → zl8 B N (s1 b) (s2 b) (s3 b) (s4 b) (s5 b) (s6 b) (s7 b) (s8 b)
  | 0, N + 1, b, h1, _ => by
    have e : b = n := by omega
    subst e
    exact he _
  | k + 1, N + 1, b, h1, h2 => hs _ b (by omega) (zl8_run s1 s2 s3 s4 s5 s6 s7 s8 hs he k N (b + 1) (by omega) (by omega))
theorem zl9_inv {α1 α2 α3 α4 α5 α6 α7 α8 α9 : Type} {B : (α1 → α2 → α3 → α4 → α5 → α6 → α7 → α8 → α9 → Prop) → α1 → α2 → α3 → α4 → α5 → α6 → α7 → α8 → α9 → Prop} (P : Nat → α1 → α2 → α3 → α4 → α5 → α6 → α7 → α8 → α9 → Prop) {n : Nat} (hs : ∀ (R : α1 → α2 → α3 → α4 → α5 → α6 → α7 → α8 → α9 → Prop) (b : Nat), b < n → ∀ x1 x2 x3 x4 x5 x6 x7 x8 x9, P b x1 x2 x3 x4 x5 x6 x7 x8 x9 → (∀ y1 y2 y3 y4 y5 y6 y7 y8 y9, P (b + 1) y1 y2 y3 y4 y5 y6 y7 y8 y9 → R y1 y2 y3 y4 y5 y6 y7 y8 y9) → B R x1 x2 x3 x4 x5 x6 x7 x8 x9) (he : ∀ (R : α1 → α2 → α3 → α4 → α5 → α6 → α7 → α8 → α9 → Prop) x1 x2 x3 x4 x5 x6 x7 x8 x9, P n x1 x2 x3 x4 x5 x6 x7 x8 x9 → B R x1 x2 x3 x4 x5 x6 x7 x8 x9) : ∀ (k N b : Nat), b + k = n → k < N → ∀ x1 x2 x3 x4 x5 x6 x7 x8 x9, P b x1 x2 x3 x4 x5 x6 x7 x8 x9 → zl9 B N x1 x2 x3 x4 x5 x6 x7 x8 x9
  | 0, N + 1, b, h1, _, x1, x2, x3, x4, x5, x6, x7, x8, x9, hp => by
    have e : b = n := by omega
    subst e
    exact he _ x1 x2 x3 x4 x5 x6 x7 x8 x9 hp
  | k + 1, N + 1, b, h1, h2, x1, x2, x3, x4, x5, x6, x7, x8, x9, hp => hs _ b (by omega) x1 x2 x3 x4 x5 x6 x7 x8 x9 hp (fun y1 y2 y3 y4 y5 y6 y7 y8 y9 hq => zl9_inv P hs he k N (b + 1) (by omega) (by omega) y1 y2 y3 y4 y5 y6 y7 y8 y9 hq)
theorem zl9_run {α1 α2 α3 α4 α5 α6 α7 α8 α9 : Type} {B : (α1 → α2 → α3 → α4 → α5 → α6 → α7 → α8 → α9 → Prop) → α1 → α2 → α3 → α4 → α5 → α6 → α7 → α8 → α9 → Prop} (s1 : Nat → α1) (s2 : Nat → α2) (s3 : Nat → α3) (s4 : Nat → α4) (s5 : Nat → α5) (s6 : Nat → α6) (s7 : Nat → α7) (s8 : Nat → α8) (s9 : Nat → α9) {n : Nat} (hs : ∀ (R : α1 → α2 → α3 → α4 → α5 → α6 → α7 → α8 → α9 → Prop) (b : Nat), b < n → R (s1 (b + 1)) (s2 (b + 1)) (s3 (b + 1)) (s4 (b + 1)) (s5 (b + 1)) (s6 (b + 1)) (s7 (b + 1)) (s8 (b + 1)) (s9 (b + 1)) → B R (s1 b) (s2 b) (s3 b) (s4 b) (s5 b) (s6 b) (s7 b) (s8 b) (s9 b)) (he : ∀ R : α1 → α2 → α3 → α4 → α5 → α6 → α7 → α8 → α9 → Prop, B R (s1 n) (s2 n) (s3 n) (s4 n) (s5 n) (s6 n) (s7 n) (s8 n) (s9 n)) : ∀ (k N b : Nat), b + k = n → k < N → zl9 B N (s1 b) (s2 b) (s3 b) (s4 b) (s5 b) (s6 b) (s7 b) (s8 b) (s9 b)
  | 0, N + 1, b, h1, _ => by
    have e : b = n := by omega
    subst e
    exact he _
  | k + 1, N + 1, b, h1, h2 => hs _ b (by omega) (zl9_run s1 s2 s3 s4 s5 s6 s7 s8 s9 hs he k N (b + 1) (by omega) (by omega))
theorem zi_nat {n : Nat} (h : n < 2 ^ 31) : (Int32.ofNat n).toInt = (n : Int) := Int32.toInt_ofNat_of_lt h
theorem zi_clamp {n : Nat} (h : n < 2 ^ 31) : (Int32.ofNat n).toNatClampNeg = n := by
  show (Int32.ofNat n).toInt.toNat = n
  rw [zi_nat h]
  rfl
theorem zi_succ (n : Nat) : Int32.ofNat n + 1 = Int32.ofNat (n + 1) := (Int32.ofNat_add n 1).symm
theorem zi_le {a b : Nat} (ha : a < 2 ^ 31) (hb : b < 2 ^ 31) : Int32.ofNat a ≤ Int32.ofNat b ↔ a ≤ b := by
  rw [Int32.le_iff_toInt_le, zi_nat ha, zi_nat hb]
  omega
theorem zi_lt {a b : Nat} (ha : a < 2 ^ 31) (hb : b < 2 ^ 31) : Int32.ofNat a < Int32.ofNat b ↔ a < b := by
  rw [Int32.lt_iff_toInt_lt, zi_nat ha, zi_nat hb]
  omega
theorem zi_of {x : Int32} (h : 0 ≤ x) : ∃ n : Nat, n < 2 ^ 31 ∧ x = Int32.ofNat n := by
  have h1 := Int32.le_iff_toInt_le.mp h
  have h2 := x.toInt_lt
  have h3 : (0 : Int32).toInt = 0 := rfl
  refine ⟨x.toInt.toNat, by omega, ?_⟩
  rw [← Int32.toInt_inj, zi_nat (by omega)]
  omega
theorem zi_in {i : Int32} {n : Nat} : vp_in i n ↔ 0 ≤ i.toInt ∧ i.toInt < n := by
  unfold vp_in
  have e : i.toNatClampNeg = i.toInt.toNat := rfl
  have h3 : (0 : Int32).toInt = 0 := rfl
  rw [Int32.lt_iff_toInt_lt, h3, e]
  omega
theorem zi_inn {a n : Nat} (h : a < n) (hn : n < 2 ^ 31) : vp_in (Int32.ofNat a) n := by
  rw [zi_in, zi_nat (by omega)]
  omega
