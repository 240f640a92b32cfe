section
/-- one, if x is v -/
def rb_i (x v : Int32) : Nat := if x = v then 1 else 0
/-- how many places below k hold v -/
def rb_c (f : Nat → Int32) (v : Int32) : Nat → Nat
  | 0 => 0
  | k + 1 => rb_c f v k + rb_i (f k) v
theorem rb_c_s (f : Nat → Int32) (v : Int32) (k : Nat) : rb_c f v (k + 1) = rb_c f v k + rb_i (f k) v := rfl
theorem rb_us {f : Nat → Int32} {k : Nat} {x : Int32} : upd f k x k = x := if_pos rfl
theorem rb_un {f : Nat → Int32} {k j : Nat} {x : Int32} (h : j ≠ k) : upd f k x j = f j := if_neg h
theorem rb_c_congr {f g : Nat → Int32} (v : Int32) : ∀ k : Nat, (∀ j, j < k → f j = g j) → rb_c f v k = rb_c g v k := by
  intro k
  induction k with
  | zero => intro _; rfl
  | succ k ih =>
    intro h
    rw [rb_c_s, rb_c_s, ih (fun j hj => h j (by omega)), h k (by omega)]
/-- a write at or beyond k isn't counted -/
theorem rb_c_lt {T : Nat → Int32} {t k : Nat} {x : Int32} (v : Int32) (h : k ≤ t) : rb_c (upd T t x) v k = rb_c T v k :=
  rb_c_congr v k (fun _ hj => rb_un (by omega))
theorem rb_c_range {f g : Nat → Int32} (v : Int32) {lo : Nat} : ∀ d : Nat, (∀ j, lo ≤ j → j < lo + d → f j = g j) → rb_c f v (lo + d) + rb_c g v lo = rb_c g v (lo + d) + rb_c f v lo := by
  intro d
  induction d with
  | zero => intro _; exact Nat.add_comm _ _
  | succ d ih =>
    intro h
    have e := ih (fun j h1 h2 => h j h1 (by omega))
    have e2 := h (lo + d) (by omega) (by omega)
    have e3 := rb_c_s f v (lo + d)
    have e4 := rb_c_s g v (lo + d)
    rw [e2] at e3
    show rb_c f v (lo + d + 1) + _ = rb_c g v (lo + d + 1) + _
    omega
/-- a write at i below k -/
theorem rb_c_upd {f : Nat → Int32} (v x : Int32) {i : Nat} : ∀ k : Nat, i < k → rb_c (upd f i x) v k + rb_i (f i) v = rb_c f v k + rb_i x v := by
  intro k
  induction k with
  | zero => intro h; exact absurd h (Nat.not_lt_zero _)
  | succ k ih =>
    intro h
    rw [rb_c_s, rb_c_s]
    by_cases e : i = k
    · subst e
      rw [rb_us, rb_c_lt v (Nat.le_refl _)]
      omega
    · rw [rb_un (f := f) (x := x) (show k ≠ i by omega)]
      have := ih (by omega)
      omega
/-- an exchange keeps every count -/
theorem rb_c_swap {f : Nat → Int32} (v : Int32) {i j k : Nat} (hij : i < j) (hj : j < k) : rb_c (upd (upd f i (f j)) j (f i)) v k = rb_c f v k := by
  have e1 := rb_c_upd (f := upd f i (f j)) v (f i) (i := j) k hj
  have e2 := rb_c_upd (f := f) v (f j) (i := i) k (by omega)
  rw [rb_un (f := f) (x := f j) (show j ≠ i by omega)] at e1
  omega
theorem rb_c_ex {g : Nat → Int32} {v : Int32} {lo : Nat} : ∀ d : Nat, rb_c g v lo < rb_c g v (lo + d) → ∃ j, lo ≤ j ∧ j < lo + d ∧ g j = v := by
  intro d
  induction d with
  | zero => intro h; exact absurd h (Nat.lt_irrefl _)
  | succ d ih =>
    intro h
    by_cases e : g (lo + d) = v
    · exact ⟨lo + d, by omega, by omega, e⟩
    · have e3 : rb_c g v (lo + (d + 1)) = rb_c g v (lo + d) + rb_i (g (lo + d)) v := rb_c_s g v (lo + d)
      have e4 : rb_i (g (lo + d)) v = 0 := if_neg e
      obtain ⟨j, h1, h2, h3⟩ := ih (by omega)
      exact ⟨j, h1, by omega, h3⟩
theorem rb_c_mono {g : Nat → Int32} (v : Int32) {lo : Nat} : ∀ d : Nat, rb_c g v lo ≤ rb_c g v (lo + d) := by
  intro d
  induction d with
  | zero => exact Nat.le_refl _
  | succ d ih =>
    have e3 : rb_c g v (lo + (d + 1)) = rb_c g v (lo + d) + rb_i (g (lo + d)) v := rb_c_s g v (lo + d)
    omega
/-- rising from lo to hi (hi not within) -/
def rb_S (f : Nat → Int32) (lo hi : Nat) : Prop := ∀ i, lo ≤ i → i + 1 < hi → f i ≤ f (i + 1)
theorem rb_S_mono {f : Nat → Int32} {lo hi e : Nat} (h : rb_S f lo e) (he : hi ≤ e) : rb_S f lo hi := fun i h1 h2 => h i h1 (by omega)
theorem rb_S_one (f : Nat → Int32) (lo : Nat) : rb_S f lo (lo + 1) := fun i h1 h2 => absurd h2 (by omega)
theorem rb_S_succ {f : Nat → Int32} {lo p : Nat} (h : rb_S f lo (p + 1)) (q : f p ≤ f (p + 1)) : rb_S f lo (p + 1 + 1) := by
  intro i h1 h2
  by_cases e : i = p
  · rw [e]; exact q
  · exact h i h1 (by omega)
theorem rb_S_le {f : Nat → Int32} {lo hi : Nat} (h : rb_S f lo hi) {i : Nat} (hi1 : lo ≤ i) : ∀ d : Nat, i + d < hi → f i ≤ f (i + d) := by
  intro d
  induction d with
  | zero => intro _; exact Int32.le_refl _
  | succ d ih => intro hd; exact Int32.le_trans (ih (by omega)) (h (i + d) (by omega) hd)
theorem rb_last {f g : Nat → Int32} {lo d : Nat} (h0 : ∀ j, j < lo → f j = g j) (hg : rb_S g lo (lo + (d + 1))) (hc : ∀ v, rb_c f v (lo + (d + 1)) = rb_c g v (lo + (d + 1))) : f (lo + d) ≤ g (lo + d) := by
  have e1 := hc (f (lo + d))
  have e2 := rb_c_congr (f := f) (g := g) (f (lo + d)) lo h0
  have e3 : rb_c f (f (lo + d)) (lo + (d + 1)) = rb_c f (f (lo + d)) (lo + d) + rb_i (f (lo + d)) (f (lo + d)) := rb_c_s f _ (lo + d)
  have e4 : rb_i (f (lo + d)) (f (lo + d)) = 1 := if_pos rfl
  have e5 := rb_c_mono (g := f) (f (lo + d)) (lo := lo) d
  obtain ⟨j, h1, h2, h3⟩ := rb_c_ex (g := g) (v := f (lo + d)) (lo := lo) (d + 1) (by omega)
  have h4 := rb_S_le hg h1 (lo + d - j) (by omega)
  rw [show j + (lo + d - j) = lo + d by omega, h3] at h4
  exact h4
/-- a rising order of the same values is one alone -/
theorem rb_uniq {f g : Nat → Int32} {lo : Nat} (h0 : ∀ j, j < lo → f j = g j) : ∀ d : Nat, rb_S f lo (lo + d) → rb_S g lo (lo + d) → (∀ v, rb_c f v (lo + d) = rb_c g v (lo + d)) → ∀ j, lo ≤ j → j < lo + d → f j = g j := by
  intro d
  induction d with
  | zero => intro _ _ _ j h1 h2; exact absurd h2 (by omega)
  | succ d ih =>
    intro hf hg hc
    have e : f (lo + d) = g (lo + d) := Int32.le_antisymm (rb_last h0 hg hc) (rb_last (fun j hj => (h0 j hj).symm) hf (fun v => (hc v).symm))
    have hc' : ∀ v, rb_c f v (lo + d) = rb_c g v (lo + d) := by
      intro v
      have e1 := hc v
      have e2 : rb_c f v (lo + (d + 1)) = rb_c f v (lo + d) + rb_i (f (lo + d)) v := rb_c_s f v (lo + d)
      have e3 : rb_c g v (lo + (d + 1)) = rb_c g v (lo + d) + rb_i (g (lo + d)) v := rb_c_s g v (lo + d)
      rw [e] at e2
      omega
    intro j h1 h2
    by_cases ej : j = lo + d
    · rw [ej]; exact e
    · exact ih (rb_S_mono hf (by omega)) (rb_S_mono hg (by omega)) hc' j h1 (by omega)
/-- what a merge of C leaves: F -/
def rb_F (C : Nat → Int32) (lo hi : Nat) (F : Nat → Int32) : Prop :=
  (∀ j, (j < lo ∨ hi ≤ j) → F j = C j) ∧ rb_S F lo hi ∧ ∀ v, rb_c F v hi = rb_c C v hi
theorem rb_F_uniq {C F G : Nat → Int32} {lo hi : Nat} (hl : lo ≤ hi) (hF : rb_F C lo hi F) (hG : rb_F C lo hi G) : F = G := by
  obtain ⟨d, rfl⟩ : ∃ d, hi = lo + d := ⟨hi - lo, by omega⟩
  obtain ⟨f1, f2, f3⟩ := hF
  obtain ⟨g1, g2, g3⟩ := hG
  funext j
  by_cases z : j < lo ∨ lo + d ≤ j
  · rw [f1 j z, g1 j z]
  · exact rb_uniq (fun j hj => by rw [f1 j (Or.inl hj), g1 j (Or.inl hj)]) d f2 g2 (fun v => by rw [f3 v, g3 v]) j (by omega) (by omega)
end
section
/-- the component's merge under way: a, b read, T written below t -/
def rb_M (C : Nat → Int32) (lo mid hi a b t : Nat) (T : Nat → Int32) : Prop :=
  lo ≤ a ∧ a ≤ mid ∧ mid ≤ b ∧ b ≤ hi ∧ t + mid = a + b ∧ rb_S T lo t ∧
  (∀ i, lo ≤ i → i + 1 = t → a < mid → T i ≤ C a) ∧ (∀ i, lo ≤ i → i + 1 = t → b < hi → T i ≤ C b) ∧
  (∀ v, rb_c T v t + rb_c C v lo + rb_c C v mid = rb_c T v lo + rb_c C v a + rb_c C v b)
theorem rb_M0 (C T : Nat → Int32) {lo mid hi : Nat} (h1 : lo ≤ mid) (h2 : mid ≤ hi) : rb_M C lo mid hi lo mid lo T := by
  refine ⟨Nat.le_refl _, h1, Nat.le_refl _, h2, rfl, ?_, ?_, ?_, ?_⟩
  · intro i a b; exact absurd b (by omega)
  · intro i a b; exact absurd b (by omega)
  · intro i a b; exact absurd b (by omega)
  · intro v; rfl
theorem rb_Ma {C T : Nat → Int32} {lo mid hi a b t : Nat} (hs : rb_S C lo mid) (h : rb_M C lo mid hi a b t T) (ha : a < mid) (hb : b < hi → C a ≤ C b) : rb_M C lo mid hi (a + 1) b (t + 1) (upd T t (C a)) := by
  obtain ⟨h1, h2, h3, h4, h5, h6, h7, h8, h9⟩ := h
  refine ⟨by omega, by omega, h3, h4, by omega, ?_, ?_, ?_, ?_⟩
  · intro i j1 j2
    rw [rb_un (show i ≠ t by omega)]
    by_cases e : i + 1 = t
    · rw [e, rb_us]; exact h7 i j1 e ha
    · rw [rb_un e]; exact h6 i j1 (by omega)
  · intro i j1 j2 j3
    rw [show i = t by omega, rb_us]
    exact hs a h1 j3
  · intro i j1 j2 j3
    rw [show i = t by omega, rb_us]
    exact hb j3
  · intro v
    have e := h9 v
    rw [rb_c_s, rb_us, rb_c_s C v a, rb_c_lt v (Nat.le_refl t), rb_c_lt v (show lo ≤ t by omega)]
    omega
theorem rb_Mb {C T : Nat → Int32} {lo mid hi a b t : Nat} (hs : rb_S C mid hi) (h : rb_M C lo mid hi a b t T) (hb : b < hi) (ha : a < mid → C b ≤ C a) : rb_M C lo mid hi a (b + 1) (t + 1) (upd T t (C b)) := by
  obtain ⟨h1, h2, h3, h4, h5, h6, h7, h8, h9⟩ := h
  refine ⟨h1, h2, by omega, by omega, by omega, ?_, ?_, ?_, ?_⟩
  · intro i j1 j2
    rw [rb_un (show i ≠ t by omega)]
    by_cases e : i + 1 = t
    · rw [e, rb_us]; exact h8 i j1 e hb
    · rw [rb_un e]; exact h6 i j1 (by omega)
  · intro i j1 j2 j3
    rw [show i = t by omega, rb_us]
    exact ha j3
  · intro i j1 j2 j3
    rw [show i = t by omega, rb_us]
    exact hs b h3 j3
  · intro v
    have e := h9 v
    rw [rb_c_s, rb_us, rb_c_s C v b, rb_c_lt v (Nat.le_refl t), rb_c_lt v (show lo ≤ t by omega)]
    omega
/-- the copy back under way: below k it is done -/
def rb_K (C T : Nat → Int32) (lo k : Nat) (F : Nat → Int32) : Prop :=
  (∀ j, lo ≤ j → j < k → F j = T j) ∧ ∀ j, (j < lo ∨ k ≤ j) → F j = C j
theorem rb_K0 (C T : Nat → Int32) (lo : Nat) : rb_K C T lo lo C := ⟨fun j h1 h2 => absurd h2 (by omega), fun _ _ => rfl⟩
theorem rb_Ks {C T F : Nat → Int32} {lo k : Nat} (hk : lo ≤ k) (h : rb_K C T lo k F) : rb_K C T lo (k + 1) (upd F k (T k)) := by
  obtain ⟨h1, h2⟩ := h
  refine ⟨fun j j1 j2 => ?_, fun j j1 => ?_⟩
  · by_cases e : j = k
    · rw [e, rb_us]
    · rw [rb_un e]; exact h1 j j1 (by omega)
  · rw [rb_un (show j ≠ k by omega)]; exact h2 j (by omega)
theorem rb_KF {C T F : Nat → Int32} {lo mid hi t : Nat} (hM : rb_M C lo mid hi mid hi t T) (hK : rb_K C T lo hi F) : rb_F C lo hi F := by
  obtain ⟨h1, h2, h3, h4, h5, h6, h7, h8, h9⟩ := hM
  obtain ⟨k1, k2⟩ := hK
  have et : t = hi := by omega
  subst et
  refine ⟨k2, ?_, ?_⟩
  · intro i j1 j2
    rw [k1 i j1 (by omega), k1 (i + 1) (by omega) j2]
    exact h6 i j1 j2
  · intro v
    have e1 := h9 v
    have e2 := rb_c_range (f := F) (g := T) v (lo := lo) (t - lo) (fun j j1 j2 => k1 j j1 (by omega))
    rw [show lo + (t - lo) = t by omega] at e2
    have e3 := rb_c_congr (f := F) (g := C) v lo (fun j hj => k2 j (Or.inl hj))
    omega
/-- the reference's sort under way, its outer loop at i -/
def rb_O (C : Nat → Int32) (lo hi i : Nat) (G : Nat → Int32) : Prop :=
  (∀ j, (j < lo ∨ hi ≤ j) → G j = C j) ∧ (∀ v, rb_c G v hi = rb_c C v hi) ∧
  (∀ p q, lo ≤ p → p < i → p ≤ q → q < hi → G p ≤ G q)
def rb_N (C : Nat → Int32) (lo hi i j : Nat) (G : Nat → Int32) : Prop :=
  rb_O C lo hi i G ∧ ∀ q, i ≤ q → q < j → G i ≤ G q
theorem rb_O0 (C : Nat → Int32) (lo hi : Nat) : rb_O C lo hi lo C := ⟨fun _ _ => rfl, fun _ => rfl, fun p q h1 h2 => absurd h2 (by omega)⟩
theorem rb_ON {C G : Nat → Int32} {lo hi i : Nat} (h : rb_O C lo hi i G) : rb_N C lo hi i (i + 1) G :=
  ⟨h, fun q h1 h2 => by rw [show q = i by omega]; exact Int32.le_refl _⟩
theorem rb_NO {C G : Nat → Int32} {lo hi i : Nat} (h : rb_N C lo hi i hi G) : rb_O C lo hi (i + 1) G := by
  obtain ⟨⟨h1, h2, h3⟩, h4⟩ := h
  refine ⟨h1, h2, fun p q j1 j2 j3 j4 => ?_⟩
  by_cases e : p = i
  · rw [e]; exact h4 q (by omega) j4
  · exact h3 p q j1 (by omega) j3 j4
theorem rb_OF {C G : Nat → Int32} {lo hi : Nat} (h : rb_O C lo hi hi G) : rb_F C lo hi G :=
  ⟨h.1, fun i j1 j2 => h.2.2 i (i + 1) j1 (by omega) (by omega) j2, h.2.1⟩
theorem rb_Nk {C G : Nat → Int32} {lo hi i j : Nat} (h : rb_N C lo hi i j G) (q : G i ≤ G j) : rb_N C lo hi i (j + 1) G := by
  refine ⟨h.1, fun p j1 j2 => ?_⟩
  by_cases e : p = j
  · rw [e]; exact q
  · exact h.2 p j1 (by omega)
/-- the value behind an exchange -/
theorem rb_sw {G : Nat → Int32} {i j : Nat} (hij : i < j) : ∀ q : Nat, (q = i ∧ upd (upd G i (G j)) j (G i) q = G j) ∨ (q = j ∧ upd (upd G i (G j)) j (G i) q = G i) ∨ (q ≠ i ∧ q ≠ j ∧ upd (upd G i (G j)) j (G i) q = G q) := by
  intro q
  by_cases e1 : q = i
  · exact Or.inl ⟨e1, by rw [rb_un (show q ≠ j by omega), e1, rb_us]⟩
  · by_cases e2 : q = j
    · exact Or.inr (Or.inl ⟨e2, by rw [e2, rb_us]⟩)
    · exact Or.inr (Or.inr ⟨e1, e2, by rw [rb_un e2, rb_un e1]⟩)
theorem rb_Ns {C G : Nat → Int32} {lo hi i j : Nat} (h : rb_N C lo hi i j G) (hl : lo ≤ i) (hij : i < j) (hj : j < hi) (hq : G j ≤ G i) : rb_N C lo hi i (j + 1) (upd (upd G i (G j)) j (G i)) := by
  obtain ⟨⟨h1, h2, h3⟩, h4⟩ := h
  have hs := rb_sw (G := G) hij
  have hc : ∀ v, rb_c (upd (upd G i (G j)) j (G i)) v hi = rb_c G v hi := fun v => rb_c_swap v hij hj
  refine ⟨⟨?_, fun v => (hc v).trans (h2 v), ?_⟩, ?_⟩
  · intro p hp
    rw [rb_un (show p ≠ j by omega), rb_un (show p ≠ i by omega)]
    exact h1 p hp
  · intro p q j1 j2 j3 j4
    rw [show upd (upd G i (G j)) j (G i) p = G p by rw [rb_un (show p ≠ j by omega), rb_un (show p ≠ i by omega)]]
    rcases hs q with ⟨e, e'⟩ | ⟨e, e'⟩ | ⟨_, _, e'⟩
    · rw [e']; exact h3 p j j1 j2 (by omega) hj
    · rw [e']; exact h3 p i j1 j2 (by omega) (by omega)
    · rw [e']; exact h3 p q j1 j2 j3 j4
  · intro q j1 j2
    rw [show upd (upd G i (G j)) j (G i) i = G j by rw [rb_un (show i ≠ j by omega), rb_us]]
    rcases hs q with ⟨e, e'⟩ | ⟨e, e'⟩ | ⟨_, e, e'⟩
    · rw [e']; exact Int32.le_refl _
    · rw [e']; exact hq
    · rw [e']; exact Int32.le_trans hq (h4 q j1 (by omega))
end
section
theorem rb_cl {k : Nat} (h : k ≤ 25) : (nI k).toNatClampNeg = k := nI_clamp (by omega)
theorem rb_in {k : Nat} (h : k < 24) : vp_in (nI k) 24 := vp_in_nI h (by omega)
theorem rb_inp {k : Nat} (h : k < 24) : vp_in (nI (k + 1) - 1) 24 := by rw [nI_pred]; exact rb_in h
theorem rb_cmp {C : Nat → Int32} {p : Nat} (h : p < 24) : C (nI (p + 1) - 1).toNatClampNeg ≤ C (nI (p + 1)).toNatClampNeg ↔ C p ≤ C (p + 1) := by
  rw [nI_pred, rb_cl (show p ≤ 25 by omega), rb_cl (show p + 1 ≤ 25 by omega)]
theorem rb_ucl {A B : Nat → Int32} {i j : Nat} (hi : i ≤ 25) (hj : j ≤ 25) : upd A (nI i).toNatClampNeg (B (nI j).toNatClampNeg) = upd A i (B j) := by
  rw [rb_cl hi, rb_cl hj]
section
variable {post : Int32 → SX → Prop} {f_n : Int32} {C : Nat → Int32} {lo mid hi : Nat}
theorem rb_X263 {T : Nat → Int32} (hh : hi ≤ 24) (hp : ∀ F, rb_K C T lo hi F → post 0 (f_n, F, T)) : ∀ (n k : Nat) (F : Nat → Int32), hi < n + k → lo ≤ k → k ≤ hi → rb_K C T lo k F → wX_merge_263 post (nI hi) f_n n (nI k) F T := by
  intro n
  induction n with
  | zero => intro k F h1 h2 h3 _; exact absurd h1 (by omega)
  | succ n ih =>
    intro k F h1 h2 h3 hK
    by_cases e : k = hi
    · subst e
      exact br_t (nI_le (Nat.le_refl _) (by omega)) (hp F hK)
    · exact br_f (nI_ge (by omega) (by omega)) ⟨rb_in (by omega), rb_in (by omega), nm_r (rb_ucl (by omega) (by omega)) (nm_r (nI_1 k) (ih (k + 1) _ (by omega) (by omega) (by omega) (rb_Ks h2 hK)))⟩
theorem rb_X225 (hh : hi ≤ 24) (hs : rb_S C mid hi) (hp : ∀ F T, rb_F C lo hi F → post 0 (f_n, F, T)) : ∀ (n b t : Nat) (T : Nat → Int32), hi < n + b → rb_M C lo mid hi mid b t T → wX_merge_225 post (nI lo) (nI hi) f_n n (nI b) (nI t) C T := by
  intro n
  induction n with
  | zero => intro b t T h1 hM; exact absurd h1 (by have := hM.2.2.2.1; omega)
  | succ n ih =>
    intro b t T h1 hM
    have g1 := hM.1
    have g3 := hM.2.2.1
    have g4 := hM.2.2.2.1
    have g5 := hM.2.2.2.2.1
    by_cases e : b = hi
    · subst e
      exact br_t (nI_le (Nat.le_refl _) (by omega)) ⟨b + 1, rb_X263 (C := C) (lo := lo) hh (fun F hK => hp F T (rb_KF hM hK)) (b + 1) lo C (by omega) (Nat.le_refl _) (by omega) (rb_K0 C T lo)⟩
    · exact br_f (nI_ge (by omega) (by omega)) ⟨rb_in (by omega), rb_in (by omega), nm_r (rb_ucl (by omega) (by omega)) (nm_r (nI_1 b) (nm_r (nI_1 t) (ih (b + 1) (t + 1) _ (by omega) (rb_Mb hs hM (by omega) (fun z => absurd z (Nat.lt_irrefl _))))))⟩
theorem rb_X190 {b : Nat} (hh : hi ≤ 24) (hs1 : rb_S C lo mid) (hs2 : rb_S C mid hi) (hp : ∀ F T, rb_F C lo hi F → post 0 (f_n, F, T)) : ∀ (n a t : Nat) (T : Nat → Int32), mid < n + a → (a = mid ∨ b = hi) → rb_M C lo mid hi a b t T → wX_merge_190 post (nI lo) (nI mid) (nI hi) (nI b) f_n n (nI a) (nI t) C T := by
  intro n
  induction n with
  | zero => intro a t T h1 _ hM; exact absurd h1 (by have := hM.2.1; omega)
  | succ n ih =>
    intro a t T h1 h2 hM
    have g1 := hM.1
    have g2 := hM.2.1
    have g3 := hM.2.2.1
    have g4 := hM.2.2.2.1
    have g5 := hM.2.2.2.2.1
    by_cases e : a = mid
    · subst e
      exact br_t (nI_le (Nat.le_refl _) (by omega)) ⟨hi + 1, rb_X225 hh hs2 hp (hi + 1) b t T (by omega) hM⟩
    · exact br_f (nI_ge (by omega) (by omega)) ⟨rb_in (by omega), rb_in (by omega), nm_r (rb_ucl (by omega) (by omega)) (nm_r (nI_1 a) (nm_r (nI_1 t) (ih (a + 1) (t + 1) _ (by omega) (by omega) (rb_Ma hs1 hM (by omega) (fun z => absurd z (by omega))))))⟩
theorem rb_X109 (hh : hi ≤ 24) (hs1 : rb_S C lo mid) (hs2 : rb_S C mid hi) (hp : ∀ F T, rb_F C lo hi F → post 0 (f_n, F, T)) : ∀ (n a b t : Nat) (T : Nat → Int32), mid + hi < n + a + b → rb_M C lo mid hi a b t T → wX_merge_109 post (nI lo) (nI mid) (nI hi) f_n n (nI a) (nI b) (nI t) C T := by
  intro n
  induction n with
  | zero => intro a b t T h1 hM; exact absurd h1 (by have := hM.2.1; have := hM.2.2.2.1; omega)
  | succ n ih =>
    intro a b t T h1 hM
    have g1 := hM.1
    have g2 := hM.2.1
    have g3 := hM.2.2.1
    have g4 := hM.2.2.2.1
    have g5 := hM.2.2.2.2.1
    by_cases e : a = mid
    · exact br_t (nI_le (by omega) (by omega)) ⟨mid + 1, rb_X190 hh hs1 hs2 hp (mid + 1) a t T (by omega) (Or.inl e) hM⟩
    · refine br_f (nI_ge (by omega) (by omega)) ?_
      by_cases e2 : b = hi
      · exact br_t (nI_le (by omega) (by omega)) ⟨mid + 1, rb_X190 hh hs1 hs2 hp (mid + 1) a t T (by omega) (Or.inr e2) hM⟩
      · refine br_f (nI_ge (by omega) (by omega)) ⟨rb_in (by omega), rb_in (by omega), br_c (fun q => ⟨rb_in (by omega), rb_in (by omega), ?_⟩) (fun q => ⟨rb_in (by omega), rb_in (by omega), ?_⟩)⟩
        · rw [rb_cl (show a ≤ 25 by omega), rb_cl (show b ≤ 25 by omega)] at q
          exact nm_r (rb_ucl (by omega) (by omega)) (nm_r (nI_1 a) (nm_r (nI_1 t) (ih (a + 1) b (t + 1) _ (by omega) (rb_Ma hs1 hM (by omega) (fun _ => q)))))
        · rw [rb_cl (show a ≤ 25 by omega), rb_cl (show b ≤ 25 by omega)] at q
          exact nm_r (rb_ucl (by omega) (by omega)) (nm_r (nI_1 b) (nm_r (nI_1 t) (ih a (b + 1) (t + 1) _ (by omega) (rb_Mb hs2 hM (by omega) (fun _ => Int32.le_of_lt (Int32.not_le.mp q))))))
theorem rb_X67 {T : Nat → Int32} (hh : hi ≤ 24) (hg : rb_S C mid hi → ∃ n109 : Nat, wX_merge_109 post (nI lo) (nI mid) (nI hi) f_n n109 (nI lo) (nI mid) (nI lo) C T) (hb : ¬ rb_S C mid hi → post 3 (f_n, C, T)) : ∀ n p : Nat, hi < n + p → p ≤ hi → mid ≤ p → rb_S C mid (p + 1) → wX_merge_67 post (nI lo) (nI mid) (nI hi) f_n C T n (nI (p + 1)) := by
  intro n
  induction n with
  | zero => intro p h1 h2 _ _; exact absurd h1 (by omega)
  | succ n ih =>
    intro p h1 h2 h3 hS
    by_cases e : hi ≤ p + 1
    · exact br_t (nI_le e (by omega)) (hg (rb_S_mono hS e))
    · refine br_f (nI_ge (by omega) (by omega)) ⟨rb_in (by omega), rb_inp (by omega), br_c (fun q => ?_) (fun q => hb (fun z => q ((rb_cmp (by omega)).mpr (z p h3 (by omega)))))⟩
      exact nm_r (nI_1 (p + 1)) (ih (p + 1) (by omega) (by omega) (by omega) (rb_S_succ hS ((rb_cmp (by omega)).mp q)))
theorem rb_X29 {T : Nat → Int32} (hh : mid ≤ 24) (hg : rb_S C lo mid → ∃ n67 : Nat, wX_merge_67 post (nI lo) (nI mid) (nI hi) f_n C T n67 (nI (mid + 1))) (hb : ¬ rb_S C lo mid → post 3 (f_n, C, T)) : ∀ n p : Nat, mid < n + p → p ≤ mid → lo ≤ p → rb_S C lo (p + 1) → wX_merge_29 post (nI lo) (nI mid) (nI hi) f_n C T n (nI (p + 1)) := by
  intro n
  induction n with
  | zero => intro p h1 h2 _ _; exact absurd h1 (by omega)
  | succ n ih =>
    intro p h1 h2 h3 hS
    by_cases e : mid ≤ p + 1
    · exact br_t (nI_le e (by omega)) (nm_r (nI_1 mid) (hg (rb_S_mono hS e)))
    · refine br_f (nI_ge (by omega) (by omega)) ⟨rb_in (by omega), rb_inp (by omega), br_c (fun q => ?_) (fun q => hb (fun z => q ((rb_cmp (by omega)).mpr (z p h3 (by omega)))))⟩
      exact nm_r (nI_1 (p + 1)) (ih (p + 1) (by omega) (by omega) (by omega) (rb_S_succ hS ((rb_cmp (by omega)).mp q)))
/-- the component's merge behind its checks of the range -/
theorem rb_Xm {T : Nat → Int32} (h1 : lo ≤ mid) (h2 : mid ≤ hi) (hh : hi ≤ 24) (hg : rb_S C lo mid → rb_S C mid hi → ∀ F T', rb_F C lo hi F → post 0 (f_n, F, T')) (hb : ¬ (rb_S C lo mid ∧ rb_S C mid hi) → post 3 (f_n, C, T)) : ∃ n29 : Nat, wX_merge_29 post (nI lo) (nI mid) (nI hi) f_n C T n29 (nI (lo + 1)) := by
  refine ⟨mid + 1, rb_X29 (by omega) (fun s1 => ⟨hi + 1, rb_X67 hh (fun s2 => ⟨mid + hi + 1, ?_⟩) (fun z => hb (fun w => z w.2)) (hi + 1) mid (by omega) h2 (Nat.le_refl _) (rb_S_one C mid)⟩) (fun z => hb (fun w => z w.1)) (mid + 1) lo (by omega) h1 (Nat.le_refl _) (rb_S_one C lo)⟩
  exact rb_X109 hh s1 s2 (hg s1 s2) (mid + hi + 1) lo mid lo T (by omega) (rb_M0 C T h1 h2)
end
section
variable {post : Int32 → SY → Prop} {f_n : Int32} {C : Nat → Int32} {lo mid hi : Nat}
theorem rb_Y115 {J : Int32 → (Nat → Int32) → Prop} {i : Nat} (hh : hi ≤ 24) (hl : lo ≤ i) (hJ : ∀ G, rb_O C lo hi (i + 1) G → J (nI (i + 1)) G) : ∀ (n j : Nat) (G : Nat → Int32), hi < n + j → i < j → j ≤ hi → rb_N C lo hi i j G → wY_merge_115 post J (nI hi) (nI i) f_n n (nI j) G := by
  intro n
  induction n with
  | zero => intro j G h1 h2 h3 _; exact absurd h1 (by omega)
  | succ n ih =>
    intro j G h1 h2 h3 hN
    by_cases e : j = hi
    · subst e
      exact br_t (nI_le (Nat.le_refl _) (by omega)) (nm_r (nI_1 i) (hJ G (rb_NO hN)))
    · have hi1 : vp_in (nI i) 24 := rb_in (by omega)
      have hj1 : vp_in (nI j) 24 := rb_in (by omega)
      have ci : (nI i).toNatClampNeg = i := rb_cl (by omega)
      have cj : (nI j).toNatClampNeg = j := rb_cl (by omega)
      refine br_f (nI_ge (by omega) (by omega)) ⟨hj1, hi1, br_c (fun q => ?_) (fun q => ⟨hi1, nm_r (e' := G i) (by rw [ci]) ⟨hj1, hi1, nm_r (e' := upd G i (G j)) (by rw [ci, cj]) ⟨hj1, nm_r (e' := upd (upd G i (G j)) j (G i)) (by rw [cj]) (nm_r (nI_1 j) ?_)⟩⟩⟩)⟩
      · rw [ci, cj] at q
        exact nm_r (nI_1 j) (ih (j + 1) G (by omega) (by omega) (by omega) (rb_Nk hN q))
      · rw [ci, cj] at q
        exact ih (j + 1) _ (by omega) (by omega) (by omega) (rb_Ns hN hl h2 (by omega) (Int32.le_of_lt (Int32.not_le.mp q)))
theorem rb_Y103 (hh : hi ≤ 24) (hp : ∀ G, rb_F C lo hi G → post 0 (f_n, G)) : ∀ (n i : Nat) (G : Nat → Int32), hi < n + i → lo ≤ i → i ≤ hi → rb_O C lo hi i G → wY_merge_103 post (nI hi) f_n n (nI i) G := by
  intro n
  induction n with
  | zero => intro i G h1 h2 h3 _; exact absurd h1 (by omega)
  | succ n ih =>
    intro i G h1 h2 h3 hO
    by_cases e : i = hi
    · subst e
      exact br_t (nI_le (Nat.le_refl _) (by omega)) (hp G (rb_OF hO))
    · exact br_f (nI_ge (by omega) (by omega)) (nm_r (nI_1 i) ⟨hi + 1, rb_Y115 (C := C) (lo := lo) hh h2 (fun G' hO' => ih (i + 1) G' (by omega) (by omega) (by omega) hO') (hi + 1) (i + 1) G (by omega) (by omega) (by omega) (rb_ON hO)⟩)
theorem rb_Y67 (hh : hi ≤ 24) (hg : rb_S C mid hi → ∃ n103 : Nat, wY_merge_103 post (nI hi) f_n n103 (nI lo) C) (hb : ¬ rb_S C mid hi → post 3 (f_n, C)) : ∀ n p : Nat, hi < n + p → p ≤ hi → mid ≤ p → rb_S C mid (p + 1) → wY_merge_67 post (nI lo) (nI hi) f_n C n (nI (p + 1)) := by
  intro n
  induction n with
  | zero => intro p h1 h2 _ _; exact absurd h1 (by omega)
  | succ n ih =>
    intro p h1 h2 h3 hS
    by_cases e : hi ≤ p + 1
    · exact br_t (nI_le e (by omega)) (hg (rb_S_mono hS e))
    · refine br_f (nI_ge (by omega) (by omega)) ⟨rb_in (by omega), rb_inp (by omega), br_c (fun q => ?_) (fun q => hb (fun z => q ((rb_cmp (by omega)).mpr (z p h3 (by omega)))))⟩
      exact nm_r (nI_1 (p + 1)) (ih (p + 1) (by omega) (by omega) (by omega) (rb_S_succ hS ((rb_cmp (by omega)).mp q)))
theorem rb_Y29 (hh : mid ≤ 24) (hg : rb_S C lo mid → ∃ n67 : Nat, wY_merge_67 post (nI lo) (nI hi) f_n C n67 (nI (mid + 1))) (hb : ¬ rb_S C lo mid → post 3 (f_n, C)) : ∀ n p : Nat, mid < n + p → p ≤ mid → lo ≤ p → rb_S C lo (p + 1) → wY_merge_29 post (nI lo) (nI mid) (nI hi) f_n C n (nI (p + 1)) := by
  intro n
  induction n with
  | zero => intro p h1 h2 _ _; exact absurd h1 (by omega)
  | succ n ih =>
    intro p h1 h2 h3 hS
    by_cases e : mid ≤ p + 1
    · exact br_t (nI_le e (by omega)) (nm_r (nI_1 mid) (hg (rb_S_mono hS e)))
    · refine br_f (nI_ge (by omega) (by omega)) ⟨rb_in (by omega), rb_inp (by omega), br_c (fun q => ?_) (fun q => hb (fun z => q ((rb_cmp (by omega)).mpr (z p h3 (by omega)))))⟩
      exact nm_r (nI_1 (p + 1)) (ih (p + 1) (by omega) (by omega) (by omega) (rb_S_succ hS ((rb_cmp (by omega)).mp q)))
/-- the reference's merge behind its checks of the range -/
theorem rb_Ym (h1 : lo ≤ mid) (h2 : mid ≤ hi) (hh : hi ≤ 24) (hg : rb_S C lo mid → rb_S C mid hi → ∀ G, rb_F C lo hi G → post 0 (f_n, G)) (hb : ¬ (rb_S C lo mid ∧ rb_S C mid hi) → post 3 (f_n, C)) : ∃ n29 : Nat, wY_merge_29 post (nI lo) (nI mid) (nI hi) f_n C n29 (nI (lo + 1)) := by
  refine ⟨mid + 1, rb_Y29 (by omega) (fun s1 => ⟨hi + 1, rb_Y67 (mid := mid) hh (fun s2 => ⟨hi + 1, ?_⟩) (fun z => hb (fun w => z w.2)) (hi + 1) mid (by omega) h2 (Nat.le_refl _) (rb_S_one C mid)⟩) (fun z => hb (fun w => z w.1)) (mid + 1) lo (by omega) h1 (Nat.le_refl _) (rb_S_one C lo)⟩
  exact rb_Y103 hh (hg s1 s2) (hi + 1) lo C (by omega) (Nat.le_refl _) (by omega) (rb_O0 C lo hi)
end
/-- the end of a run, one answer for both -/
theorem rb_run {C T : Nat → Int32} {n : Nat} (hn : n ≤ 24) : ∀ d p : Nat, p + 1 + d = n → ∃ r : Int32, (∀ post : Int32 → Prop, post r → wX_runEnd_18 post (nI n) C T (d + 1) (nI (p + 1))) ∧ (∀ post : Int32 → Prop, post r → wY_runEnd_18 post (nI n) C (d + 1) (nI (p + 1))) := by
  intro d
  induction d with
  | zero =>
    intro p hp
    have e : p + 1 = n := hp
    subst e
    exact ⟨nI (p + 1), fun _ h => br_t (nI_le (Nat.le_refl _) (by omega)) h, fun _ h => br_t (nI_le (Nat.le_refl _) (by omega)) h⟩
  | succ d ih =>
    intro p hp
    have h : ¬ nI n ≤ nI (p + 1) := nI_ge (by omega) (by omega)
    have i1 : vp_in (nI (p + 1)) 24 := rb_in (by omega)
    have i2 : vp_in (nI (p + 1) - 1) 24 := rb_inp (by omega)
    by_cases z : C (nI (p + 1)).toNatClampNeg < C (nI (p + 1) - 1).toNatClampNeg
    · exact ⟨nI (p + 1), fun _ hp => br_f h ⟨i1, i2, br_t z hp⟩, fun _ hp => br_f h ⟨i1, i2, br_f (Int32.not_le.mpr z) hp⟩⟩
    · obtain ⟨r, hX, hY⟩ := ih (p + 1) (by omega)
      exact ⟨r, fun post hp => br_f h ⟨i1, i2, br_f z (nm_r (nI_1 (p + 1)) (hX post hp))⟩, fun post hp => br_f h ⟨i1, i2, br_t (Int32.not_lt.mp z) (nm_r (nI_1 (p + 1)) (hY post hp))⟩⟩
end
section
/-- one size within 24, and the same cells; the component's second array is free -/
def i_Rel (k : Nat) (u : SX) (v : SY) : Prop := ∃ (n : Nat) (C T : Nat → Int32), n ≤ 24 ∧ u = (nI n, C, T) ∧ v = (nI n, C)
theorem i_up {k : Nat} {u : SX} {v : SY} (h : i_Rel k u v) : i_Rel (k + 4) u v := h
theorem rb_24 : nI 24 = 24 := by decide +kernel
theorem i_vc0 (k0 : Int32) : wpX_init (fun u => wpY_init (fun v => i_Rel 1 u v) k0) k0 := by
  by_cases h0 : 0 ≤ k0
  · by_cases h1 : k0 ≤ 24
    · obtain ⟨j, hj, rfl⟩ := nI_of2 (n := 24) (show (24 : Int32).toInt = (24 : Nat) by decide) (Int32.not_lt.mpr h0) h1
      exact br_t h0 (br_t h1 (br_t h0 (br_t h1 ⟨j, fun _ => 0, fun _ => 0, hj, rfl, rfl⟩)))
    · exact br_t h0 (br_f h1 (br_t h0 (br_f h1 ⟨24, fun _ => 0, fun _ => 0, Nat.le_refl _, by rw [rb_24], by rw [rb_24]⟩)))
  · have h1 : (0 : Int32) ≤ 24 := by decide
    exact br_f h0 (br_t h1 (br_f h0 (br_t h1 ⟨0, fun _ => 0, fun _ => 0, Nat.zero_le _, by rw [nI_0], by rw [nI_0]⟩)))
theorem i_vc_size {k : Nat} {u : SX} {v : SY} (I : i_Rel k u v) (hk : k + 4 ≤ 2049) : wpX_size (fun r => wpY_size (fun r' => r' = r ∧ i_Rel (k + 4) u v) v) u := by
  obtain ⟨n, C, T, hn, rfl, rfl⟩ := I
  exact ⟨rfl, n, C, T, hn, rfl, rfl⟩
theorem rb_lt {x : Int32} {n : Nat} (hn : n ≤ 24) (h0 : ¬ x < 0) (h1 : x < nI n) : ∃ j : Nat, j < n ∧ x = nI j := by
  obtain ⟨j, hj, rfl⟩ := nI_of h0
  rw [nI_ltI hj (by omega)] at h1
  exact ⟨j, h1, rfl⟩
theorem i_vc_put {k : Nat} {u : SX} {v : SY} (I : i_Rel k u v) (hk : k + 4 ≤ 2049) (v1 : Int32) (v2 : Int32) : wpX_put (fun r u' => wpY_put (fun r' v' => r' = r ∧ i_Rel (k + 4) u' v') v v1 v2) u v1 v2 := by
  obtain ⟨n, C, T, hn, rfl, rfl⟩ := I
  by_cases h0 : v1 < 0
  · exact br_t h0 (br_t h0 ⟨rfl, n, C, T, hn, rfl, rfl⟩)
  · by_cases h1 : v1 < nI n
    · have hi : vp_in v1 24 := by
        obtain ⟨j, hj, rfl⟩ := rb_lt hn h0 h1
        exact rb_in (by omega)
      exact br_f h0 (br_t h1 ⟨hi, nm_e (br_f h0 (br_t h1 ⟨hi, nm_e ⟨rfl, n, upd C v1.toNatClampNeg v2, T, hn, rfl, rfl⟩⟩))⟩)
    · exact br_f h0 (br_f h1 (br_f h0 (br_f h1 ⟨rfl, n, C, T, hn, rfl, rfl⟩)))
theorem i_vc_get {k : Nat} {u : SX} {v : SY} (I : i_Rel k u v) (hk : k + 4 ≤ 2049) (v1 : Int32) : wpX_get (fun r => wpY_get (fun r' => r' = r ∧ i_Rel (k + 4) u v) v v1) u v1 := by
  obtain ⟨n, C, T, hn, rfl, rfl⟩ := I
  by_cases h0 : v1 < 0
  · exact br_t h0 (br_t h0 ⟨rfl, n, C, T, hn, rfl, rfl⟩)
  · by_cases h1 : v1 < nI n
    · have hi : vp_in v1 24 := by
        obtain ⟨j, hj, rfl⟩ := rb_lt hn h0 h1
        exact rb_in (by omega)
      exact br_f h0 (br_t h1 ⟨hi, br_f h0 (br_t h1 ⟨hi, rfl, n, C, T, hn, rfl, rfl⟩)⟩)
    · exact br_f h0 (br_f h1 (br_f h0 (br_f h1 ⟨rfl, n, C, T, hn, rfl, rfl⟩)))
theorem i_vc_runEnd {k : Nat} {u : SX} {v : SY} (I : i_Rel k u v) (hk : k + 4 ≤ 2049) (v1 : Int32) : wpX_runEnd (fun r => wpY_runEnd (fun r' => r' = r ∧ i_Rel (k + 4) u v) v v1) u v1 := by
  obtain ⟨n, C, T, hn, rfl, rfl⟩ := I
  by_cases h0 : v1 < 0
  · exact br_t h0 (br_t h0 ⟨rfl, n, C, T, hn, rfl, rfl⟩)
  · by_cases h1 : v1 < nI n
    · obtain ⟨j, hj, rfl⟩ := rb_lt hn h0 h1
      obtain ⟨r, hX, hY⟩ := rb_run (C := C) (T := T) hn (n - (j + 1)) j (by omega)
      exact br_f h0 (br_t h1 (nm_r (nI_1 j) ⟨_, hX _ (br_f h0 (br_t h1 (nm_r (nI_1 j) ⟨_, hY _ ⟨rfl, n, C, T, hn, rfl, rfl⟩⟩)))⟩))
    · exact br_f h0 (br_f h1 (br_f h0 (br_f h1 ⟨rfl, n, C, T, hn, rfl, rfl⟩)))
theorem rb_args {x y z : Int32} {n : Nat} (hn : n ≤ 24) (h0 : ¬ x < 0) (h1 : ¬ y < x) (h2 : ¬ z < y) (h3 : z ≤ nI n) : ∃ lo mid hi : Nat, x = nI lo ∧ y = nI mid ∧ z = nI hi ∧ lo ≤ mid ∧ mid ≤ hi ∧ hi ≤ n := by
  obtain ⟨lo, hlo, rfl⟩ := nI_of h0
  have hy : ¬ y < 0 := fun q => h1 (Int32.lt_of_lt_of_le q (nI_pos' hlo))
  obtain ⟨mid, hmid, rfl⟩ := nI_of hy
  have hz : ¬ z < 0 := fun q => h2 (Int32.lt_of_lt_of_le q (nI_pos' hmid))
  obtain ⟨hi, hhi, rfl⟩ := nI_of hz
  rw [nI_ltI hmid hlo] at h1
  rw [nI_ltI hhi hmid] at h2
  rw [nI_leI hhi (by omega)] at h3
  exact ⟨lo, mid, hi, rfl, rfl, rfl, by omega, by omega, h3⟩
theorem i_vc_merge {k : Nat} {u : SX} {v : SY} (I : i_Rel k u v) (hk : k + 4 ≤ 2049) (v1 : Int32) (v2 : Int32) (v3 : Int32) : wpX_merge (fun r u' => wpY_merge (fun r' v' => r' = r ∧ i_Rel (k + 4) u' v') v v1 v2 v3) u v1 v2 v3 := by
  obtain ⟨n, C, T, hn, rfl, rfl⟩ := I
  by_cases h0 : v1 < 0
  · exact br_t h0 (br_t h0 ⟨rfl, n, C, T, hn, rfl, rfl⟩)
  · by_cases h1 : v2 < v1
    · exact br_f h0 (br_t h1 (br_f h0 (br_t h1 ⟨rfl, n, C, T, hn, rfl, rfl⟩)))
    · by_cases h2 : v3 < v2
      · exact br_f h0 (br_f h1 (br_t h2 (br_f h0 (br_f h1 (br_t h2 ⟨rfl, n, C, T, hn, rfl, rfl⟩)))))
      · by_cases h3 : v3 ≤ nI n
        · obtain ⟨lo, mid, hi, rfl, rfl, rfl, a1, a2, a3⟩ := rb_args hn h0 h1 h2 h3
          refine br_f h0 (br_f h1 (br_f h2 (br_t h3 (nm_r (nI_1 lo) (rb_Xm a1 a2 (by omega) ?_ ?_)))))
          · intro s1 s2 F T' hF
            refine br_f h0 (br_f h1 (br_f h2 (br_t h3 (nm_r (nI_1 lo) (rb_Ym a1 a2 (by omega) ?_ ?_)))))
            · intro _ _ G hG
              cases rb_F_uniq (by omega) hF hG
              exact ⟨rfl, n, F, T', hn, rfl, rfl⟩
            · intro z
              exact absurd ⟨s1, s2⟩ z
          · intro z
            refine br_f h0 (br_f h1 (br_f h2 (br_t h3 (nm_r (nI_1 lo) (rb_Ym a1 a2 (by omega) ?_ ?_)))))
            · intro s1 s2
              exact absurd ⟨s1, s2⟩ z
            · intro _
              exact ⟨rfl, n, C, T, hn, rfl, rfl⟩
        · exact br_f h0 (br_f h1 (br_f h2 (br_f h3 (br_f h0 (br_f h1 (br_f h2 (br_f h3 ⟨rfl, n, C, T, hn, rfl, rfl⟩)))))))
end
