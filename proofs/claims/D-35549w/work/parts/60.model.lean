set_option maxRecDepth 100000
/-! the model's methods as functions: styles, tokens, lines -/
abbrev mHg (s : mS) (t : Int) : Prop := s.2 1 t = 4 ∨ s.2 1 t = 5 ∨ s.2 1 t = 6
abbrev mPrn (s : mS) (r t : Int) : Prop := s.2 1 t = 0 ∨ s.2 1 t = 3 ∨ (s.2 1 t = 1 ∧ 0 < s.2 7 (4 * r + s.2 2 t))
/-- where a style's own value comes from -/
def mRoot (k : Nat) (s : mS) : Nat → Int → Int
  | 0, v => v
  | f + 1, v => if s.2 k v = -1 ∧ s.2 4 v ≠ -1 then mRoot k s f (s.2 4 v) else v
def mEff (k : Nat) (s : mS) (v : Int) : Int := if s.2 k (mRoot k s 6 v) = -1 then 0 else s.2 k (mRoot k s 6 v)
def mWide (s : mS) (r t : Int) : Int := (if s.2 1 t = 1 then s.2 7 (4 * r + s.2 2 t) else s.2 2 t) + mEff 5 s (s.2 3 t)
/-- a chain that ends -/
def acyc (s : mS) (k : Nat) (m : Int) : Prop := ∃ rk : Int → Nat, (∀ i, 0 ≤ i → i < m → (rk i : Int) < m) ∧ ∀ i, 0 ≤ i → i < m → s.2 k i ≠ -1 → rk (s.2 k i) < rk i
/-- a token that may be put -/
def TK (s : mS) (t : Int) : Prop := (0 ≤ s.2 1 t ∧ s.2 1 t ≤ 6) ∧ (0 ≤ s.2 3 t ∧ s.2 3 t ≤ 5) ∧ (0 ≤ s.2 2 t ∧ s.2 2 t ≤ 9) ∧ ((s.2 1 t = 0 ∨ s.2 1 t = 3 ∨ s.2 1 t = 4 ∨ s.2 1 t = 5) → 1 ≤ s.2 2 t) ∧ (s.2 1 t = 1 → s.2 2 t ≤ 3) ∧ (s.2 1 t = 5 → s.2 2 t ≤ 4)
/-- what is told -/
def TI (s : mS) : Prop :=
  (0 ≤ s.1 0 ∧ s.1 0 ≤ 64) ∧ (∀ t, 0 ≤ t → t < s.1 0 → TK s t) ∧ (∀ i, 0 ≤ i → i < 16 → 0 ≤ s.2 7 i ∧ s.2 7 i ≤ 9) ∧
  (∀ i, 0 ≤ i → i < 6 → (-1 ≤ s.2 4 i ∧ s.2 4 i ≤ 5) ∧ (-1 ≤ s.2 5 i ∧ s.2 5 i ≤ 3) ∧ -1 ≤ s.2 6 i ∧ s.2 6 i ≤ 3) ∧
  (5 ≤ s.1 8 ∧ s.1 8 ≤ 20) ∧ (3 ≤ s.1 9 ∧ s.1 9 ≤ 20) ∧ (1 ≤ s.1 10 ∧ s.1 10 ≤ 2) ∧ (∀ i, 0 ≤ i → i < 10 → -1 ≤ s.2 11 i ∧ s.2 11 i ≤ 9) ∧
  (s.1 12 = 4 ∨ s.1 12 = 8 ∨ s.1 12 = 16) ∧ (0 ≤ s.1 13 ∧ s.1 13 ≤ 9) ∧ acyc s 4 6 ∧ acyc s 11 10
/-- the told part of a state: the rest is set to nothing -/
def told (s : mS) : mS := (fun k => if k = 0 ∨ k = 8 ∨ k = 9 ∨ k = 10 ∨ k = 12 ∨ k = 13 ∨ k = 31 then s.1 k else 0, fun k z => if k = 1 ∨ k = 2 ∨ k = 3 ∨ k = 4 ∨ k = 5 ∨ k = 6 ∨ k = 7 ∨ k = 11 ∨ k = 32 ∨ k = 33 ∨ k = 34 ∨ k = 35 then s.2 k z else 0)
section MO
variable {D : qD} {W : mW} {X : String → qH → Prop} {s : mS}
theorem TI.base (h : TI s) {v : Int} (h0 : 0 ≤ v) (h6 : v < 6) : (-1 ≤ s.2 4 v ∧ s.2 4 v ≤ 5) ∧ (-1 ≤ s.2 5 v ∧ s.2 5 v ≤ 3) ∧ -1 ≤ s.2 6 v ∧ s.2 6 v ≤ 3 := h.2.2.2.1 v h0 h6
theorem mEff_bd (hT : TI s) {k : Nat} (hk : k = 5 ∨ k = 6) {v : Int} (h0 : 0 ≤ v) (h6 : v < 6) : 0 ≤ mRoot k s 6 v ∧ mRoot k s 6 v < 6 ∧ 0 ≤ mEff k s v ∧ mEff k s v ≤ 3 := by
  have hr : ∀ (f : Nat) (v : Int), 0 ≤ v → v < 6 → 0 ≤ mRoot k s f v ∧ mRoot k s f v < 6 := by
    intro f
    induction f with
    | zero => intro v h0 h6; exact ⟨h0, h6⟩
    | succ f ih =>
      intro v h0 h6
      unfold mRoot
      split
      · next hc =>
        have := hT.base h0 h6
        exact ih _ (by omega) (by omega)
      · exact ⟨h0, h6⟩
  obtain ⟨h1, h2⟩ := hr 6 v h0 h6
  refine ⟨h1, h2, ?_⟩
  unfold mEff
  have := hT.base h1 h2
  rcases hk with rfl | rfl
  · split <;> omega
  · split <;> omega
theorem q_extraOf (hW : mOK D W) (hB : MB s) (hT : TI s) {K : Int → mS → Prop} {v : Int} (h0 : 0 ≤ v) (h6 : v < 6) (hK : K (mEff 5 s v) s) : pI D W X m_X3_extraOf [v] s K := by
  obtain ⟨rk, r1, r2⟩ := hT.2.2.2.2.2.2.2.2.2.2.1
  have hL : ∀ (f : Nat) (v : Int), 0 ≤ v → v < 6 → rk v < f → K (if s.2 5 (mRoot 5 s f v) = -1 then 0 else s.2 5 (mRoot 5 s f v)) s → PL_X3_extraOf_2 D W X K s v := by
    intro f
    induction f with
    | zero => intro v _ _ h; omega
    | succ f ih =>
      intro v h0 h6 hr hK
      have hb := hT.base h0 h6
      have hend : ¬ (s.2 5 v = -1 ∧ s.2 4 v ≠ -1) → PL_X3_extraOf_32 D W X K s v := by
        intro hc
        unfold mRoot at hK
        rw [if_neg hc] at hK
        refine p_X3_extraOf_32 hW fun _ _ => ⟨⟨h0, h6⟩, fun w => ⟨⟨h0, h6⟩, ?_⟩, fun w => ?_⟩
        · rw [if_neg w] at hK; exact hK
        · rw [if_pos w] at hK; exact hK
      refine p_X3_extraOf_2 hW fun _ _ => ⟨⟨h0, h6⟩, fun w => hend (fun q => w q.1), fun w => ⟨⟨h0, h6⟩, fun w2 => hend (fun q => q.2 w2), fun w2 => ⟨⟨h0, h6⟩, ?_⟩⟩⟩
      have hm : mRoot 5 s (f + 1) v = mRoot 5 s f (s.2 4 v) := if_pos ⟨w, w2⟩
      rw [hm] at hK
      exact ih _ (by omega) (by omega) (by have := r2 v h0 h6 w2; omega) hK
  exact p_X3_extraOf hW hB ⟨by omega, by omega⟩ (hL 6 v h0 h6 (by have := r1 v h0 h6; omega) hK)
theorem q_colourOf (hW : mOK D W) (hB : MB s) (hT : TI s) {K : Int → mS → Prop} {v : Int} (h0 : 0 ≤ v) (h6 : v < 6) (hK : K (mEff 6 s v) s) : pI D W X m_X3_colourOf [v] s K := by
  obtain ⟨rk, r1, r2⟩ := hT.2.2.2.2.2.2.2.2.2.2.1
  have hL : ∀ (f : Nat) (v : Int), 0 ≤ v → v < 6 → rk v < f → K (if s.2 6 (mRoot 6 s f v) = -1 then 0 else s.2 6 (mRoot 6 s f v)) s → PL_X3_colourOf_2 D W X K s v := by
    intro f
    induction f with
    | zero => intro v _ _ h; omega
    | succ f ih =>
      intro v h0 h6 hr hK
      have hb := hT.base h0 h6
      have hend : ¬ (s.2 6 v = -1 ∧ s.2 4 v ≠ -1) → PL_X3_colourOf_32 D W X K s v := by
        intro hc
        unfold mRoot at hK
        rw [if_neg hc] at hK
        refine p_X3_colourOf_32 hW fun _ _ => ⟨⟨h0, h6⟩, fun w => ⟨⟨h0, h6⟩, ?_⟩, fun w => ?_⟩
        · rw [if_neg w] at hK; exact hK
        · rw [if_pos w] at hK; exact hK
      refine p_X3_colourOf_2 hW fun _ _ => ⟨⟨h0, h6⟩, fun w => hend (fun q => w q.1), fun w => ⟨⟨h0, h6⟩, fun w2 => hend (fun q => q.2 w2), fun w2 => ⟨⟨h0, h6⟩, ?_⟩⟩⟩
      have hm : mRoot 6 s (f + 1) v = mRoot 6 s f (s.2 4 v) := if_pos ⟨w, w2⟩
      rw [hm] at hK
      exact ih _ (by omega) (by omega) (by have := r2 v h0 h6 w2; omega) hK
  exact p_X3_colourOf hW hB ⟨by omega, by omega⟩ (hL 6 v h0 h6 (by have := r1 v h0 h6; omega) hK)
theorem q_hangs (hW : mOK D W) (hB : MB s) {K : Int → mS → Prop} {t : Int} (h0 : 0 ≤ t) (h1 : t < 120) (hK : K (if mHg s t then 1 else 0) s) : pI D W X m_X3_hangs [t] s K := by
  have h1' : mHg s t → PL_X3_hangs_31 D W X K s := fun w => p_X3_hangs_31 hW fun _ => by rw [if_pos w] at hK; exact hK
  refine p_X3_hangs hW hB ⟨by omega, by omega⟩ ⟨⟨h0, h1⟩, fun w => h1' (Or.inl w), fun w => ⟨⟨h0, h1⟩, fun w2 => h1' (Or.inr (Or.inl w2)), fun w2 => ⟨⟨h0, h1⟩, fun w3 => ?_, fun w3 => h1' (Or.inr (Or.inr w3))⟩⟩⟩
  rw [if_neg (by rintro (q | q | q) <;> contradiction)] at hK
  exact hK
theorem TI.tok (h : TI s) {t : Int} (h0 : 0 ≤ t) (h1 : t < s.1 0) : TK s t := h.2.1 t h0 h1
theorem q_isPrinted (hW : mOK D W) (hB : MB s) (hT : TI s) {K : Int → mS → Prop} {r t : Int} (hr : 0 ≤ r ∧ r < 4) (h0 : 0 ≤ t) (h1 : t < s.1 0) (hK : K (if mPrn s r t then 1 else 0) s) : pI D W X m_X3_isPrinted [r, t] s K := by
  have h64 := hT.1
  obtain ⟨k1, k2, k3, k4, k5, k6⟩ := hT.tok h0 h1
  have h1' : mPrn s r t → PL_X3_isPrinted_47 D W X K s := fun w => p_X3_isPrinted_47 hW fun _ => by rw [if_pos w] at hK; exact hK
  have h0' : ¬ mPrn s r t → K 0 s := fun w => by rw [if_neg w] at hK; exact hK
  refine p_X3_isPrinted hW hB ⟨by omega, by omega⟩ ⟨by omega, by omega⟩ ⟨⟨h0, by omega⟩, fun w => h1' (Or.inl w), fun w => ⟨⟨h0, by omega⟩, fun w2 => h1' (Or.inr (Or.inl w2)), fun w2 => ⟨⟨h0, by omega⟩, fun w3 => h0' ?_, fun w3 => ⟨⟨h0, by omega⟩, ⟨by omega, by have := k5 w3; omega⟩, fun w4 => h0' ?_, fun w4 => h1' (Or.inr (Or.inr ⟨w3, by omega⟩))⟩⟩⟩⟩
  · rintro (q | q | ⟨q, -⟩) <;> contradiction
  · rintro (q | q | ⟨q, q2⟩)
    · contradiction
    · contradiction
    · omega
theorem q_wide (hW : mOK D W) (hB : MB s) (hT : TI s) {K : Int → mS → Prop} {r t : Int} (hr : 0 ≤ r ∧ r < 4) (h0 : 0 ≤ t) (h1 : t < s.1 0) (hK : K (mWide s r t) s) : pI D W X m_X3_wide [r, t] s K := by
  have h64 := hT.1
  obtain ⟨k1, k2, k3, k4, k5, k6⟩ := hT.tok h0 h1
  have hL : ∀ y, y = (if s.2 1 t = 1 then s.2 7 (4 * r + s.2 2 t) else s.2 2 t) → 0 ≤ y ∧ y ≤ 9 → PL_X3_wide_34 D W X K s t y := by
    intro y hy hyb
    refine p_X3_wide_34 hW fun hB _ _ => ⟨⟨h0, by omega⟩, q_extraOf hW hB hT (by omega) (by omega) ?_⟩
    have hb := (mEff_bd hT (k := 5) (Or.inl rfl) (v := s.2 3 t) (by omega) (by omega)).2.2
    refine ⟨⟨by omega, by omega⟩, ?_⟩
    unfold mWide at hK
    rw [← hy] at hK
    exact hK
  refine p_X3_wide hW hB ⟨by omega, by omega⟩ ⟨by omega, by omega⟩ ⟨⟨h0, by omega⟩, fun w => ⟨⟨h0, by omega⟩, hL _ (by rw [if_neg w]) (by omega)⟩, fun w => ⟨⟨h0, by omega⟩, ⟨by omega, by have := k5 w; omega⟩, hL _ (by rw [if_pos w]) ?_⟩⟩
  have := k5 w
  exact hT.2.2.1 _ (by omega) (by omega)
theorem mWide_bd (hT : TI s) {r t : Int} (hr : 0 ≤ r ∧ r < 4) (h0 : 0 ≤ t) (h1 : t < s.1 0) : 0 ≤ mWide s r t ∧ mWide s r t ≤ 12 := by
  obtain ⟨k1, k2, k3, k4, k5, k6⟩ := hT.tok h0 h1
  have hb := (mEff_bd hT (k := 5) (Or.inl rfl) (v := s.2 3 t) (by omega) (by omega)).2.2
  unfold mWide
  split
  · next w =>
    have := k5 w
    have := hT.2.2.1 (4 * r + s.2 2 t) (by omega) (by omega)
    omega
  · omega
end MO
