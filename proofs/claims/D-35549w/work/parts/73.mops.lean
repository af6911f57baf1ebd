set_option maxRecDepth 100000
/-! the model's calls: tokens that are fine; terms' roots -/
abbrev mFine (k a st : Int) : Prop := (0 ≤ st ∧ st ≤ (if k = 0 ∨ k = 1 ∨ k = 3 then 5 else 0)) ∧ (k = 0 ∨ k = 3 ∨ k = 4 → 1 ≤ a ∧ a ≤ 9) ∧ (k = 1 → 0 ≤ a ∧ a ≤ 3) ∧ (k = 2 → a = 0) ∧ (k = 5 → 1 ≤ a ∧ a ≤ 4) ∧ (k = 6 → 0 ≤ a ∧ a ≤ 9)
def mRootS (s : mS) : Nat → Int → Int
  | 0, v => v
  | f + 1, v => if s.2 11 v = -1 then v else mRootS s f (s.2 11 v)
def mLast (s : mS) (v : Int) : Int := mRootS s 10 v
section MP4
variable {D : qD} {W : mW} {X : String → qH → Prop} {s : mS}
theorem mIn_01 {v lo hi : Int} : mIn v lo hi = 0 ∨ mIn v lo hi = 1 := by
  unfold mIn
  split <;> simp
theorem q_isFine (hW : mOK D W) (hB : MB s) {K : Int → mS → Prop} {k a st : Int} (hk : 0 ≤ k ∧ k ≤ 6) (ba : bd a) (bs : bd st) (hy : mFine k a st → K 1 s) (hn : ¬ mFine k a st → K 0 s) : pI D W X m_X3_isFine [k, a, st] s K := by
  have hin : ∀ lo hi : Int, ((lo ≤ a ∧ a ≤ hi) → K 1 s) → (¬ (lo ≤ a ∧ a ≤ hi) → K 0 s) → (mIn a lo hi = 0 ∨ mIn a lo hi = 1) ∧ K (mIn a lo hi) s := by
    intro lo hi h1 h0
    refine ⟨mIn_01, ?_⟩
    unfold mIn
    split
    · next w => exact h1 w
    · next w => exact h0 w
  have h36 : ∀ y : Int, y = (if k = 0 ∨ k = 1 ∨ k = 3 then 5 else 0) → PL_X3_isFine_36 D W X K s k a y 0 st := by
    intro y hy9
    refine p_X3_isFine_36 hW fun _ _ _ _ _ _ => ⟨fun w => ?_, fun w => hn (fun z => mIn_no.mp w (by rw [hy9]; exact z.1))⟩
    have e := mIn_yes.mp w
    rw [hy9] at e
    have h84 : (k = 0 ∨ k = 3 ∨ k = 4) → PL_X3_isFine_84 D W X K s a := fun q => p_X3_isFine_84 hW fun _ _ => hin 1 9 (fun z => hy ⟨e, by omega⟩) (fun z => hn (fun z2 => z (z2.2.1 q)))
    refine ⟨fun q => h84 (Or.inl q), fun q => hin 0 3 (fun z => hy ⟨e, by omega⟩) (fun z => hn (fun z2 => z (z2.2.2.1 q))), fun q => ⟨fun z => hn (fun z2 => z (z2.2.2.2.1 q)), fun z => hy ⟨e, by omega⟩⟩, fun q => h84 (Or.inr (Or.inl q)), fun q => h84 (Or.inr (Or.inr q)), fun q => hin 1 4 (fun z => hy ⟨e, by omega⟩) (fun z => hn (fun z2 => z (z2.2.2.2.2.1 q))), fun q0 q1 q2 q3 q4 q5 => hin 0 9 (fun z => hy ⟨e, by omega⟩) (fun z => hn (fun z2 => z (z2.2.2.2.2.2 (by omega))))⟩
  have h19 : ∀ y : Int, (y = 1 ∧ (k = 0 ∨ k = 1 ∨ k = 3)) ∨ (y = 0 ∧ ¬ (k = 0 ∨ k = 1 ∨ k = 3)) → PL_X3_isFine_19 D W X K s k a st y := by
    intro y hy9
    refine p_X3_isFine_19 hW fun _ _ _ _ _ => ⟨fun w => h36 0 ?_, fun w => h36 5 ?_⟩
    · rcases hy9 with q | q
      · omega
      · rw [if_neg q.2]
    · rcases hy9 with q | q
      · rw [if_pos q.2]
      · omega
  have h14 : (k = 0 ∨ k = 1 ∨ k = 3) → PL_X3_isFine_14 D W X K s k a st := fun q => p_X3_isFine_14 hW fun _ _ _ _ => h19 1 (Or.inl ⟨rfl, q⟩)
  exact p_X3_isFine hW hB ⟨by omega, by omega⟩ ba bs ⟨fun q => h14 (Or.inl q), fun q => ⟨fun q2 => h14 (Or.inr (Or.inl q2)), fun q2 => ⟨fun q3 => h19 0 (Or.inr ⟨rfl, by omega⟩), fun q3 => h14 (Or.inr (Or.inr q3))⟩⟩⟩
theorem mRootS_bd (hT : TI s) : ∀ (f : Nat) (v : Int), 0 ≤ v ∧ v < 10 → 0 ≤ mRootS s f v ∧ mRootS s f v < 10
  | 0, v, h => h
  | f + 1, v, h => by
    unfold mRootS
    split
    · exact h
    · next hc =>
      have := hT.2.2.2.2.2.2.2.1 v h.1 h.2
      exact mRootS_bd hT f _ ⟨by omega, by omega⟩
theorem q_lastOf (hW : mOK D W) (hB : MB s) (hT : TI s) {K : Int → mS → Prop} {v : Int} (hv : 0 ≤ v ∧ v < 10) (hK : K (mLast s v) s) : pI D W X m_X3_lastOf [v] s K := by
  obtain ⟨rk, r1, r2⟩ := hT.2.2.2.2.2.2.2.2.2.2.2
  have hL : ∀ (f : Nat) (v : Int), 0 ≤ v ∧ v < 10 → rk v < f → K (mRootS s f v) s → PL_X3_lastOf_2 D W X K s v := by
    intro f
    induction f with
    | zero => intro v _ h; omega
    | succ f ih =>
      intro v hv hr hK
      have hb := hT.2.2.2.2.2.2.2.1 v hv.1 hv.2
      unfold mRootS at hK
      refine p_X3_lastOf_2 hW fun _ _ => ⟨hv, fun w => ?_, fun w => ⟨hv, ?_⟩⟩
      · rw [if_pos w] at hK; exact hK
      · rw [if_neg w] at hK
        exact ih _ ⟨by omega, by omega⟩ (by have := r2 v hv.1 hv.2 w; omega) hK
  exact p_X3_lastOf hW hB ⟨by omega, by omega⟩ (hL 10 v hv (by have := r1 v hv.1 hv.2; omega) hK)
/-- the token t marks the term -/
abbrev mCounts (s : mS) (t m : Int) : Prop := s.2 1 t = 6 ∧ s.2 15 t ≠ -1 ∧ mLast s (s.2 2 t) = m
theorem q_counts (hW : mOK D W) (hB : MB s) (hT : TI s) {K : Int → mS → Prop} {t m : Int} (ht : 0 ≤ t ∧ t < s.1 0) (hm : bd m) (hy : mCounts s t m → K 1 s) (hn : ¬ mCounts s t m → K 0 s) : pI D W X m_X3_counts [t, m] s K := by
  have h64 := hT.1
  have hk := (hT.tok ht.1 ht.2).2.2.1
  refine p_X3_counts hW hB ⟨by omega, by omega⟩ hm ⟨⟨by omega, by omega⟩, fun w => hn (fun z => w z.1), fun w => ⟨⟨by omega, by omega⟩, fun w2 => hn (fun z => z.2.1 w2), fun w2 => ⟨⟨by omega, by omega⟩, q_lastOf hW hB hT ⟨by omega, by omega⟩ ⟨fun w3 => hn (fun z => w3 z.2.2), fun w3 => hy ⟨w, w2, w3⟩⟩⟩⟩⟩
end MP4
