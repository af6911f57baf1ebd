set_option maxRecDepth 100000
/-! columns rise with the lines -/
section MNO
variable {s s0 x : mS} {i g : Int}
theorem a17_F {k : Nat} {v : Int} : (mF s k v).2 17 = s.2 17 := rfl
theorem a17_A {k : Nat} {z v : Int} (hk : k ≠ 17) : (mA s k z v).2 17 = s.2 17 := by
  funext u
  show (if 17 = k ∧ u = z then v else s.2 17 u) = s.2 17 u
  rw [if_neg (fun q => hk q.1.symm)]
theorem a17_tops {t : Int} : (mTops s t).2 17 = s.2 17 := by
  unfold mTops
  rw [a17_F, a17_F, a17_A (by omega)]
theorem a17_next : (mNext s).2 17 = s.2 17 := by
  unfold mNext
  rw [a17_F, a17_tops]
theorem a17_all : ∀ (f : Nat) (s : mS), (mTopsAll f s).2 17 = s.2 17
  | 0, _ => rfl
  | f + 1, s => by
    unfold mTopsAll
    split
    · rw [a17_all f, a17_next]
    · rfl
theorem a17_beg : (mBeg s).2 17 = s.2 17 := a17_all _ _
theorem a17_while : ∀ (f : Nat) (s : mS), (mWhile i f s).2 17 = s.2 17
  | 0, _ => rfl
  | f + 1, s => by
    unfold mWhile
    split
    · rw [a17_while f, a17_beg]
    · rfl
theorem a17_fig {t : Int} : (mFig i s t).2 17 = s.2 17 := by
  unfold mFig
  split
  · split
    · exact a17_tops
    · rw [a17_F, a17_A (by omega)]
  · rfl
theorem a17_figs : ∀ (n : Nat), (iter (mFig i) n s).2 17 = s.2 17
  | 0 => rfl
  | n + 1 => by
    show (mFig i (iter (mFig i) n s) n).2 17 = s.2 17
    rw [a17_fig, a17_figs n]
theorem a17_end : ∀ (f : Nat) (s : mS), (mEnd f s).2 17 = s.2 17
  | 0, _ => rfl
  | f + 1, s => by
    unfold mEnd
    split
    · rw [a17_end f, a17_beg]
    · rfl
theorem mono_line (hT : TI s0) (hL : LL s0) (hB : MB s0) : ∀ n : Nat, (n : Int) ≤ s0.1 14 → ∀ a b : Int, 0 ≤ a → a ≤ b → b < n → (iter mLine n (mBeg (mCol00 s0))).2 17 a ≤ (iter mLine n (mBeg (mCol00 s0))).2 17 b
  | 0, _, a, b, h0, h1, h2 => by omega
  | n + 1, hn, a, b, h0, h1, h2 => by
    have ih := mono_line hT hL hB n (by omega)
    have hl := hL.1
    have h64 := hT.1
    obtain ⟨c1, c2⟩ := CI_lines hT hL hB n (by omega)
    have hgb := mG_bd (s0 := s0) hT.1.1 (i := (n : Int)) (t := 0)
    have hj := c1.1.2.2.2.2.1
    show (mLine (iter mLine n (mBeg (mCol00 s0))) n).2 17 a ≤ (mLine (iter mLine n (mBeg (mCol00 s0))) n).2 17 b
    generalize iter mLine n (mBeg (mCol00 s0)) = y at *
    obtain ⟨w1, w2, w3⟩ := mWhile_ok hT hL (i := (n : Int)) ⟨hgb.1, by omega⟩ ⟨by omega, by omega⟩ 130 y c1 (Or.inr (by omega))
    have e : (mLine y n).2 17 = fun (u : Int) => if u = n then (mWhile n 130 y).1 22 - 1 else y.2 17 u := by
      unfold mLine
      rw [a17_figs]
      funext u
      show (if 17 = 17 ∧ u = n then (mWhile n 130 y).1 22 - 1 else (mWhile n 130 y).2 17 u) = _
      rw [a17_while]
      by_cases hu : u = n
      · rw [if_pos ⟨rfl, hu⟩, if_pos hu]
      · rw [if_neg (fun q => hu q.2), if_neg hu]
    rw [e]
    have h9 := w1.1.2.2.2.2.2.2 a h0
    rw [a17_while] at h9
    by_cases hb : b = n
    · by_cases ha : a = n
      · simp only [if_pos ha, if_pos hb]
        exact Int.le_refl _
      · have := h9 (by omega)
        simp only [if_neg ha, if_pos hb]
        omega
    · simp only [if_neg hb, if_neg (show ¬ a = n by omega)]
      exact ih a b h0 h1 (by omega)
theorem mono_lay (hB : MB s) (hT : TI s) {r : Int} (hr : 0 ≤ r ∧ r < 4) {a b : Int} (h0 : 0 ≤ a) (h1 : a ≤ b) (h2 : b < (mLay s r).1 14) : (mLay s r).2 17 a ≤ (mLay s r).2 17 b := by
  obtain ⟨hL1, -⟩ := L1_lay hT hB hr
  have hT0 := hT.of hL1.2.1.symm
  have hLL := hL1.LL hT
  obtain ⟨e14, -⟩ := lay_same hB hT hr
  have e17 : (mLay s r).2 17 = (mCols (mLay1 s r)).2 17 := congrFun (fr_same 10 (mF (mF (mCols (mLay1 s r)) 23 0) 24 0)).1 17
  rw [e17]
  rw [e14] at h2
  unfold mCols
  rw [if_neg (by omega), a17_end]
  exact mono_line hT0 hLL hL1.1 _ (by omega) a b h0 h1 (by omega)
end MNO
