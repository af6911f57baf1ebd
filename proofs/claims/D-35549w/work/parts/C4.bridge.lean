set_option maxRecDepth 100000
/-! what the component answers is what the model answers: plain laws -/
theorem iter_inv {σ : Type} {f : σ → Int → σ} {P : σ → Prop} (hs : ∀ x i, P x → P (f x i)) {x : σ} (h0 : P x) : ∀ n, P (iter f n x)
  | 0 => h0
  | n + 1 => hs _ _ (iter_inv hs h0 n)
theorem iter_eq {σ : Type} {f g : σ → Int → σ} {n : Nat} (h : ∀ (a : σ) (i : Nat), i < n → f a i = g a i) (a : σ) : ∀ m : Nat, m ≤ n → iter f m a = iter g m a
  | 0, _ => rfl
  | m + 1, hm => by
    show f (iter f m a) m = g (iter g m a) m
    rw [iter_eq h a m (by omega), h _ m (by omega)]
section BR
variable {s y x x' : mS} {r i : Int}
/-! thrown stays under a layout -/
theorem t37_F {k : Nat} {v : Int} (hk : k ≠ 37) : (mF s k v).1 37 = s.1 37 := if_neg (Ne.symm hk)
theorem t37_A {k : Nat} {z v : Int} : (mA s k z v).1 37 = s.1 37 := rfl
theorem t37_new {a b : Int} : (mNew s a b).1 37 = s.1 37 := by
  unfold mNew
  rw [t37_F (by omega)]
  rfl
theorem t37_ln {x : mL} {t : Int} : (mLn r x t).1.1 37 = x.1.1 37 := by
  unfold mLn
  split
  · rfl
  · split
    · show (mNew (mA x.1 15 t (-1)) 1 1).1 37 = _
      rw [t37_new, t37_A]
    · split
      · split
        · show (mNew (mA x.1 15 t (-1)) 0 1).1 37 = _
          rw [t37_new, t37_A]
        · split
          · rfl
          · show (mNew (mA x.1 15 t (-1)) 0 0).1 37 = _
            rw [t37_new, t37_A]
      · rfl
theorem t37_hs {x : mS × Int} {t : Int} : (mHs x t).1.1 37 = x.1.1 37 := by
  unfold mHs
  split
  · split <;> rfl
  · rfl
theorem t37_lay1 : (mLay1 s r).1 37 = s.1 37 := by
  have h1 : ∀ n, (mLines0 s r n).1.1 37 = s.1 37 := fun n => iter_inv (P := fun x : mL => x.1.1 37 = s.1 37) (fun x i h => t37_ln.trans h) (by show (mF s 14 0).1 37 = _; rw [t37_F (by omega)]) n
  exact iter_inv (P := fun x : mS × Int => x.1.1 37 = s.1 37) (fun x i h => t37_hs.trans h) (h1 _) _
theorem t37_tops {t : Int} : (mTops s t).1 37 = s.1 37 := by
  unfold mTops
  rw [t37_F (by omega), t37_F (by omega), t37_A]
theorem t37_next : (mNext s).1 37 = s.1 37 := by
  unfold mNext
  rw [t37_F (by omega), t37_tops]
theorem t37_all : ∀ (f : Nat) (s : mS), (mTopsAll f s).1 37 = s.1 37
  | 0, _ => rfl
  | f + 1, s => by
    unfold mTopsAll
    split
    · rw [t37_all f, t37_next]
    · rfl
theorem t37_beg : (mBeg s).1 37 = s.1 37 := by
  unfold mBeg
  rw [t37_all]
  unfold mBeg0
  rw [t37_F (by omega), t37_F (by omega), t37_F (by omega), t37_F (by omega)]
theorem t37_while : ∀ (f : Nat) (s : mS), (mWhile i f s).1 37 = s.1 37
  | 0, _ => rfl
  | f + 1, s => by
    unfold mWhile
    split
    · rw [t37_while f, t37_beg]
    · rfl
theorem t37_fig {t : Int} : (mFig i s t).1 37 = s.1 37 := by
  unfold mFig
  split
  · split
    · exact t37_tops
    · rw [t37_F (by omega), t37_A]
  · rfl
theorem t37_line : (mLine s i).1 37 = s.1 37 := by
  unfold mLine
  refine iter_inv (P := fun x : mS => x.1 37 = s.1 37) (fun x i h => t37_fig.trans h) ?_ _
  unfold mPlace
  rw [t37_F (by omega), t37_F (by omega), t37_F (by omega), t37_A, t37_while]
theorem t37_end : ∀ (f : Nat) (s : mS), (mEnd f s).1 37 = s.1 37
  | 0, _ => rfl
  | f + 1, s => by
    unfold mEnd
    split
    · rw [t37_end f, t37_beg]
    · rfl
theorem t37_lay : (mLay s r).1 37 = s.1 37 := by
  unfold mLay mFront
  rw [(fr_same 10 _).2 37 (by omega) (by omega), t37_F (by omega), t37_F (by omega)]
  have h0 : (mCol00 (mLay1 s r)).1 37 = s.1 37 := by
    unfold mCol00
    rw [t37_F (by omega), t37_F (by omega), t37_F (by omega), t37_lay1]
  unfold mCols
  split
  · exact h0
  · rw [t37_end]
    exact iter_inv (P := fun x : mS => x.1 37 = s.1 37) (fun x i h => t37_line.trans h) (t37_beg.trans h0) _
theorem told_37 {v : Int} : told (mF s 37 v) = told s := told_F (by omega)
theorem lLay_37 {v : Int} : lLay (mF y 37 v) r = lLay y r := by
  unfold lLay
  rw [canon_tq (tq_told told_37)]
/-- the copy that the model lays out behind thrown = 0 -/
theorem RF_37 (hT : TI y) (hB : MB y) (hr : 0 ≤ r ∧ r < 4) {v : Int} (hv : bd v) : RF y (lLay y r) (mLay (mF y 37 v) r) := by
  have h := RF_lay (hT.f37 (x := v)) (hB.F hv) hr
  rw [lLay_37] at h
  exact h
theorem told_37lay (hT : TI y) (hB : MB y) (hr : 0 ≤ r ∧ r < 4) {v : Int} (hv : bd v) : told (mLay (mF y 37 v) r) = told y := (told_lay (hB.F hv) hT.f37 hr).trans told_37
/-! pages -/
theorem lPage_eq (h : RF y (lLay y r) x) (hx : told x = told y) (hG : 0 ≤ x.1 23) (h0 : 0 ≤ i) (h1 : i < x.1 14) : lPage y r i = mPage x i := by
  obtain ⟨e14, e15, eA, eL, e22, e16, e23, -⟩ := h
  have e10 : x.1 10 = y.1 10 := told_f hx 10 (by omega)
  unfold lPage mPage lPg mPageBy
  rw [e23, (eA i h0 h1).2.2.2, e10]
  generalize x.2 17 i / y.1 10 = q
  by_cases w : x.1 24 = 0
  · simp [w]
  · simp only [if_neg w]
    rw [if_neg (by omega)]
    omega
theorem pages_eq (h : RF y (lLay y r) x) (hx : told x = told y) (hG : 0 ≤ x.1 23) : (if (lLay y r).1.1 23 = -1 then -1 else (lLay y r).1.1 23 + mPagesOf y ((lLay y r).1.1 22)) = (if x.1 24 = 0 then -1 else x.1 23 + mPagesOf x (x.1 22)) := by
  obtain ⟨e14, e15, eA, eL, e22, e16, e23, -⟩ := h
  have e10 : x.1 10 = y.1 10 := told_f hx 10 (by omega)
  rw [e23, e22]
  unfold mPagesOf
  rw [e10]
  by_cases w : x.1 24 = 0
  · simp [w]
  · simp only [if_neg w]
    rw [if_neg (by omega)]
theorem lmEntry_eq (h : RF y (lLay y r) x) (hx : told x = told y) (hG : 0 ≤ x.1 23) {e : Int} : (iter (lEn y r e) ((lLay y r).1.1 14).toNat (0, -1)).2 = mEntry x e := by
  unfold mEntry
  have e14 : (lLay y r).1.1 14 = x.1 14 := h.1
  rw [e14, iter_eq (f := lEn y r e) (g := mEn x e) (n := (x.1 14).toNat) (fun a j hj => ?_) (0, -1) _ (Nat.le_refl _)]
  have q := (h.2.2.1 (j : Int) (by omega) (by omega)).2.1
  unfold lEn mEn
  rw [q, lPage_eq h hx hG (i := (j : Int)) (by omega) (by omega)]
/-! rows -/
theorem mRows_congr {n : Nat} (ht : told x = told x') (h : ∀ u : Int, 0 ≤ u → u < n → x.2 15 u = x'.2 15 u) : mRows x r i n = mRows x' r i n := by
  have hq : tq x' x := tq_told ht
  have e1 : mOn x i n = mOn x' i n := by
    unfold mOn
    refine List.filter_congr fun u hu => ?_
    have hu := List.mem_range.mp hu
    have := mHg_tq hq (u : Int)
    rw [h u (by omega) (by omega)]
    simp only [this]
  unfold mRows
  rw [e1]
  exact List.map_congr_left fun u _ => mRow_tq hq r (u : Int)
theorem mRowsAll_congr {n m : Nat} (ht : told x = told x') (h : ∀ u : Int, 0 ≤ u → u < m → x.2 15 u = x'.2 15 u) : mRowsAll x r n m = mRowsAll x' r n m := by
  unfold mRowsAll
  exact List.map_congr_left fun u _ => mRows_congr ht h
theorem new_eq (hT : TI y) (hB : MB y) (hr : 0 ≤ r ∧ r < 4) (ht : told x = told y) (h15 : ∀ u : Int, 0 ≤ u → u < y.1 0 → x.2 15 u = (mLay y r).2 15 u) {z : Int} (h0 : 0 ≤ z) (h1 : z < (mLay y r).1 14) {ks : List (List mR3)} : lHad y r z ks = mHad x r z (y.1 0).toNat ks ∧ lThere y r z = mThere x r z (y.1 0).toNat := by
  have hrow : ∀ k : Int, 0 ≤ k → k < (mLay y r).1 14 → lRows y r k = mRows x r k (y.1 0).toNat := fun k a b => by
    rw [(lRows_len hT hB hr a b).2]
    exact mRows_congr ((told_lay hB hT hr).trans ht.symm) (fun u p q => (h15 u p (by have := hT.1; omega)).symm)
  refine ⟨?_, ?_⟩
  · unfold lHad mHad
    rw [hrow z h0 h1]
  · unfold lThere mThere
    refine cnt_congr _ fun u a b => ?_
    rw [hrow u a (by omega), hrow z h0 h1]
    simp only [eq_comm]
/-! faults -/
theorem takes_RF (h : RF y (lLay y r) x) {j b : Int} (a : 0 ≤ j) (c : j < x.1 14) : mTakes (lLay y r).1 j b = mTakes x j b := by
  obtain ⟨q1, q2, -⟩ := h.2.2.1 j a c
  unfold mTakes
  rw [q1, q2]
theorem needs_RF (hL : LL x) (h : RF y (lLay y r) x) {j b : Int} (a : 0 ≤ j) (c : j < x.1 14) : lNeeds (lLay y r).1 j b = mNeeds x j b := by
  obtain ⟨q1, q2, q3, -⟩ := h.2.2.1 j a c
  have e14 : (lLay y r).1.1 14 = x.1 14 := h.1
  obtain ⟨-, l1, l2, l3⟩ := hL.2 j a c
  unfold lNeeds mNeeds
  rw [takes_RF h a c, Int.add_assoc, e14, q2, q3]
  congr 1
  by_cases hk : (x.2 19 j ≠ 0 ∨ x.2 21 j ≠ 0) ∧ j + 1 < x.1 14
  · have hk' : (x.2 19 j ≠ 0 ∨ (x.2 20 j ≠ 0 ∧ x.2 21 j ≠ 0)) ∧ j + 1 < x.1 14 := by omega
    rw [if_pos hk, if_pos hk', takes_RF h (by omega) hk.2]
    obtain ⟨w1, w2, w3, -⟩ := h.2.2.1 (j + 1) (by omega) hk.2
    obtain ⟨-, m1, m2, m3⟩ := hL.2 (j + 1) (by omega) hk.2
    rw [w3]
    congr 1
    by_cases hm : x.2 19 j ≠ 0 ∧ x.2 21 (j + 1) ≠ 0
    · rw [if_pos ⟨hk, hm⟩, if_pos ⟨hm.1, by omega, by omega, hm.2⟩, takes_RF h (by omega) (by omega)]
    · rw [if_neg (fun q => hm q.2), if_neg (fun q => hm ⟨q.1, q.2.2.2⟩)]
  · have hk' : ¬ ((x.2 19 j ≠ 0 ∨ (x.2 20 j ≠ 0 ∧ x.2 21 j ≠ 0)) ∧ j + 1 < x.1 14) := by omega
    rw [if_neg hk, if_neg hk', if_neg (fun q => hk q.1)]
    rfl
theorem mRootS_told (h : told x = told y) : ∀ f v, mRootS x f v = mRootS y f v
  | 0, _ => rfl
  | f + 1, v => by
    unfold mRootS
    rw [told_a h 11 (by omega), mRootS_told h f]
theorem mLast_told (h : told x = told y) (v : Int) : mLast x v = mLast y v := mRootS_told h 10 v
theorem mk_cnt {m : Int} : ∀ n : Nat, iter (mMk x m) n 0 = if cnt (fun t => decide (mCounts x t m)) n = 0 then 0 else 1
  | 0 => rfl
  | n + 1 => by
    show mMk x m (iter (mMk x m) n 0) n = _
    rw [mk_cnt n]
    show mMk x m (if cnt (fun t => decide (mCounts x t m)) n = 0 then 0 else 1) n = if cnt (fun t => decide (mCounts x t m)) n + (if decide (mCounts x (n : Int) m) = true then 1 else 0) = 0 then 0 else 1
    generalize cnt (fun t => decide (mCounts x t m)) n = k
    unfold mMk
    by_cases h : k = 0
    · subst h
      by_cases hc : mCounts x n m
      · simp [hc]
      · simp [hc]
    · simp [h]
theorem lMk_eq (h : RF y (lLay y r) x) (hx : told x = told y) {m u : Int} (a : 0 ≤ u) (b : u < y.1 0) : lMk y r m u = decide (mCounts x u m) := by
  unfold lMk mCounts
  rw [h.2.1 u a b, told_a hx 1 (by omega), told_a hx 2 (by omega), mLast_told hx]
theorem faults_eq (hT : TI y) (hG : CG x) (h : RF y (lLay y r) x) (hx : told x = told y) {w : Int} (hw : 0 ≤ w ∧ w ≤ 4) : lFaults y r w = mFaults x r w := by
  have e0 : x.1 0 = y.1 0 := told_f hx 0 (by omega)
  have e8 : x.1 8 = y.1 8 := told_f hx 8 (by omega)
  have e9 : x.1 9 = y.1 9 := told_f hx 9 (by omega)
  have h64 := hT.1
  have e14 : (lLay y r).1.1 14 = x.1 14 := h.1
  have e23 : (lLay y r).1.1 23 = (if x.1 24 = 0 then -1 else x.1 23) := h.2.2.2.2.2.2.1
  have h23 := hG.2.1
  unfold lFaults mFaults
  rcases (by omega : w = 0 ∨ w = 1 ∨ w = 2 ∨ w = 3 ∨ w = 4) with rfl | rfl | rfl | rfl | rfl
  · simp only [show ¬ (0 : Int) = 1 by omega, show ¬ (0 : Int) = 3 by omega, show ¬ (0 : Int) = 4 by omega, if_false, if_true]
    unfold mF0
    rw [e0]
    congr 1
    refine cnt_congr _ fun u a b => ?_
    rw [e8, mWide_of hx]
    have := mPrn_of hx r u
    simp only [this]
  · simp only [show ¬ (1 : Int) = 0 by omega, show ¬ (1 : Int) = 3 by omega, if_false, if_true]
    unfold mF1
    rw [e14]
    congr 1
    refine cnt_congr _ fun u a b => ?_
    rw [needs_RF hG.1.2.2.1 h a (by omega), e9]
  · simp only [show ¬ (2 : Int) = 0 by omega, show ¬ (2 : Int) = 1 by omega, show ¬ (2 : Int) = 3 by omega, show ¬ (2 : Int) = 4 by omega, if_false, if_true]
    unfold mF2
    rw [e0, e9, told_a hx 1 (by omega), told_a hx 2 (by omega)]
  · simp only [show ¬ (3 : Int) = 1 by omega, if_false, if_true]
    rw [e23]
    by_cases q : x.1 24 = 0
    · simp [q]
    · simp only [if_neg q]
      rw [if_neg (by omega)]
  · simp only [show ¬ (4 : Int) = 0 by omega, show ¬ (4 : Int) = 1 by omega, show ¬ (4 : Int) = 2 by omega, show ¬ (4 : Int) = 3 by omega, if_false, if_true]
    unfold mF4
    congr 1
    refine cnt_congr _ fun u a b => ?_
    rw [told_a hx 11 (by omega), mLast_told hx]
    unfold mMarked
    rw [mk_cnt, e0, cnt_congr (p := lMk y r (mLast y u)) (q := fun t => decide (mCounts x t (mLast y u))) (y.1 0).toNat (fun v c d => lMk_eq h hx c (by omega))]
    by_cases q : cnt (fun t => decide (mCounts x t (mLast y u))) (y.1 0).toNat = 0
    · simp [q]
    · simp [q]
/-! plates: by lines, by tokens -/
def sm (F : Int → Int) : Nat → Int
  | 0 => 0
  | n + 1 => sm F n + F n
theorem sm_congr {F G : Int → Int} : ∀ n : Nat, (∀ u : Int, 0 ≤ u → u < n → F u = G u) → sm F n = sm G n
  | 0, _ => rfl
  | n + 1, h => by
    unfold sm
    rw [sm_congr n (fun u a b => h u a (by omega)), h n (by omega) (by omega)]
theorem sm_zero {F : Int → Int} : ∀ n : Nat, (∀ u : Int, 0 ≤ u → u < n → F u = 0) → sm F n = 0
  | 0, _ => rfl
  | n + 1, h => by
    unfold sm
    rw [sm_zero n (fun u a b => h u a (by omega)), h n (by omega) (by omega)]
    rfl
theorem sm_one {F G : Int → Int} {j d : Int} (h0 : 0 ≤ j) (hj : G j = F j + d) (ho : ∀ u, u ≠ j → G u = F u) : ∀ n : Nat, j < n → sm G n = sm F n + d
  | 0, h => by omega
  | n + 1, h => by
    unfold sm
    by_cases e : j = n
    · subst e
      rw [hj, sm_congr n (F := G) (G := F) (fun u a b => ho u (by omega))]
      omega
    · rw [sm_one h0 hj ho n (by omega), ho n (Ne.symm e)]
      omega
/-- of the tokens below n those on line i with the colour -/
def plK (y x : mS) (c i : Int) (n : Nat) : Nat := cnt (lCol y c ((mOn x i n).map fun (u : Nat) => (u : Int))) (mOn x i n).length
theorem plK_succ {c : Int} {n : Nat} : plK y x c i (n + 1) = plK y x c i n + (if (x.2 15 (n : Int) = i ∧ ¬ mHg x (n : Int)) ∧ mEff 6 y (y.2 3 (n : Int)) = c then 1 else 0) := by
  unfold plK
  rw [mOn_succ]
  by_cases h : x.2 15 (n : Int) = i ∧ ¬ mHg x (n : Int)
  · rw [if_pos h, List.length_append, List.map_append]
    show cnt _ (mOn x i n).length + (if lCol y c ((mOn x i n).map (fun (u : Nat) => (u : Int)) ++ [n].map (fun (u : Nat) => (u : Int))) (((mOn x i n).length : Nat) : Int) = true then 1 else 0) = _
    congr 1
    · refine cnt_congr _ fun u a b => ?_
      unfold lCol
      have : u.toNat < ((mOn x i n).map fun (u : Nat) => (u : Int)).length := by rw [List.length_map]; omega
      rw [List.getD_eq_getElem?_getD, List.getD_eq_getElem?_getD, List.getElem?_append_left this]
    · unfold lCol
      rw [Int.toNat_natCast, List.getD_eq_getElem?_getD, List.getElem?_append_right (by rw [List.length_map]; exact Nat.le_refl _), List.length_map, Nat.sub_self]
      show (if decide (mEff 6 y (y.2 3 (n : Int)) = c) = true then 1 else 0) = _
      by_cases q : mEff 6 y (y.2 3 (n : Int)) = c
      · rw [if_pos (decide_eq_true q)]
        exact (if_pos ⟨h, q⟩).symm
      · rw [if_neg (fun z => q (of_decide_eq_true z))]
        exact (if_neg (fun z => q z.2)).symm
  · rw [if_neg h, if_neg (fun z => h z.1)]
    rfl
theorem plK_same {c : Int} {n : Nat} (h : ¬ ((x.2 15 (n : Int) = i ∧ ¬ mHg x (n : Int)) ∧ mEff 6 y (y.2 3 (n : Int)) = c)) : plK y x c i (n + 1) = plK y x c i n := by
  rw [plK_succ, if_neg h, Nat.add_zero]
theorem iter_sm {F : Int → Int} {f : Int → Int → Int} (h : ∀ a i, f a i = a + F i) : ∀ n : Nat, iter f n 0 = sm F n
  | 0 => rfl
  | n + 1 => by
    show f (iter f n 0) n = sm F n + F n
    rw [h, iter_sm h n]
theorem plate_sum {B : Int → Prop} [DecidablePred B] {c N : Int} (hN : 0 ≤ N) : ∀ n : Nat, (∀ u : Int, 0 ≤ u → u < n → -1 ≤ x.2 15 u ∧ x.2 15 u < N) → sm (fun i => if B i then (plK y x c i n : Int) else 0) N.toNat = sm (fun t => if x.2 15 t ≠ -1 ∧ ¬ mHg x t ∧ mEff 6 y (y.2 3 t) = c ∧ B (x.2 15 t) then 1 else 0) n
  | 0, _ => sm_zero _ fun u a b => by
    show (if B u then ((plK y x c u 0 : Nat) : Int) else 0) = 0
    split <;> rfl
  | n + 1, h => by
    have ih := plate_sum (B := B) (c := c) hN n (fun u a b => h u a (by omega))
    have hb := h n (by omega) (by omega)
    show _ = sm _ n + (if x.2 15 (n : Int) ≠ -1 ∧ ¬ mHg x (n : Int) ∧ mEff 6 y (y.2 3 (n : Int)) = c ∧ B (x.2 15 (n : Int)) then 1 else 0)
    rw [← ih]
    by_cases hg : x.2 15 (n : Int) = -1
    · rw [if_neg (fun q => q.1 hg), Int.add_zero]
      refine sm_congr _ fun u a b => ?_
      show (if B u then ((plK y x c u (n + 1) : Nat) : Int) else 0) = (if B u then ((plK y x c u n : Nat) : Int) else 0)
      rw [plK_same (fun q => by have := q.1.1; omega)]
    · refine sm_one (j := x.2 15 (n : Int)) (by omega) ?_ (fun u hu => ?_) _ (by omega)
      · show (if B (x.2 15 (n : Int)) then ((plK y x c (x.2 15 (n : Int)) (n + 1) : Nat) : Int) else 0) = (if B (x.2 15 (n : Int)) then ((plK y x c (x.2 15 (n : Int)) n : Nat) : Int) else 0) + _
        rw [plK_succ]
        by_cases hB : B (x.2 15 (n : Int))
        · rw [if_pos hB, if_pos hB]
          by_cases hq : ¬ mHg x (n : Int) ∧ mEff 6 y (y.2 3 (n : Int)) = c
          · rw [if_pos ⟨⟨rfl, hq.1⟩, hq.2⟩, if_pos ⟨hg, hq.1, hq.2, hB⟩]
            rfl
          · rw [if_neg (fun z => hq ⟨z.1.2, z.2⟩), if_neg (fun z => hq ⟨z.2.1, z.2.2.1⟩)]
            rfl
        · rw [if_neg hB, if_neg hB, if_neg (fun z => hB z.2.2.2)]
          rfl
      · show (if B u then ((plK y x c u (n + 1) : Nat) : Int) else 0) = (if B u then ((plK y x c u n : Nat) : Int) else 0)
        rw [plK_same (fun q => hu q.1.1.symm)]
theorem mSheetOf_told (hx : told x = told y) (p : Int) : mSheetOf x p = mSheetOf y p ∧ mSideOf x p = mSideOf y p := by
  unfold mSheetOf mSideOf mWithin mQ
  rw [told_f hx 12 (by omega)]
  exact ⟨rfl, rfl⟩
theorem plate_eq (hT : TI y) (hH : CH x) (h : RF y (lLay y r) x) (hx : told x = told y) {sh sd c : Int} : lPlate y r sh sd c = mPlate x sh sd c := by
  have e0 : x.1 0 = y.1 0 := told_f hx 0 (by omega)
  have e14 : (lLay y r).1.1 14 = x.1 14 := h.1
  have e23 : (lLay y r).1.1 23 = (if x.1 24 = 0 then -1 else x.1 23) := h.2.2.2.2.2.2.1
  have h23 := hH.1.2.1
  have h14 := hH.1.1.2.2.1.1
  have h64 := hT.1
  unfold lPlate mPlate
  rw [e23]
  by_cases w : x.1 24 = 0
  · simp [w]
  · simp only [if_neg w]
    rw [if_neg (by omega), e14, e0]
    rw [iter_sm (f := mPl x sh sd c) (F := fun t => if x.2 15 t ≠ -1 ∧ ¬ mHg x t ∧ mEff 6 y (y.2 3 t) = c ∧ (mSheetOf y (mPage x (x.2 15 t)) = sh ∧ mSideOf y (mPage x (x.2 15 t)) = sd) then 1 else 0) (fun a t => ?_) (y.1 0).toNat]
    · rw [← plate_sum (B := fun i => mSheetOf y (mPage x i) = sh ∧ mSideOf y (mPage x i) = sd) (N := x.1 14) (by omega) (y.1 0).toNat (fun u a b => hH.2 u a (by omega))]
      rw [iter_sm (f := lPl y r sh sd c) (F := fun i => if mSheetOf y (lPage y r i) = sh ∧ mSideOf y (lPage y r i) = sd then ((cnt (lCol y c ((lLay y r).2 (6 + 3 * i.toNat))) ((lLay y r).2 (6 + 3 * i.toNat)).length : Nat) : Int) else 0) (fun a i => ?_) (x.1 14).toNat]
      · refine sm_congr _ fun u a b => ?_
        have eL := h.2.2.2.1 u.toNat (by omega)
        rw [eL, lPage_eq h hx h23.1 (i := u) a (by omega), Int.toNat_of_nonneg a]
        unfold plK
        rw [List.length_map]
      · unfold lPl
        split <;> omega
    · unfold mPl
      rw [mEff_of hx (Or.inr rfl), told_a hx 3 (by omega), (mSheetOf_told hx _).1, (mSheetOf_told hx _).2]
      split <;> omega
/-! the index: the list of pages is one -/
theorem sorted_ext : ∀ {L M : List Int}, L.Pairwise (· < ·) → M.Pairwise (· < ·) → (∀ q, q ∈ L ↔ q ∈ M) → L = M
  | [], [], _, _, _ => rfl
  | [], b :: M, _, _, h => absurd ((h b).mpr List.mem_cons_self) List.not_mem_nil
  | a :: L, [], _, _, h => absurd ((h a).mp List.mem_cons_self) List.not_mem_nil
  | a :: L, b :: M, hL, hM, h => by
    obtain ⟨l1, l2⟩ := List.pairwise_cons.mp hL
    obtain ⟨m1, m2⟩ := List.pairwise_cons.mp hM
    have hab : a = b := by
      have h1 := (h a).mp List.mem_cons_self
      have h2 := (h b).mpr List.mem_cons_self
      rcases List.mem_cons.mp h1 with e | e
      · exact e
      · rcases List.mem_cons.mp h2 with e2 | e2
        · exact e2.symm
        · have := l1 b e2
          have := m1 a e
          omega
    subst hab
    congr 1
    refine sorted_ext l2 m2 fun q => ⟨fun hq => ?_, fun hq => ?_⟩
    · have hlt := l1 q hq
      rcases List.mem_cons.mp ((h q).mp (List.mem_cons_of_mem _ hq)) with e | e
      · omega
      · exact e
    · have hlt := m1 q hq
      rcases List.mem_cons.mp ((h q).mpr (List.mem_cons_of_mem _ hq)) with e | e
      · omega
      · exact e
theorem sorted_has (P : Int → Prop) (hP : ∀ q, P q → 0 ≤ q ∧ q < 1000) : ∃ L : List Int, L.Pairwise (· < ·) ∧ ∀ q, q ∈ L ↔ P q := by
  have hd : ∀ q, Decidable (P q) := fun q => Classical.propDecidable _
  refine ⟨((List.range 1000).filter fun (u : Nat) => decide (P (u : Int))).map fun (u : Nat) => (u : Int), ?_, fun q => ?_⟩
  · refine List.pairwise_map.mpr ((List.Pairwise.filter _ List.pairwise_lt_range).imp fun h => ?_)
    omega
  · rw [List.mem_map]
    constructor
    · rintro ⟨u, hu, rfl⟩
      exact of_decide_eq_true (List.mem_filter.mp hu).2
    · intro hq
      have hb := hP q hq
      refine ⟨q.toNat, List.mem_filter.mpr ⟨List.mem_range.mpr (by omega), ?_⟩, Int.toNat_of_nonneg hb.1⟩
      rw [Int.toNat_of_nonneg hb.1]
      exact decide_eq_true hq
end BR
