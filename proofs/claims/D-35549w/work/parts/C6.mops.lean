set_option maxRecDepth 100000
/-! the model's answers, behind the component's -/
theorem told_m36 {x : mS} {g : Int → Int} : told (m36 x g) = told x := by
  refine Prod.ext rfl (funext fun k => funext fun z => ?_)
  simp only [told, m36]
  split
  · rw [if_neg (by omega)]
  · rfl
section MO1
variable {D : qD} {C W : mW} {y y2 new : mS} {ks : List (List mR3)} {X : String → qH → Prop} {r : Int}
/-- what the model leaves where it answers z2 -/
abbrev KA (R : OUT) : Int → mS → Prop := fun z2 y2 => ∀ k z s' ks', R k z s' ks' → mAns k z s' ks' z2 y2
abbrev KV (R : OUT) : mS → Prop := fun y2 => ∀ k s' ks', R k 0 s' ks' → mAns k 0 s' ks' 0 y2
theorem hr4 (u : 0 ≤ r ∧ r ≤ 3) : 0 ≤ r ∧ r < 4 := ⟨u.1, by omega⟩
theorem b0_ : bd 0 := bdl rfl
theorem e37 {v : Int} : (mF y 37 v).1 37 = v := by
  show (if (37 : Nat) = 37 then v else y.1 37) = v
  exact if_pos rfl
theorem told_1 (hT : TI y) (hB : MB y) (u : 0 ≤ r ∧ r ≤ 3) : told (mLay1 (mF y 37 0) r) = told y := (L1_lay hT.f37 (hB.F b0_) (hr4 u)).1.2.1.trans told_37
theorem told_2 (hT : TI y) (hB : MB y) (u : 0 ≤ r ∧ r ≤ 3) : told (mLay (mF y 37 0) r) = told y := told_37lay hT hB (hr4 u) b0_
theorem told_3 (hT : TI y) (hB : MB y) (u : 0 ≤ r ∧ r ≤ 3) {v : Int} : told (mF (mLay y r) 37 v) = told y := told_37.trans (told_lay hB hT (hr4 u))
theorem told_4 (hT : TI y) (hB : MB y) (u : 0 ≤ r ∧ r ≤ 3) {v : Int} : told (mF (mLay1 y r) 37 v) = told y := told_37.trans (L1_lay hT hB (hr4 u)).1.2.1
theorem t1_ : (mLay1 (mF y 37 0) r).1 37 = 0 := t37_lay1.trans e37
theorem t2_ : (mLay (mF y 37 0) r).1 37 = 0 := t37_lay.trans e37
theorem n_put (hW : mOK D W) (hB : MB y) (hT : TI y) (hK : KR y ks) (hlt : y.1 0 < 64) {p k a st : Int} (bp : bd p) (bk : bd k) (ba : bd a) (bs : bd st) : pI D W X m_X3_put [p, k, a, st] y (KA (RM y ks ((0 ≤ p ∧ p ≤ y.1 0) ∧ (0 ≤ k ∧ k ≤ 6) ∧ mFine k a st) (y.1 0 + 1) (mPut y p k a st) (¬ (0 ≤ p ∧ p ≤ y.1 0)) (¬ ((0 ≤ k ∧ k ≤ 6) ∧ mFine k a st)) False)) := by
  have e : mPut (mF y 37 0) p k a st = mF (mPut y p k a st) 37 0 := by
    refine Prod.ext (funext fun i => ?_) rfl
    show (if i = 0 then (mF y 37 0).1 0 + 1 else (mF y 37 0).1 i) = (if i = 37 then 0 else if i = 0 then y.1 0 + 1 else y.1 i)
    by_cases a : i = 0
    · subst a
      rfl
    · rw [if_neg a]
      show (if i = 37 then 0 else y.1 i) = _
      by_cases b : i = 37
      · rw [if_pos b, if_pos b]
      · rw [if_neg b, if_neg b, if_neg a]
  refine q_putM hW hB ⟨hT.1.1, hlt⟩ bp bk ba bs (fun u v w => mmOK ⟨u, v, w⟩ ?_ rfl ?_ ?_) (fun u => mm1 hK (fun q => u q.1) u e37 told_37) (fun u v => mm2 hK (fun q => v q.2) (fun q => q u) v e37 told_37)
  · rw [e]
    exact e37
  · rw [e]
    exact tq_told told_37
  · rw [e]
    refine KR.told (s := mPut y p k a st) (KR.eq hK rfl (fun j hj => ?_)) told_37
    funext z
    show (mPut y p k a st).2 j z = _
    simp only [mPut, mF, mA, mSh]
    rw [if_neg (by omega), if_neg (by omega), if_neg (by omega), if_neg (by omega)]
theorem n_take (hW : mOK D W) (hB : MB y) (hT : TI y) (hK : KR y ks) {p : Int} (bp : bd p) : pI D W X m_X3_take [p] y (KA (RM y ks (0 ≤ p ∧ p < y.1 0) (y.1 0 - 1) (mTake y p) True False False)) := by
  have e : mTake (mF y 37 0) p = mF (mTake y p) 37 0 := by
    unfold mTake
    show mSd (mF (mF y 37 0) 0 (y.1 0 - 1)) p (y.1 0 - 1) = _
    rw [mF_comm (by omega)]
    rfl
  refine q_take hW hB hT.1 bp (fun u => mmOK u ?_ rfl ?_ ?_) (fun u => mm1 hK u trivial e37 told_37)
  · rw [e]
    exact e37
  · rw [e]
    exact tq_told told_37
  · rw [e]
    refine KR.told (s := mTake y p) (KR.eq hK rfl (fun j hj => ?_)) told_37
    funext z
    show (mTake y p).2 j z = _
    simp only [mTake, mSd, mF]
    rw [if_neg (by omega)]
theorem n_data (hW : mOK D W) (hB : MB y) (hK : KR y ks) {a b c : Int} (ba : bd a) (bb : bd b) (bc : bd c) : pI D W X m_X3_data [a, b, c] y (KA (RM y ks ((0 ≤ a ∧ a ≤ 3) ∧ (0 ≤ b ∧ b ≤ 3) ∧ (0 ≤ c ∧ c ≤ 9)) (y.2 7 (4 * a + b)) (mA y 7 (4 * a + b) c) (¬ ((0 ≤ a ∧ a ≤ 3) ∧ (0 ≤ b ∧ b ≤ 3))) (¬ (0 ≤ c ∧ c ≤ 9)) False)) :=
  q_data hW hB ba bb bc (fun u v w => mmOK ⟨u, v, w⟩ (e37 (y := y)) rfl (tq_told (x := mA y 7 (4 * a + b) c) (told_37 (s := mA y 7 (4 * a + b) c) (v := 0))) (KR.told (s := mA y 7 (4 * a + b) c) (KR.eq hK rfl (fun j hj => by
    funext z
    simp only [mA]
    rw [if_neg (by omega)])) (told_37 (s := mA y 7 (4 * a + b) c) (v := 0)))) (fun u => mm1 hK (fun q => u ⟨q.1, q.2.1⟩) u e37 told_37) (fun u v => mm2 hK (fun q => v q.2.2) (fun q => q u) v e37 told_37)
theorem n_see (hW : mOK D W) (hB : MB y) (hT : TI y) (hK : KR y ks) {a b : Int} (ba : bd a) (bb : bd b) : pI D W X m_X3_see [a, b] y (KA (RM y ks ((0 ≤ a ∧ a ≤ 9) ∧ (-1 ≤ b ∧ b ≤ 9) ∧ mChase y 11 a 10 b = -1) (y.2 11 a) (mA y 11 a b) (¬ ((0 ≤ a ∧ a ≤ 9) ∧ (-1 ≤ b ∧ b ≤ 9))) (mChase y 11 a 10 b ≠ -1) False)) :=
  q_see hW hB hT ba bb (fun u v w => mmOK ⟨u, v, w⟩ (e37 (y := y)) rfl (tq_told (x := mA y 11 a b) (told_37 (s := mA y 11 a b) (v := 0))) (KR.told (s := mA y 11 a b) (KR.eq hK rfl (fun j hj => by
    funext z
    simp only [mA]
    rw [if_neg (by omega)])) (told_37 (s := mA y 11 a b) (v := 0)))) (fun u => mm1 hK (fun q => u ⟨q.1, q.2.1⟩) u e37 told_37) (fun u v w => mm2 hK (fun q => w q.2.2) (fun q => q ⟨u, v⟩) w e37 told_37)
theorem n_style (hW : mOK D W) (hB : MB y) (hT : TI y) (hK : KR y ks) {a b e c : Int} (ba : bd a) (bb : bd b) (be : bd e) (bc : bd c) : pV D W X m_X3_style [a, b, e, c] y (KV (RM y ks ((0 ≤ a ∧ a ≤ 5) ∧ (-1 ≤ b ∧ b ≤ 5) ∧ (-1 ≤ e ∧ e ≤ 3) ∧ (-1 ≤ c ∧ c ≤ 3) ∧ mChase y 4 a 6 b = -1) 0 (mA (mA (mA y 4 a b) 5 a e) 6 a c) (¬ ((0 ≤ a ∧ a ≤ 5) ∧ (-1 ≤ b ∧ b ≤ 5))) (¬ ((-1 ≤ e ∧ e ≤ 3) ∧ (-1 ≤ c ∧ c ≤ 3))) (mChase y 4 a 6 b ≠ -1))) :=
  q_style hW hB hT ba bb be bc (fun u v w t q k s' ks' => mmOK (z2 := 0) ⟨u, v, w, t, q⟩ e37 rfl (tq_told (x := mA (mA (mA y 4 a b) 5 a e) 6 a c) (told_37 (s := mA (mA (mA y 4 a b) 5 a e) 6 a c) (v := 0))) (KR.told (s := mA (mA (mA y 4 a b) 5 a e) 6 a c) (KR.eq hK rfl (fun j hj => by
    funext z
    simp only [mA]
    rw [if_neg (by omega), if_neg (by omega), if_neg (by omega)])) (told_37 (s := mA (mA (mA y 4 a b) 5 a e) 6 a c) (v := 0))) k 0 s' ks') (fun u k s' ks' => mm1 (z2 := 0) hK (fun q => u ⟨q.1, q.2.1⟩) u e37 told_37 k 0 s' ks') (fun u v w k s' ks' => mm2 (z2 := 0) hK (fun q => w ⟨q.2.2.1, q.2.2.2.1⟩) (fun q => q ⟨u, v⟩) w e37 told_37 k 0 s' ks') (fun u v w t q9 k s' ks' => mm3 (z2 := 0) hK (fun q => q9 q.2.2.2.2) (fun q => q ⟨u, v⟩) (fun q => q ⟨w, t⟩) e37 told_37 k 0 s' ks')
theorem n_grid (hW : mOK D W) (hB : MB y) (hK : KR y ks) {a b c : Int} (ba : bd a) (bb : bd b) (bc : bd c) : pV D W X m_X3_grid [a, b, c] y (KV (RM y ks ((5 ≤ a ∧ a ≤ 20) ∧ (3 ≤ b ∧ b ≤ 20) ∧ (1 ≤ c ∧ c ≤ 2)) 0 (mF (mF (mF y 8 a) 9 b) 10 c) True False False)) := by
  have e : mF (mF (mF (mF y 37 0) 8 a) 9 b) 10 c = mF (mF (mF (mF y 8 a) 9 b) 10 c) 37 0 := by
    rw [mF_comm (s := y) (k := 37) (j := 8) (by omega), mF_comm (k := 37) (j := 9) (by omega), mF_comm (k := 37) (j := 10) (by omega)]
  refine q_grid hW hB ba bb bc (fun u v w k s' ks' => mmOK (z2 := 0) ⟨u, v, w⟩ ?_ rfl ?_ ?_ k 0 s' ks') (fun u k s' ks' => mm1 (z2 := 0) hK u trivial e37 told_37 k 0 s' ks')
  · rw [e]
    exact e37
  · rw [e]
    exact tq_told told_37
  · rw [e]
    exact KR.told (s := mF (mF (mF y 8 a) 9 b) 10 c) (KR.eq hK rfl (fun j hj => rfl)) told_37
theorem n_fold (hW : mOK D W) (hB : MB y) (hK : KR y ks) {a b : Int} (ba : bd a) (bb : bd b) : pV D W X m_X3_fold [a, b] y (KV (RM y ks ((a = 4 ∨ a = 8 ∨ a = 16) ∧ (0 ≤ b ∧ b ≤ 9)) 0 (mF (mF y 12 a) 13 b) True False False)) := by
  have e : mF (mF (mF y 37 0) 12 a) 13 b = mF (mF (mF y 12 a) 13 b) 37 0 := by
    rw [mF_comm (s := y) (k := 37) (j := 12) (by omega), mF_comm (k := 37) (j := 13) (by omega)]
  refine q_fold hW hB ba bb (fun u v k s' ks' => mmOK (z2 := 0) ⟨u, v⟩ ?_ rfl ?_ ?_ k 0 s' ks') (fun u k s' ks' => mm1 (z2 := 0) hK u trivial e37 told_37 k 0 s' ks')
  · rw [e]
    exact e37
  · rw [e]
    exact tq_told told_37
  · rw [e]
    exact KR.told (s := mF (mF y 12 a) 13 b) (KR.eq hK rfl (fun j hj => rfl)) told_37
theorem n_keep (hW : mOK D W) (hB : MB y) (hT : TI y) (hK : KR y ks) (br : bd r) : pI D W X m_X3_keep [r] y (KA (RK y ks (0 ≤ r ∧ r ≤ 3) ((mLay y r).1 14) (mRowsAll (mLay y r) r ((mLay y r).1 14).toNat (y.1 0).toNat))) := by
  refine q_keep hW hB hT br (fun u y2 hB2 hkq hKR => ?_) (fun u => ?_)
  · rintro k z s' ks' ⟨rfl, ⟨-, rfl, rfl, rfl⟩ | ⟨q, -⟩⟩
    · have h1 := RF_37 hT hB (hr4 u) b0_
      have h2 := RF_lay hT hB (hr4 u)
      obtain ⟨l14, l15⟩ := lay_same (hB.F (k := 37) b0_) hT.f37 (hr4 u)
      have h64 := hT.1
      have e14 : (mLay1 (mF s' 37 0) r).1 14 = (mLay s' r).1 14 := by rw [← l14, ← h1.1, h2.1]
      refine ⟨(hkq.1 37 (by omega)).trans t1_, fun _ => e14, (tq_told (told_1 hT hB u)).tr hkq.tq, ?_⟩
      rw [← e14, ← mRowsAll_congr (x := mLay1 (mF s' 37 0) r) (x' := mLay s' r) ((told_1 hT hB u).trans (told_lay hB hT (hr4 u)).symm) (fun v a b => ?_)]
      · exact hKR
      · rw [← l15 15 (by omega), ← h1.2.1 v a (by omega), h2.2.1 v a (by omega)]
    · exact absurd u q
  · rintro k z s' ks' ⟨rfl, ⟨q, -⟩ | ⟨-, rfl, rfl⟩⟩
    · exact absurd q u
    · exact ⟨e37, fun w => absurd w (by omega), tq_told told_37, hK.told told_37⟩
theorem n_lines (hW : mOK D W) (hB : MB y) (hT : TI y) (hK : KR y ks) (br : bd r) : pI D W X m_X3_lines [r] y (KA (RM y ks (0 ≤ r ∧ r ≤ 3) ((lLay y r).1.1 14) y True False False)) :=
  q_lines hW hB hT br (fun u => mmOQ hK u t1_ (by
    rw [(RF_37 hT hB (hr4 u) b0_).1, (lay_same (hB.F (k := 37) b0_) hT.f37 (hr4 u)).1]) (told_1 hT hB u)) (fun u => mm1 hK u trivial e37 told_37)
theorem n_lineOf (hW : mOK D W) (hB : MB y) (hT : TI y) (hK : KR y ks) {z : Int} (br : bd r) (bz : bd z) : pI D W X m_X3_lineOf [r, z] y (KA (RM y ks ((0 ≤ r ∧ r ≤ 3) ∧ 0 ≤ z ∧ z < y.1 0) ((lLay y r).1.2 15 z) y True False False)) :=
  q_lineOf hW hB hT br bz (fun u v => mmOQ hK ⟨u, v.1, v.2⟩ t1_ (by
    rw [(RF_37 hT hB (hr4 u) b0_).2.1 z v.1 v.2, (lay_same (hB.F (k := 37) b0_) hT.f37 (hr4 u)).2 15 (by omega)]) (told_1 hT hB u)) (fun u => mm1 hK u trivial e37 told_37)
theorem n_columnOf (hW : mOK D W) (hB : MB y) (hT : TI y) (hK : KR y ks) {b z : Int} (br : bd r) (bb : b = 0 ∨ b = 1) (bz : bd z) : pI D W X m_X3_columnOf [r, b, z] y (KA (RM y ks ((0 ≤ r ∧ r ≤ 3) ∧ ((b = 0 ∧ 0 ≤ z ∧ z < y.1 0 ∧ y.2 1 z = 4) ∨ (b = 1 ∧ 0 ≤ z ∧ z < (lLay y r).1.1 14))) (if b = 0 then (lLay y r).1.2 16 z else (lLay y r).1.2 17 z) y True False False)) := by
  refine q_columnOf hW hB hT br (bd01 bb) bz (fun u v w => ?_) (fun u v w q => ?_) (fun u => mm1 hK (fun q => u q.1) trivial e37 told_37) (fun u v => ?_)
  · have h2 := RF_lay hT hB (hr4 u)
    refine mmOQ hK ⟨u, Or.inr ⟨by omega, w.1, by rw [h2.1]; exact w.2⟩⟩ e37 ?_ (told_3 hT hB u)
    rw [if_neg v, (h2.2.2.1 z w.1 w.2).2.2.2]
  · have h2 := RF_lay hT hB (hr4 u)
    refine mmOQ hK ⟨u, Or.inl ⟨v, w.1, w.2, q⟩⟩ e37 ?_ (told_3 hT hB u)
    rw [if_pos v, h2.2.2.2.2.2.1 z w.1 w.2 q]
  · have h2 := RF_lay hT hB (hr4 u)
    refine mm1 hK (fun q => v ?_) trivial e37 (told_3 hT hB u)
    rcases q.2 with ⟨a, b, c, d⟩ | ⟨a, b, c⟩
    · exact Or.inr ⟨a, ⟨b, c⟩, d⟩
    · exact Or.inl ⟨by omega, b, by rw [← h2.1]; exact c⟩
theorem page_val (hT : TI y) (hB : MB y) (u : 0 ≤ r ∧ r ≤ 3) {z : Int} (v : 0 ≤ z ∧ z < (mLay y r).1 14) : mPage (mF (mLay y r) 37 0) z = lPage y r z := (lPage_eq (RF_lay hT hB (hr4 u)) (told_lay hB hT (hr4 u)) (CG_lay hB hT (hr4 u)).2.1.1 v.1 v.2).symm
theorem n_pageOf (hW : mOK D W) (hB : MB y) (hT : TI y) (hK : KR y ks) {z : Int} (br : bd r) (bz : bd z) : pI D W X m_X3_pageOf [r, z] y (KA (RM y ks ((0 ≤ r ∧ r ≤ 3) ∧ 0 ≤ z ∧ z < (lLay y r).1.1 14) (lPage y r z) y True False False)) :=
  q_pageOf hW hB hT br bz (fun u v => mmOQ hK ⟨u, v.1, by rw [(RF_lay hT hB (hr4 u)).1]; exact v.2⟩ e37 (page_val hT hB u v) (told_3 hT hB u)) (fun u => mm1 hK (fun q => u q.1) trivial e37 told_37) (fun u v => mm1 hK (fun q => v ⟨q.2.1, by rw [← (RF_lay hT hB (hr4 u)).1]; exact q.2.2⟩) trivial e37 (told_3 hT hB u))
theorem n_pageAnew (hW : mOK D W) (hB : MB y) (hT : TI y) (hK : KR y ks) {z : Int} (br : bd r) (bz : bd z) : pI D W X m_X3_pageAnew [r, z] y (KA (RM y ks ((0 ≤ r ∧ r ≤ 3) ∧ 0 ≤ z ∧ z < (lLay y r).1.1 14) (lPage y r z) y True False False)) :=
  q_pageAnew hW hB hT br bz (fun u v => mmOQ hK ⟨u, v.1, by rw [(RF_lay hT hB (hr4 u)).1]; exact v.2⟩ e37 (page_val hT hB u v) (told_3 hT hB u)) (fun u => mm1 hK (fun q => u q.1) trivial e37 told_37) (fun u v => mm1 hK (fun q => v ⟨q.2.1, by rw [← (RF_lay hT hB (hr4 u)).1]; exact q.2.2⟩) trivial e37 (told_3 hT hB u))
theorem h23_ (hT : TI y) (hB : MB y) (u : 0 ≤ r ∧ r ≤ 3) : 0 ≤ (mLay (mF y 37 0) r).1 23 := (CG_lay (hB.F b0_) hT.f37 (hr4 u)).2.1.1
theorem n_pages (hW : mOK D W) (hB : MB y) (hT : TI y) (hK : KR y ks) (br : bd r) : pI D W X m_X3_pages [r] y (KA (RM y ks (0 ≤ r ∧ r ≤ 3) (if (lLay y r).1.1 23 = -1 then -1 else (lLay y r).1.1 23 + mPagesOf y ((lLay y r).1.1 22)) y True False False)) :=
  q_pages hW hB hT br (fun u => mmOQ hK u t2_ (pages_eq (RF_37 hT hB (hr4 u) b0_) (told_2 hT hB u) (h23_ hT hB u)).symm (told_2 hT hB u)) (fun u => mm1 hK u trivial e37 told_37)
theorem n_front (hW : mOK D W) (hB : MB y) (hT : TI y) (hK : KR y ks) (br : bd r) : pI D W X m_X3_front [r] y (KA (RM y ks (0 ≤ r ∧ r ≤ 3) ((lLay y r).1.1 23) y True False False)) :=
  q_front hW hB hT br (fun u => mmOQ hK u t2_ (RF_37 hT hB (hr4 u) b0_).2.2.2.2.2.2.1.symm (told_2 hT hB u)) (fun u => mm1 hK u trivial e37 told_37)
theorem n_entry (hW : mOK D W) (hB : MB y) (hT : TI y) (hK : KR y ks) {e : Int} (br : bd r) (be : bd e) : pI D W X m_X3_entry [r, e] y (KA (RM y ks ((0 ≤ r ∧ r ≤ 3) ∧ 0 ≤ e) (iter (lEn y r e) ((lLay y r).1.1 14).toNat (0, -1)).2 y True False False)) :=
  q_entry hW hB hT br be (fun u v => mmOQ hK ⟨u, v⟩ t2_ (lmEntry_eq (RF_37 hT hB (hr4 u) b0_) (told_2 hT hB u) (h23_ hT hB u)).symm (told_2 hT hB u)) (fun u => mm1 hK u trivial e37 told_37)
theorem IXL_m (hT : TI y) (hB : MB y) (u : 0 ≤ r ∧ r ≤ 3) {m : Int} {L : List Int} (h : IXL y r m L) : ∀ q, q ∈ L ↔ ∃ v, 0 ≤ v ∧ v < (mLay (mF y 37 0) r).1 0 ∧ mCounts (mLay (mF y 37 0) r) v m ∧ mPage (mLay (mF y 37 0) r) ((mLay (mF y 37 0) r).2 15 v) = q := by
  intro q
  have h1 := RF_37 hT hB (hr4 u) b0_
  have ht := told_2 hT hB u
  have e0 : (mLay (mF y 37 0) r).1 0 = y.1 0 := told_f ht 0 (by omega)
  have hH := CH_lay (hB.F (k := 37) b0_) hT.f37 (hr4 u)
  rw [h.2 q, e0]
  constructor
  · rintro ⟨v, a, b, c, d⟩
    rw [lMk_eq h1 ht a b] at c
    have c := of_decide_eq_true c
    have := hH.2 v a (by omega)
    refine ⟨v, a, b, c, ?_⟩
    rw [← lPage_eq h1 ht (h23_ hT hB u) (by have := c.2.1; omega) this.2, ← h1.2.1 v a b]
    exact d
  · rintro ⟨v, a, b, c, d⟩
    have := hH.2 v a (by omega)
    refine ⟨v, a, b, by rw [lMk_eq h1 ht a b]; exact decide_eq_true c, ?_⟩
    rw [h1.2.1 v a b, lPage_eq h1 ht (h23_ hT hB u) (by have := c.2.1; omega) this.2]
    exact d
theorem n_index (hW : mOK D W) (hB : MB y) (hT : TI y) (hK : KR y ks) {m z : Int} (br : bd r) (bm : bd m) (bz : bd z) {L : List Int} (hL : (0 ≤ r ∧ r ≤ 3) → (lLay y r).1.1 23 ≠ -1 → IXL y r m L) : pI D W X m_X3_index [r, m, z] y (KA (RM y ks ((0 ≤ r ∧ r ≤ 3) ∧ (0 ≤ m ∧ m ≤ 9) ∧ 0 ≤ z) (ixVal y r m z L) y True False False)) := by
  refine q_index hW hB hT br bm bz (fun u => mm1 hK u trivial e37 told_37) (fun u v w q => ?_) (fun u v w q1 q2 => ?_)
  · refine mmOQ hK ⟨u, v, w⟩ t2_ ?_ (told_2 hT hB u)
    have e23 := (RF_37 hT hB (hr4 u) b0_).2.2.2.2.2.2.1
    unfold ixVal
    rw [if_pos]
    rcases q with q | q
    · rw [told_a (told_2 hT hB u) 11 (by omega)] at q
      exact Or.inl q
    · rw [if_pos q] at e23
      exact Or.inr e23
  · have e23 := (RF_37 hT hB (hr4 u) b0_).2.2.2.2.2.2.1
    rw [if_neg q2] at e23
    have h23 := h23_ hT hB u
    have hL9 := hL u (by omega)
    refine ⟨L, hL9.1, IXL_m hT hB u hL9, fun g hg => mmOQ hK ⟨u, v, w⟩ t2_ ?_ (told_m36.trans (told_2 hT hB u))⟩
    rw [told_a (told_2 hT hB u) 11 (by omega)] at q1
    unfold ixVal
    rw [if_neg (fun q => q.elim (fun q => q q1) (by omega))]
theorem n_sheet (hW : mOK D W) (hB : MB y) (hT : TI y) (hK : KR y ks) {p w : Int} (bp : bd p) (bw : bd w) : pI D W X m_X3_sheet [p, w] y (KA (RM y ks ((1 ≤ p ∧ p ≤ 999) ∧ (0 ≤ w ∧ w ≤ 3)) (mSheet y p w) y True False False)) :=
  q_sheet hW hB hT bp bw (fun u v => mmOQ hK ⟨u, v⟩ e37 rfl told_37) (fun u => mm1 hK u trivial e37 told_37)
theorem n_plate (hW : mOK D W) (hB : MB y) (hT : TI y) (hK : KR y ks) {sh sd c : Int} (br : bd r) (b1 : bd sh) (b2 : bd sd) (b3 : bd c) : pI D W X m_X3_plate [r, sh, sd, c] y (KA (RM y ks ((0 ≤ r ∧ r ≤ 3) ∧ (0 ≤ sh ∧ sh ≤ 249) ∧ (0 ≤ sd ∧ sd ≤ 1) ∧ (0 ≤ c ∧ c ≤ 3)) (lPlate y r sh sd c) y True False False)) :=
  q_plate hW hB hT br b1 b2 b3 (fun u v w t => mmOQ hK ⟨u, v, w, t⟩ t2_ (plate_eq hT (CH_lay (hB.F (k := 37) b0_) hT.f37 (hr4 u)) (RF_37 hT hB (hr4 u) b0_) (told_2 hT hB u)).symm (told_2 hT hB u)) (fun u => mm1 hK u trivial e37 told_37)
theorem n_faults (hW : mOK D W) (hB : MB y) (hT : TI y) (hK : KR y ks) {w : Int} (br : bd r) (bw : bd w) : pI D W X m_X3_faults [r, w] y (KA (RM y ks ((0 ≤ r ∧ r ≤ 3) ∧ (0 ≤ w ∧ w ≤ 4)) (lFaults y r w) y True False False)) :=
  q_faults hW hB hT br bw (fun u v => mmOQ hK ⟨u, v⟩ t2_ (faults_eq hT (CG_lay (hB.F (k := 37) b0_) hT.f37 (hr4 u)) (RF_37 hT hB (hr4 u) b0_) (told_2 hT hB u) v).symm (told_2 hT hB u)) (fun u => mm1 hK u trivial e37 told_37)
theorem n_isNew (hW : mOK D W) (hB : MB y) (hT : TI y) (hK : KR y ks) {z : Int} (br : bd r) (bz : bd z) : pI D W X m_X3_isNew [r, z] y (KA (RM y ks ((0 ≤ r ∧ r ≤ 3) ∧ 0 ≤ z ∧ z < (lLay y r).1.1 14) (if lHad y r z ks < lThere y r z then 1 else 0) y True False False)) := by
  refine q_isNew hW hB hT hK br bz (fun u v => ?_) (fun u => mm1 hK (fun q => u q.1) trivial e37 told_37) (fun u v => ?_)
  · obtain ⟨l14, l15⟩ := lay_same hB hT (hr4 u)
    have h2 := RF_lay hT hB (hr4 u)
    refine mmOQ hK ⟨u, v.1, by rw [h2.1, l14]; exact v.2⟩ e37 ?_ (told_4 hT hB u)
    obtain ⟨w1, w2⟩ := new_eq (x := mF (mLay1 y r) 37 0) hT hB (hr4 u) (told_4 hT hB u) (fun w a b => by rw [l15 15 (by omega)]; rfl) v.1 (by rw [l14]; exact v.2) (ks := ks)
    rw [w1, w2]
  · obtain ⟨l14, l15⟩ := lay_same hB hT (hr4 u)
    have h2 := RF_lay hT hB (hr4 u)
    exact mm1 hK (fun q => v ⟨q.2.1, by rw [← l14, ← h2.1]; exact q.2.2⟩) trivial e37 (told_4 hT hB u)
theorem ix_has (hT : TI y) (hB : MB y) (m : Int) : ∃ L, (0 ≤ r ∧ r ≤ 3) → (lLay y r).1.1 23 ≠ -1 → IXL y r m L := by
  by_cases w : (0 ≤ r ∧ r ≤ 3) ∧ (lLay y r).1.1 23 ≠ -1
  · obtain ⟨u, h23⟩ := w
    have h2 := RF_lay hT hB (hr4 u)
    have hH := CH_lay hB hT (hr4 u)
    have e0 : (mLay y r).1 0 = y.1 0 := told_f (told_lay hB hT (hr4 u)) 0 (by omega)
    obtain ⟨L, l1, l2⟩ := sorted_has (fun q => ∃ v : Int, 0 ≤ v ∧ v < y.1 0 ∧ lMk y r m v = true ∧ lPage y r ((lLay y r).1.2 15 v) = q) (by
      rintro q ⟨v, a, b, c, rfl⟩
      have hv := hH.2 v a (by omega)
      rw [← h2.2.1 v a b, ← h2.1] at hv
      have hc : (lLay y r).1.2 15 v ≠ -1 := by
        have c := of_decide_eq_true c
        exact c.2.1
      have := lPage_bd hT hB (hr4 u) (i := (lLay y r).1.2 15 v) (by omega) hv.2 h23
      omega)
    exact ⟨L, fun _ _ => ⟨l1, l2⟩⟩
  · exact ⟨[], fun a b => absurd ⟨a, b⟩ w⟩
end MO1
