set_option maxRecDepth 100000
/-! the wrappers' answers, the model's answers -/
/-- a call's outcome: A: it goes well, with val and the new state; else it throws: B1 the first kind, B2 the second, B3 the third -/
def RM (y : mS) (ks : List (List mR3)) (A : Prop) (val : Int) (new : mS) (B1 B2 B3 : Prop) : OUT := fun k z s' ks' => ks' = ks ∧ ((A ∧ k = 0 ∧ z = val ∧ s' = new) ∨ (¬ A ∧ s' = y ∧ ((B1 ∧ k = 1) ∨ (¬ B1 ∧ B2 ∧ k = 2) ∨ (¬ B1 ∧ ¬ B2 ∧ B3 ∧ k = 3))))
/-- keeping's -/
def RK (y : mS) (ks : List (List mR3)) (A : Prop) (val : Int) (KS : List (List mR3)) : OUT := fun k z s' ks' => s' = y ∧ ((A ∧ k = 0 ∧ z = val ∧ ks' = KS) ∨ (¬ A ∧ k = 1 ∧ ks' = ks))
/-- .. and what a state may be behind -/
def RG (y : mS) (R : OUT) : Prop := ∀ k z s' ks', R k z s' ks' → TI s' ∧ (0 ≤ k ∧ k ≤ 3) ∧ s'.1 0 ≤ y.1 0 + 1
theorem mF_comm {s : mS} {k j : Nat} {u v : Int} (h : k ≠ j) : mF (mF s k u) j v = mF (mF s j v) k u := by
  refine Prod.ext (funext fun i => ?_) rfl
  show (if i = j then v else if i = k then u else s.1 i) = (if i = k then u else if i = j then v else s.1 i)
  by_cases a : i = j
  · rw [if_pos a, if_neg (fun b => h (b.symm.trans a)), if_pos a]
  · rw [if_neg a, if_neg a]
theorem tq.tr {a b c : mS} (h1 : tq a b) (h2 : tq b c) : tq a c := ⟨fun k hk => (h2.1 k hk).trans (h1.1 k hk), fun k hk => (h2.2 k hk).trans (h1.2 k hk)⟩
section CO1
variable {D : qD} {C W : mW} {xs : List Nat} {y y2 new : mS} {ks : List (List mR3)} {h : qH} {f : Nat → Int64} {X : String → qH → Prop} {A B1 B2 B3 : Prop} {val z2 r : Int}
theorem RM_g (hT : TI y) (hn : A → TI new ∧ new.1 0 ≤ y.1 0 + 1) : RG y (RM y ks A val new B1 B2 B3) := by
  rintro k z s' ks' ⟨-, ⟨a, rfl, rfl, rfl⟩ | ⟨a, rfl, q⟩⟩
  · exact ⟨(hn a).1, by omega, (hn a).2⟩
  · exact ⟨hT, by omega, by omega⟩
theorem RM_ok (a : A) : RM y ks A val new B1 B2 B3 0 val new ks := ⟨rfl, Or.inl ⟨a, rfl, rfl, rfl⟩⟩
theorem RM_1 {z : Int} (a : ¬ A) (b : B1) : RM y ks A val new B1 B2 B3 1 z y ks := ⟨rfl, Or.inr ⟨a, rfl, Or.inl ⟨b, rfl⟩⟩⟩
theorem RM_2 {z : Int} (a : ¬ A) (b : ¬ B1) (c : B2) : RM y ks A val new B1 B2 B3 2 z y ks := ⟨rfl, Or.inr ⟨a, rfl, Or.inr (Or.inl ⟨b, c, rfl⟩)⟩⟩
theorem RM_3 {z : Int} (a : ¬ A) (b : ¬ B1) (c : ¬ B2) (d : B3) : RM y ks A val new B1 B2 B3 3 z y ks := ⟨rfl, Or.inr ⟨a, rfl, Or.inr (Or.inr ⟨b, c, d, rfl⟩)⟩⟩
theorem mmOK (a : A) (h37 : y2.1 37 = 0) (hz : z2 = val) (htq : tq new y2) (hKR : KR y2 ks) : ∀ k z s' ks', RM y ks A val new B1 B2 B3 k z s' ks' → mAns k z s' ks' z2 y2 := by
  rintro k z s' ks' ⟨rfl, ⟨-, rfl, rfl, rfl⟩ | ⟨q, -⟩⟩
  · exact ⟨h37, fun _ => hz, htq, hKR⟩
  · exact absurd a q
theorem mmOQ (hK : KR y ks) (a : A) (h37 : y2.1 37 = 0) (hz : z2 = val) (ht : told y2 = told y) : ∀ k z s' ks', RM y ks A val y B1 B2 B3 k z s' ks' → mAns k z s' ks' z2 y2 := mmOK a h37 hz (tq_told ht) (hK.told ht)
theorem mm1 (hK : KR y ks) (a : ¬ A) (b : B1) (h37 : y2.1 37 = 1) (ht : told y2 = told y) : ∀ k z s' ks', RM y ks A val new B1 B2 B3 k z s' ks' → mAns k z s' ks' z2 y2 := by
  rintro k z s' ks' ⟨rfl, ⟨q, -⟩ | ⟨-, rfl, q⟩⟩
  · exact absurd q a
  · rcases q with ⟨-, rfl⟩ | ⟨q, -⟩ | ⟨q, -⟩
    · exact ⟨h37, fun w => absurd w (by omega), tq_told ht, hK.told ht⟩
    · exact absurd b q
    · exact absurd b q
theorem mm2 (hK : KR y ks) (a : ¬ A) (b : ¬ B1) (c : B2) (h37 : y2.1 37 = 2) (ht : told y2 = told y) : ∀ k z s' ks', RM y ks A val new B1 B2 B3 k z s' ks' → mAns k z s' ks' z2 y2 := by
  rintro k z s' ks' ⟨rfl, ⟨q, -⟩ | ⟨-, rfl, q⟩⟩
  · exact absurd q a
  · rcases q with ⟨q, -⟩ | ⟨-, -, rfl⟩ | ⟨-, q, -⟩
    · exact absurd q b
    · exact ⟨h37, fun w => absurd w (by omega), tq_told ht, hK.told ht⟩
    · exact absurd c q
theorem mm3 (hK : KR y ks) (a : ¬ A) (b : ¬ B1) (c : ¬ B2) (h37 : y2.1 37 = 3) (ht : told y2 = told y) : ∀ k z s' ks', RM y ks A val new B1 B2 B3 k z s' ks' → mAns k z s' ks' z2 y2 := by
  rintro k z s' ks' ⟨rfl, ⟨q, -⟩ | ⟨-, rfl, q⟩⟩
  · exact absurd q a
  · rcases q with ⟨q, -⟩ | ⟨-, q, -⟩ | ⟨-, -, -, rfl⟩
    · exact absurd q b
    · exact absurd q c
    · exact ⟨h37, fun w => absurd w (by omega), tq_told ht, hK.told ht⟩
/-! the wrappers -/
abbrev aX (C : mW) : Value := va_rf (some (C.1 0))
abbrev aO (C : mW) : Value := va_rf (some (C.1 2000))
theorem w_put (hJW : JW C W) (hJ : JJ C W xs y ks y f h) (hD : q_DK D) (hT : TI y) (hlt : y.1 0 < 64) {p k a st : Int} (bp : bd p) (bk : bd k) (ba : bd a) (bs : bd st) (hcr : 18000 ≤ h.1) : c_IW D m_X0_put [aX C, .int (zI p), .int (zI k), .int (zI a), .int (zI st), aO C] h X (cAns C W y h (RM y ks ((0 ≤ p ∧ p ≤ y.1 0) ∧ (0 ≤ k ∧ k ≤ 6) ∧ mFine k a st) (y.1 0 + 1) (mPut y p k a st) (¬ (0 ≤ p ∧ p ≤ y.1 0)) (¬ ((0 ≤ k ∧ k ≤ 6) ∧ mFine k a st)) False)) :=
  f_X0_put _ _ _ _ _ _ h ⟨hJ.1.rcX1, x_put hD hT hJ.1 hlt bp bk ba bs hcr (fun u v w xs' h' hS => ansOK hJW hJ (TI_put hT hlt u v w) (RM_ok ⟨u, v, w⟩) hS) (fun u h' hS => Or.inl ⟨rfl, ansNO (z := 0) hJW hJ zl_1 (by omega) (RM_1 (fun q => u q.1) u) hS⟩) (fun u v h' hS => Or.inr (Or.inl ⟨rfl, ansNO (z := 0) hJW hJ zl_2 (by omega) (RM_2 (fun q => v q.2) (fun q => q u) v) hS⟩))⟩
theorem w_take (hJW : JW C W) (hJ : JJ C W xs y ks y f h) (hD : q_DK D) (hT : TI y) {p : Int} (bp : bd p) (hcr : 18000 ≤ h.1) : c_IW D m_X0_take [aX C, .int (zI p), aO C] h X (cAns C W y h (RM y ks (0 ≤ p ∧ p < y.1 0) (y.1 0 - 1) (mTake y p) True False False)) :=
  f_X0_take _ _ _ h ⟨hJ.1.rcX1, x_take hD hT hJ.1 bp hcr (fun u xs' h' hS => ansOK hJW hJ (TI_take hT u) (RM_ok u) hS) (fun u h' hS => ⟨rfl, ansNO (z := 0) hJW hJ zl_1 (by omega) (RM_1 u trivial) hS⟩)⟩
theorem w_data (hJW : JW C W) (hJ : JJ C W xs y ks y f h) (hD : q_DK D) (hT : TI y) {a b c : Int} (ba : bd a) (bb : bd b) (bc : bd c) (hcr : 18000 ≤ h.1) : c_IW D m_X0_data [aX C, .int (zI a), .int (zI b), .int (zI c), aO C] h X (cAns C W y h (RM y ks ((0 ≤ a ∧ a ≤ 3) ∧ (0 ≤ b ∧ b ≤ 3) ∧ (0 ≤ c ∧ c ≤ 9)) (y.2 7 (4 * a + b)) (mA y 7 (4 * a + b) c) (¬ ((0 ≤ a ∧ a ≤ 3) ∧ (0 ≤ b ∧ b ≤ 3))) (¬ (0 ≤ c ∧ c ≤ 9)) False)) :=
  f_X0_data _ _ _ _ _ h ⟨hJ.1.rcX1, x_data hD hJ.1 ba bb bc hcr (fun u v w h' hS => ansOK hJW hJ (TI_data hT w) (RM_ok ⟨u, v, w⟩) hS) (fun u h' hS => Or.inl ⟨rfl, ansNO (z := 0) hJW hJ zl_1 (by omega) (RM_1 (fun q => u ⟨q.1, q.2.1⟩) u) hS⟩) (fun u v h' hS => Or.inr ⟨rfl, ansNO (z := 0) hJW hJ zl_2 (by omega) (RM_2 (fun q => v q.2.2) (fun q => q u) v) hS⟩)⟩
theorem w_see (hJW : JW C W) (hJ : JJ C W xs y ks y f h) (hD : q_DK D) (hT : TI y) {a b : Int} (ba : bd a) (bb : bd b) (hcr : 18000 ≤ h.1) : c_IW D m_X0_see [aX C, .int (zI a), .int (zI b), aO C] h X (cAns C W y h (RM y ks ((0 ≤ a ∧ a ≤ 9) ∧ (-1 ≤ b ∧ b ≤ 9) ∧ mChase y 11 a 10 b = -1) (y.2 11 a) (mA y 11 a b) (¬ ((0 ≤ a ∧ a ≤ 9) ∧ (-1 ≤ b ∧ b ≤ 9))) (mChase y 11 a 10 b ≠ -1) False)) :=
  f_X0_see _ _ _ _ h ⟨hJ.1.rcX1, x_see hD hT hJ.1 ba bb hcr (fun u v w h' hS => ansOK hJW hJ (TI_see hT u v w) (RM_ok ⟨u, v, w⟩) hS) (fun u h' hS => Or.inl ⟨rfl, ansNO (z := 0) hJW hJ zl_1 (by omega) (RM_1 (fun q => u ⟨q.1, q.2.1⟩) u) hS⟩) (fun u v w h' hS => Or.inr ⟨rfl, ansNO (z := 0) hJW hJ zl_2 (by omega) (RM_2 (fun q => w q.2.2) (fun q => q ⟨u, v⟩) w) hS⟩)⟩
theorem w_style (hJW : JW C W) (hJ : JJ C W xs y ks y f h) (hD : q_DK D) (hT : TI y) {a b e c : Int} (ba : bd a) (bb : bd b) (be : bd e) (bc : bd c) (hcr : 18000 ≤ h.1) : c_IW D m_X0_style [aX C, .int (zI a), .int (zI b), .int (zI e), .int (zI c)] h X (cAnv C W y h (RM y ks ((0 ≤ a ∧ a ≤ 5) ∧ (-1 ≤ b ∧ b ≤ 5) ∧ (-1 ≤ e ∧ e ≤ 3) ∧ (-1 ≤ c ∧ c ≤ 3) ∧ mChase y 4 a 6 b = -1) 0 (mA (mA (mA y 4 a b) 5 a e) 6 a c) (¬ ((0 ≤ a ∧ a ≤ 5) ∧ (-1 ≤ b ∧ b ≤ 5))) (¬ ((-1 ≤ e ∧ e ≤ 3) ∧ (-1 ≤ c ∧ c ≤ 3))) (mChase y 4 a 6 b ≠ -1))) :=
  f_X0_style _ _ _ _ _ h ⟨hJ.1.rcX1, x_style hD hT hJ.1 ba bb be bc hcr (fun u v w t q h' hS => anv hJW hJ zl_0 (RM_ok ⟨u, v, w, t, q⟩) hS) (fun u h' hS => Or.inl ⟨rfl, anv hJW hJ zl_1 (RM_1 (fun q => u ⟨q.1, q.2.1⟩) u) hS⟩) (fun u v w h' hS => Or.inr (Or.inl ⟨rfl, anv hJW hJ zl_2 (RM_2 (fun q => w ⟨q.2.2.1, q.2.2.2.1⟩) (fun q => q ⟨u, v⟩) w) hS⟩)) (fun u v w t q9 h' hS => Or.inr (Or.inr ⟨rfl, anv hJW hJ zl_3 (RM_3 (fun q => q9 q.2.2.2.2) (fun q => q ⟨u, v⟩) (fun q => q ⟨w, t⟩) q9) hS⟩))⟩
theorem w_grid (hJW : JW C W) (hJ : JJ C W xs y ks y f h) (hD : q_DK D) {a b c : Int} (ba : bd a) (bb : bd b) (bc : bd c) (hcr : 18000 ≤ h.1) : c_IW D m_X0_grid [aX C, .int (zI a), .int (zI b), .int (zI c)] h X (cAnv C W y h (RM y ks ((5 ≤ a ∧ a ≤ 20) ∧ (3 ≤ b ∧ b ≤ 20) ∧ (1 ≤ c ∧ c ≤ 2)) 0 (mF (mF (mF y 8 a) 9 b) 10 c) True False False)) :=
  f_X0_grid _ _ _ _ h ⟨hJ.1.rcX1, x_grid hD hJ.1 ba bb bc hcr (fun u v w h' hS => anv hJW hJ zl_0 (RM_ok ⟨u, v, w⟩) hS) (fun u h' hS => ⟨rfl, anv hJW hJ zl_1 (RM_1 u trivial) hS⟩)⟩
theorem w_fold (hJW : JW C W) (hJ : JJ C W xs y ks y f h) (hD : q_DK D) {a b : Int} (ba : bd a) (bb : bd b) (hcr : 18000 ≤ h.1) : c_IW D m_X0_fold [aX C, .int (zI a), .int (zI b)] h X (cAnv C W y h (RM y ks ((a = 4 ∨ a = 8 ∨ a = 16) ∧ (0 ≤ b ∧ b ≤ 9)) 0 (mF (mF y 12 a) 13 b) True False False)) :=
  f_X0_fold _ _ _ h ⟨hJ.1.rcX1, x_fold hD hJ.1 ba bb hcr (fun u v h' hS => anv hJW hJ zl_0 (RM_ok ⟨u, v⟩) hS) (fun u h' hS => ⟨rfl, anv hJW hJ zl_1 (RM_1 u trivial) hS⟩)⟩
theorem w_keep (hJW : JW C W) (hJ : JJ C W xs y ks y f h) (hD : q_DK D) (hT : TI y) (hB : MB y) (br : bd r) (hcr : 18000 ≤ h.1) : c_IW D m_X0_keep [aX C, .int (zI r), aO C] h X (cAns C W y h (RK y ks (0 ≤ r ∧ r ≤ 3) ((mLay y r).1 14) (mRowsAll (mLay y r) r ((mLay y r).1 14).toNat (y.1 0).toNat))) :=
  f_X0_keep _ _ _ h ⟨hJ.1.rcX1, x_keep hD hT hB hJ.1 br hcr (fun u h' hS => ansOK hJW hJ hT ⟨rfl, Or.inl ⟨u, rfl, rfl, rfl⟩⟩ hS) (fun u h' hS => ⟨rfl, ansNO (z := 0) hJW hJ zl_1 (by omega) ⟨rfl, Or.inr ⟨u, rfl, rfl⟩⟩ hS⟩)⟩
theorem w_lines (hJW : JW C W) (hJ : JJ C W xs y ks y f h) (hD : q_DK D) (hT : TI y) (hB : MB y) (br : bd r) (hcr : 18000 ≤ h.1) : c_IW D m_X0_lines [aX C, .int (zI r), aO C] h X (cAns C W y h (RM y ks (0 ≤ r ∧ r ≤ 3) ((lLay y r).1.1 14) y True False False)) :=
  f_X0_lines _ _ _ h ⟨hJ.1.rcX1, x_lines hD hT hB hJ.1 br hcr (fun u h' hS => ansOK hJW hJ hT (RM_ok u) hS) (fun u h' hS => ⟨rfl, ansNO (z := 0) hJW hJ zl_1 (by omega) (RM_1 u trivial) hS⟩)⟩
theorem w_lineOf (hJW : JW C W) (hJ : JJ C W xs y ks y f h) (hD : q_DK D) (hT : TI y) (hB : MB y) {z : Int} (br : bd r) (bz : bd z) (hcr : 18000 ≤ h.1) : c_IW D m_X0_lineOf [aX C, .int (zI r), .int (zI z), aO C] h X (cAns C W y h (RM y ks ((0 ≤ r ∧ r ≤ 3) ∧ 0 ≤ z ∧ z < y.1 0) ((lLay y r).1.2 15 z) y True False False)) :=
  f_X0_lineOf _ _ _ _ h ⟨hJ.1.rcX1, x_lineOf hD hT hB hJ.1 br bz hcr (fun u v w h' hS => ansOK hJW hJ hT (RM_ok ⟨u, v, w⟩) hS) (fun u h' hS => ⟨rfl, ansNO (z := 0) hJW hJ zl_1 (by omega) (RM_1 u trivial) hS⟩)⟩
theorem w_columnOf (hJW : JW C W) (hJ : JJ C W xs y ks y f h) (hD : q_DK D) (hT : TI y) (hB : MB y) {b z : Int} (br : bd r) (bb : b = 0 ∨ b = 1) (bz : bd z) (hcr : 18000 ≤ h.1) : c_IW D m_X0_columnOf [aX C, .int (zI r), .int (zI b), .int (zI z), aO C] h X (cAns C W y h (RM y ks ((0 ≤ r ∧ r ≤ 3) ∧ ((b = 0 ∧ 0 ≤ z ∧ z < y.1 0 ∧ y.2 1 z = 4) ∨ (b = 1 ∧ 0 ≤ z ∧ z < (lLay y r).1.1 14))) (if b = 0 then (lLay y r).1.2 16 z else (lLay y r).1.2 17 z) y True False False)) :=
  f_X0_columnOf _ _ _ _ _ h ⟨hJ.1.rcX1, x_columnOf hD hT hB hJ.1 br bb bz hcr (fun u b0 v w q h' hS => ansOK hJW hJ hT (by
      have e : RM y ks ((0 ≤ r ∧ r ≤ 3) ∧ ((b = 0 ∧ 0 ≤ z ∧ z < y.1 0 ∧ y.2 1 z = 4) ∨ (b = 1 ∧ 0 ≤ z ∧ z < (lLay y r).1.1 14))) (if b = 0 then (lLay y r).1.2 16 z else (lLay y r).1.2 17 z) y True False False 0 (if b = 0 then (lLay y r).1.2 16 z else (lLay y r).1.2 17 z) y ks := RM_ok ⟨u, Or.inl ⟨b0, v, w, q⟩⟩
      rw [if_pos b0] at e ⊢
      exact e) hS) (fun u b1 v w h' hS => ansOK hJW hJ hT (by
      have e : RM y ks ((0 ≤ r ∧ r ≤ 3) ∧ ((b = 0 ∧ 0 ≤ z ∧ z < y.1 0 ∧ y.2 1 z = 4) ∨ (b = 1 ∧ 0 ≤ z ∧ z < (lLay y r).1.1 14))) (if b = 0 then (lLay y r).1.2 16 z else (lLay y r).1.2 17 z) y True False False 0 (if b = 0 then (lLay y r).1.2 16 z else (lLay y r).1.2 17 z) y ks := RM_ok ⟨u, Or.inr ⟨b1, v, w⟩⟩
      rw [if_neg (show ¬ b = 0 by omega)] at e ⊢
      exact e) hS) (fun u h' hS => ⟨rfl, ansNO (z := 0) hJW hJ zl_1 (by omega) (RM_1 u trivial) hS⟩)⟩
theorem w_pageOf (hJW : JW C W) (hJ : JJ C W xs y ks y f h) (hD : q_DK D) (hT : TI y) (hB : MB y) {z : Int} (br : bd r) (bz : bd z) (hcr : 18000 ≤ h.1) : c_IW D m_X0_pageOf [aX C, .int (zI r), .int (zI z), aO C] h X (cAns C W y h (RM y ks ((0 ≤ r ∧ r ≤ 3) ∧ 0 ≤ z ∧ z < (lLay y r).1.1 14) (lPage y r z) y True False False)) :=
  f_X0_pageOf _ _ _ _ h ⟨hJ.1.rcX1, x_pageOf hD hT hB hJ.1 br bz hcr (fun u v w h' hS => ansOK hJW hJ hT (RM_ok ⟨u, v, w⟩) hS) (fun u h' hS => ⟨rfl, ansNO (z := 0) hJW hJ zl_1 (by omega) (RM_1 u trivial) hS⟩)⟩
theorem w_pageAnew (hJW : JW C W) (hJ : JJ C W xs y ks y f h) (hD : q_DK D) (hT : TI y) (hB : MB y) {z : Int} (br : bd r) (bz : bd z) (hcr : 18000 ≤ h.1) : c_IW D m_X0_pageAnew [aX C, .int (zI r), .int (zI z), aO C] h X (cAns C W y h (RM y ks ((0 ≤ r ∧ r ≤ 3) ∧ 0 ≤ z ∧ z < (lLay y r).1.1 14) (lPage y r z) y True False False)) :=
  f_X0_pageAnew _ _ _ _ h ⟨hJ.1.rcX1, x_pageAnew hD hT hB hJ.1 br bz hcr (fun u v w h' hS => ansOK hJW hJ hT (RM_ok ⟨u, v, w⟩) hS) (fun u h' hS => ⟨rfl, ansNO (z := 0) hJW hJ zl_1 (by omega) (RM_1 u trivial) hS⟩)⟩
theorem w_pages (hJW : JW C W) (hJ : JJ C W xs y ks y f h) (hD : q_DK D) (hT : TI y) (hB : MB y) (br : bd r) (hcr : 18000 ≤ h.1) : c_IW D m_X0_pages [aX C, .int (zI r), aO C] h X (cAns C W y h (RM y ks (0 ≤ r ∧ r ≤ 3) (if (lLay y r).1.1 23 = -1 then -1 else (lLay y r).1.1 23 + mPagesOf y ((lLay y r).1.1 22)) y True False False)) :=
  f_X0_pages _ _ _ h ⟨hJ.1.rcX1, x_pages hD hT hB hJ.1 br hcr (fun u h' hS => ansOK hJW hJ hT (RM_ok u) hS) (fun u h' hS => ⟨rfl, ansNO (z := 0) hJW hJ zl_1 (by omega) (RM_1 u trivial) hS⟩)⟩
theorem w_front (hJW : JW C W) (hJ : JJ C W xs y ks y f h) (hD : q_DK D) (hT : TI y) (hB : MB y) (br : bd r) (hcr : 18000 ≤ h.1) : c_IW D m_X0_front [aX C, .int (zI r), aO C] h X (cAns C W y h (RM y ks (0 ≤ r ∧ r ≤ 3) ((lLay y r).1.1 23) y True False False)) :=
  f_X0_front _ _ _ h ⟨hJ.1.rcX1, x_front hD hT hB hJ.1 br hcr (fun u h' hS => ansOK hJW hJ hT (RM_ok u) hS) (fun u h' hS => ⟨rfl, ansNO (z := 0) hJW hJ zl_1 (by omega) (RM_1 u trivial) hS⟩)⟩
theorem w_entry (hJW : JW C W) (hJ : JJ C W xs y ks y f h) (hD : q_DK D) (hT : TI y) (hB : MB y) {e : Int} (br : bd r) (be : bd e) (hcr : 18000 ≤ h.1) : c_IW D m_X0_entry [aX C, .int (zI r), .int (zI e), aO C] h X (cAns C W y h (RM y ks ((0 ≤ r ∧ r ≤ 3) ∧ 0 ≤ e) (iter (lEn y r e) ((lLay y r).1.1 14).toNat (0, -1)).2 y True False False)) :=
  f_X0_entry _ _ _ _ h ⟨hJ.1.rcX1, x_entry hD hT hB hJ.1 br be hcr (fun u v h' hS => ansOK hJW hJ hT (RM_ok ⟨u, v⟩) hS) (fun u h' hS => ⟨rfl, ansNO (z := 0) hJW hJ zl_1 (by omega) (RM_1 u trivial) hS⟩)⟩
/-- the pages of a term -/
def IXL (y : mS) (r m : Int) (L : List Int) : Prop := L.Pairwise (· < ·) ∧ ∀ q : Int, q ∈ L ↔ ∃ u : Int, 0 ≤ u ∧ u < y.1 0 ∧ lMk y r m u = true ∧ lPage y r ((lLay y r).1.2 15 u) = q
def ixVal (y : mS) (r m a : Int) (L : List Int) : Int := if y.2 11 m ≠ -1 ∨ (lLay y r).1.1 23 = -1 then -1 else ixOf L.length L a
theorem w_index (hJW : JW C W) (hJ : JJ C W xs y ks y f h) (hD : q_DK D) (hT : TI y) (hB : MB y) {m z : Int} (br : bd r) (bm : bd m) (bz : bd z) (hcr : 18000 ≤ h.1) {L : List Int} (hL : (0 ≤ r ∧ r ≤ 3) → (lLay y r).1.1 23 ≠ -1 → IXL y r m L) : c_IW D m_X0_index [aX C, .int (zI r), .int (zI m), .int (zI z), aO C] h X (cAns C W y h (RM y ks ((0 ≤ r ∧ r ≤ 3) ∧ (0 ≤ m ∧ m ≤ 9) ∧ 0 ≤ z) (ixVal y r m z L) y True False False)) :=
  f_X0_index _ _ _ _ _ h ⟨hJ.1.rcX1, x_index hD hT hB hJ.1 br bm bz hcr (fun u v w q h' hS => ansOK hJW hJ hT (by
      have e : RM y ks ((0 ≤ r ∧ r ≤ 3) ∧ (0 ≤ m ∧ m ≤ 9) ∧ 0 ≤ z) (ixVal y r m z L) y True False False 0 (ixVal y r m z L) y ks := RM_ok ⟨u, v, w⟩
      have e2 : ixVal y r m z L = -1 := if_pos q
      rw [e2] at e ⊢
      exact e) hS) (fun u v w q1 q2 L2 p1 p2 h' hS => ansOK hJW hJ hT (by
      have hL9 := hL u q2
      have e3 : L2 = L := sorted_ext p1 hL9.1 (fun q => (p2 q).trans (hL9.2 q).symm)
      subst e3
      have e : RM y ks ((0 ≤ r ∧ r ≤ 3) ∧ (0 ≤ m ∧ m ≤ 9) ∧ 0 ≤ z) (ixVal y r m z L2) y True False False 0 (ixVal y r m z L2) y ks := RM_ok ⟨u, v, w⟩
      have e2 : ixVal y r m z L2 = ixOf L2.length L2 z := if_neg (fun q => q.elim (fun q => q q1) q2)
      rw [e2] at e ⊢
      exact e) hS) (fun u h' hS => ⟨rfl, ansNO (z := 0) hJW hJ zl_1 (by omega) (RM_1 u trivial) hS⟩)⟩
theorem w_sheet (hJW : JW C W) (hJ : JJ C W xs y ks y f h) (hD : q_DK D) (hT : TI y) {p w : Int} (bp : bd p) (bw : bd w) (hcr : 18000 ≤ h.1) : c_IW D m_X0_sheet [aX C, .int (zI p), .int (zI w), aO C] h X (cAns C W y h (RM y ks ((1 ≤ p ∧ p ≤ 999) ∧ (0 ≤ w ∧ w ≤ 3)) (mSheet y p w) y True False False)) :=
  f_X0_sheet _ _ _ _ h ⟨hJ.1.rcX1, x_sheet hD hT hJ.1 bp bw hcr (fun u v h' hS => ansOK hJW hJ hT (RM_ok ⟨u, v⟩) hS) (fun u h' hS => ⟨rfl, ansNO (z := 0) hJW hJ zl_1 (by omega) (RM_1 u trivial) hS⟩)⟩
theorem w_plate (hJW : JW C W) (hJ : JJ C W xs y ks y f h) (hD : q_DK D) (hT : TI y) (hB : MB y) {sh sd c : Int} (br : bd r) (b1 : bd sh) (b2 : bd sd) (b3 : bd c) (hcr : 18000 ≤ h.1) : c_IW D m_X0_plate [aX C, .int (zI r), .int (zI sh), .int (zI sd), .int (zI c), aO C] h X (cAns C W y h (RM y ks ((0 ≤ r ∧ r ≤ 3) ∧ (0 ≤ sh ∧ sh ≤ 249) ∧ (0 ≤ sd ∧ sd ≤ 1) ∧ (0 ≤ c ∧ c ≤ 3)) (lPlate y r sh sd c) y True False False)) :=
  f_X0_plate _ _ _ _ _ _ h ⟨hJ.1.rcX1, x_plate hD hT hB hJ.1 br b1 b2 b3 hcr (fun u v w t h' hS => ansOK hJW hJ hT (RM_ok ⟨u, v, w, t⟩) hS) (fun u h' hS => ⟨rfl, ansNO (z := 0) hJW hJ zl_1 (by omega) (RM_1 u trivial) hS⟩)⟩
theorem w_faults (hJW : JW C W) (hJ : JJ C W xs y ks y f h) (hD : q_DK D) (hT : TI y) (hB : MB y) {w : Int} (br : bd r) (bw : bd w) (hcr : 18000 ≤ h.1) : c_IW D m_X0_faults [aX C, .int (zI r), .int (zI w), aO C] h X (cAns C W y h (RM y ks ((0 ≤ r ∧ r ≤ 3) ∧ (0 ≤ w ∧ w ≤ 4)) (lFaults y r w) y True False False)) :=
  f_X0_faults _ _ _ _ h ⟨hJ.1.rcX1, x_faults hD hT hB hJ.1 br bw hcr (fun u v h' hS => ansOK hJW hJ hT (RM_ok ⟨u, v⟩) hS) (fun u h' hS => ⟨rfl, ansNO (z := 0) hJW hJ zl_1 (by omega) (RM_1 u trivial) hS⟩)⟩
theorem w_isNew (hJW : JW C W) (hJ : JJ C W xs y ks y f h) (hD : q_DK D) (hT : TI y) (hB : MB y) (hK : KR y ks) {z : Int} (br : bd r) (bz : bd z) (hcr : 18000 ≤ h.1) : c_IW D m_X0_isNew [aX C, .int (zI r), .int (zI z), aO C] h X (cAns C W y h (RM y ks ((0 ≤ r ∧ r ≤ 3) ∧ 0 ≤ z ∧ z < (lLay y r).1.1 14) (if lHad y r z ks < lThere y r z then 1 else 0) y True False False)) :=
  f_X0_isNew _ _ _ _ h ⟨hJ.1.rcX1, x_isNew hD hT hB hJ.1 (KL_of hB hK) br bz hcr (fun u v w h' hS => ⟨fun q => f_X0_isNew_16 _ _ _ _ (by
      have e := ansOK hJW hJ hT (R := RM y ks ((0 ≤ r ∧ r ≤ 3) ∧ 0 ≤ z ∧ z < (lLay y r).1.1 14) (if lHad y r z ks < lThere y r z then 1 else 0) y True False False) (RM_ok ⟨u, v, w⟩) hS
      rw [q] at e
      exact e), fun q => f_X0_isNew_16 _ _ _ _ (by
      have e := ansOK hJW hJ hT (R := RM y ks ((0 ≤ r ∧ r ≤ 3) ∧ 0 ≤ z ∧ z < (lLay y r).1.1 14) (if lHad y r z ks < lThere y r z then 1 else 0) y True False False) (RM_ok ⟨u, v, w⟩) hS
      have q1 : (zI (if lHad y r z ks < lThere y r z then 1 else 0)) = 1 := by
        split at q
        · rw [if_pos (by assumption)]
          rfl
        · exact absurd rfl q
      rw [q1] at e
      exact e)⟩) (fun u h' hS => ⟨rfl, ansNO (z := 0) hJW hJ zl_1 (by omega) (RM_1 u trivial) hS⟩)⟩
end CO1
