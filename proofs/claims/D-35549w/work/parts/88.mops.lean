set_option maxRecDepth 100000
/-! the model's calls: lines that are alike -/
section MPI
variable {D : qD} {W : mW} {X : String → qH → Prop} {s x : mS}
theorem mRows_pre {r i : Int} {t : Nat} : ∀ j : Nat, ∃ l, mRows s r i (t + j) = mRows s r i t ++ l
  | 0 => ⟨[], (List.append_nil _).symm⟩
  | j + 1 => by
    obtain ⟨l, hl⟩ := mRows_pre (r := r) (i := i) (t := t) j
    rw [← Nat.add_assoc, mRows_succ]
    split
    · exact ⟨l ++ [mRow s r ((t + j : Nat) : Int)], by rw [hl, List.append_assoc]⟩
    · exact ⟨l, hl⟩
/-- the rows from t on -/
def mSuf (s : mS) (r i : Int) (m t : Nat) : List mR3 := (mRows s r i m).drop (mRows s r i t).length
theorem mSuf_no {r i : Int} {m t : Nat} (hc : ¬ (s.2 15 (t : Int) = i ∧ ¬ mHg s (t : Int))) : mSuf s r i m (t + 1) = mSuf s r i m t := by
  unfold mSuf
  rw [mRows_succ (n := t), if_neg hc]
theorem mSuf_yes {r i : Int} {m t : Nat} (ht : t < m) (hc : s.2 15 (t : Int) = i ∧ ¬ mHg s (t : Int)) : mSuf s r i m t = mRow s r (t : Int) :: mSuf s r i m (t + 1) := by
  unfold mSuf
  obtain ⟨l, hl⟩ := mRows_pre (s := s) (r := r) (i := i) (t := t + 1) (m - (t + 1))
  rw [show t + 1 + (m - (t + 1)) = m by omega] at hl
  rw [hl, List.drop_left, mRows_succ, if_pos hc, List.append_assoc, List.drop_left]
  rfl
theorem mSuf_end {r i : Int} {m : Nat} : mSuf s r i m m = [] := List.drop_length
theorem mSuf_0 {r i : Int} {m : Nat} : mSuf s r i m 0 = mRows s r i m := rfl
theorem q_nextOn (hW : mOK D W) (hB : MB s) (hT : TI s) {K : Int → mS → Prop} {r i : Int} (hi : bd i) {m t : Nat} (hm : m = (s.1 0).toNat) (ht : t ≤ m) (hK : ∀ z : Nat, t ≤ z → z ≤ m → mSuf s r i m z = mSuf s r i m t → (z < m → s.2 15 (z : Int) = i ∧ ¬ mHg s (z : Int)) → K z s) : pI D W X m_X3_nextOn [i, (t : Int)] s K := by
  have h64 := hT.1
  have hL : ∀ (j z : Nat), z + j = m → t ≤ z → mSuf s r i m z = mSuf s r i m t → PL_X3_nextOn_2 D W X K s i z := by
    intro j
    induction j with
    | zero =>
      intro z hz h1 h2
      exact p_X3_nextOn_2 hW fun _ _ _ => ⟨fun _ => hK z h1 (by omega) h2 (fun w => by omega), fun w => absurd (by omega) w⟩
    | succ j ih =>
      intro z hz h1 h2
      have h28 : ¬ (s.2 15 (z : Int) = i ∧ ¬ mHg s (z : Int)) → PL_X3_nextOn_28 D W X K s i z := fun hc => p_X3_nextOn_28 hW fun _ _ _ => ⟨⟨by omega, by omega⟩, ih (z + 1) (by omega) (by omega) ((mSuf_no hc).trans h2)⟩
      refine p_X3_nextOn_2 hW fun hB _ _ => ⟨fun w => by omega, fun _ => ⟨⟨by omega, by omega⟩, fun w => h28 (fun q => w q.1), fun w => q_hangs hW hB (by omega) (by omega) ⟨fun q => hK z h1 (by omega) h2 (fun _ => ⟨w, fun w2 => ?_⟩), fun q => h28 (fun w2 => ?_)⟩⟩⟩
      · rw [if_pos w2] at q
        omega
      · rw [if_neg w2.2] at q
        exact q rfl
  exact p_X3_nextOn hW hB hi ⟨by omega, by omega⟩ (hL (m - t) t (by omega) (Nat.le_refl t) rfl)
theorem q_alike133 (hW : mOK D W) {K : Int → mS → Prop} {t z v : Nat} {b : Int} {m : Nat} (hm : (m : Int) = s.1 0) (hb : b = 0 ∨ b = 1) (hv : v = if b = 1 ∧ m ≤ t ∧ m ≤ z then 1 else 0) (hK : K v s) : PL_X3_areAlike_133 D W X K s t z b := by
  refine p_X3_areAlike_133 hW fun _ _ _ _ => ⟨fun w => ?_, fun w => ⟨fun w2 => ?_, fun w2 => ⟨fun w3 => ?_, fun w3 => ?_⟩⟩⟩
  · rw [if_neg (by omega)] at hv
    subst hv
    exact hK
  · rw [if_neg (by omega)] at hv
    subst hv
    exact hK
  · rw [if_neg (by omega)] at hv
    subst hv
    exact hK
  · rw [if_pos (by omega)] at hv
    subst hv
    exact hK
theorem q_areAlike (hW : mOK D W) (hB : MB s) (hT : TI s) {K : Int → mS → Prop} {r i j : Int} (hr : 0 ≤ r ∧ r < 4) (hi : bd i) (hj : bd j) {m : Nat} (hm : m = (s.1 0).toNat) (hK : K (if mRows s r i m = mRows s r j m then 1 else 0) s) : pI D W X m_X3_areAlike [r, i, j] s K := by
  have h64 := hT.1
  have hmi : (m : Int) = s.1 0 := by omega
  have hL : ∀ (f t z : Nat) (b : Int), m ≤ t + f → t ≤ m → z ≤ m → (t < m → s.2 15 (t : Int) = i ∧ ¬ mHg s (t : Int)) → (z < m → s.2 15 (z : Int) = j ∧ ¬ mHg s (z : Int)) → (b = 0 ∧ mRows s r i m ≠ mRows s r j m ∨ b = 1 ∧ (mRows s r i m = mRows s r j m ↔ mSuf s r i m t = mSuf s r j m z)) → PL_X3_areAlike_19 D W X K s r i j t z b := by
    intro f
    induction f with
    | zero =>
      intro t z b hf ht hz h1 h2 hb
      have ht : t = m := by omega
      subst ht
      have h133 : PL_X3_areAlike_133 D W X K s t z b := by
        refine q_alike133 (v := if b = 1 ∧ t ≤ t ∧ t ≤ z then 1 else 0) hW hmi (by rcases hb with ⟨q, -⟩ | ⟨q, -⟩ <;> simp [q]) rfl ?_
        rcases hb with ⟨q, hb⟩ | ⟨q, hb⟩
        · rw [if_neg hb] at hK
          rw [if_neg (by omega)]
          exact hK
        · rw [mSuf_end] at hb
          by_cases w : t ≤ z
          · have : z = t := by omega
            subst this
            rw [if_pos (hb.mpr mSuf_end.symm)] at hK
            rw [if_pos ⟨q, Nat.le_refl _, w⟩]
            exact hK
          · rw [if_neg (fun q2 => by
              have := hb.mp q2
              rw [mSuf_yes (by omega) (h2 (by omega))] at this
              cases this)] at hK
            rw [if_neg (fun q2 => w q2.2.2)]
            exact hK
      exact p_X3_areAlike_19 hW fun _ _ _ _ _ _ _ => ⟨fun _ => h133, fun _ => ⟨fun _ => h133, fun w => absurd (by omega) w⟩⟩
    | succ f ih =>
      intro t z b hf ht hz h1 h2 hb
      have h133 : (b = 0 ∨ m ≤ t ∨ m ≤ z) → PL_X3_areAlike_133 D W X K s t z b := by
        intro hx
        refine q_alike133 (v := if b = 1 ∧ m ≤ t ∧ m ≤ z then 1 else 0) hW hmi (by rcases hb with ⟨q, -⟩ | ⟨q, -⟩ <;> simp [q]) rfl ?_
        rcases hb with ⟨q, hb⟩ | ⟨q, hb⟩
        · rw [if_neg hb] at hK
          rw [if_neg (by omega)]
          exact hK
        · by_cases w : m ≤ t
          · have : t = m := by omega
            subst this
            rw [mSuf_end] at hb
            by_cases w : t ≤ z
            · have : z = t := by omega
              subst this
              rw [if_pos (hb.mpr mSuf_end.symm)] at hK
              rw [if_pos ⟨q, Nat.le_refl _, w⟩]
              exact hK
            · rw [if_neg (fun q2 => by
                have := hb.mp q2
                rw [mSuf_yes (by omega) (h2 (by omega))] at this
                cases this)] at hK
              rw [if_neg (fun q2 => w q2.2.2)]
              exact hK
          · have : z = m := by omega
            subst this
            rw [mSuf_end] at hb
            rw [if_neg (fun q2 => by
                have := hb.mp q2
                rw [mSuf_yes (by omega) (h1 (by omega))] at this
                cases this)] at hK
            rw [if_neg (fun q2 => w q2.2.1)]
            exact hK
      have hgo : t < m → z < m → ∀ b' : Int, (b' = 0 ∧ mRows s r i m ≠ mRows s r j m ∨ b' = 1 ∧ (mRows s r i m = mRows s r j m ↔ mSuf s r i m (t + 1) = mSuf s r j m (z + 1))) → PL_X3_areAlike_106 D W X K s r i j t z b' := by
        intro g1 g2 b' hb'
        refine p_X3_areAlike_106 hW fun hB _ _ _ _ _ _ => q_nextOn (r := r) (t := t + 1) hW hB hT hi hm g1 fun t' a1 a2 a3 a4 => q_nextOn (r := r) (t := z + 1) hW hB hT hj hm g2 fun z' c1 c2 c3 c4 => ih t' z' b' (by omega) a2 c2 a4 c4 ?_
        rw [a3, c3]
        exact hb'
      refine p_X3_areAlike_19 hW fun hB _ _ _ _ _ _ => ⟨fun w => h133 (Or.inl w), fun w => ⟨fun w2 => h133 (by omega), fun w2 => ⟨fun w3 => h133 (by omega), fun w3 => ⟨⟨by omega, by omega⟩, ⟨by omega, by omega⟩, ?_⟩⟩⟩⟩
      have g1 : t < m := by omega
      have g2 : z < m := by omega
      obtain ⟨q, hb⟩ : b = 1 ∧ (mRows s r i m = mRows s r j m ↔ mSuf s r i m t = mSuf s r j m z) := by
        rcases hb with ⟨q, -⟩ | hb
        · exact absurd q w
        · exact hb
      rw [mSuf_yes g1 (h1 g1), mSuf_yes g2 (h2 g2)] at hb
      have h105 : mRow s r t ≠ mRow s r z → PL_X3_areAlike_105 D W X K s r i j t z := fun q2 => p_X3_areAlike_105 hW fun _ _ _ _ _ _ => hgo g1 g2 0 (Or.inl ⟨rfl, fun q3 => q2 (List.cons.inj (hb.mp q3)).1⟩)
      have k1 := (hT.tok (t := (t : Int)) (by omega) (by omega)).2.1
      have k2 := (hT.tok (t := (z : Int)) (by omega) (by omega)).2.1
      refine ⟨fun w4 => h105 (fun q2 => w4 (congrArg Prod.fst q2)), fun w4 => q_wide hW hB hT hr (by omega) (by omega) (q_wide hW hB hT hr (by omega) (by omega) ⟨fun w5 => h105 (fun q2 => w5 (congrArg (fun y => y.2.1) q2)), fun w5 => ⟨⟨by omega, by omega⟩, q_colourOf hW hB hT k1.1 (by omega) ⟨⟨by omega, by omega⟩, q_colourOf hW hB hT k2.1 (by omega) ⟨fun w6 => h105 (fun q2 => w6 (congrArg (fun y => y.2.2) q2)), fun w6 => ?_⟩⟩⟩⟩)⟩
      refine hgo g1 g2 1 (Or.inr ⟨rfl, hb.trans ?_⟩)
      have e : mRow s r t = mRow s r z := by
        unfold mRow
        rw [w4, w5, w6]
      rw [e]
      exact ⟨fun q2 => (List.cons.inj q2).2, fun q2 => by rw [q2]⟩
  refine p_X3_areAlike hW hB ⟨by omega, by omega⟩ hi hj ?_
  refine q_nextOn (r := r) (t := 0) hW hB hT hi hm (Nat.zero_le m) fun t' a1 a2 a3 a4 => q_nextOn (r := r) (t := 0) hW hB hT hj hm (Nat.zero_le m) fun z' c1 c2 c3 c4 => hL m t' z' 1 (by omega) a2 c2 a4 c4 (Or.inr ⟨rfl, ?_⟩)
  rw [a3, c3]
  exact Iff.rfl
theorem q_isKept (hW : mOK D W) (hB : MB s) (hT : TI s) {K : Int → mS → Prop} {r i : Int} (hr : 0 ≤ r ∧ r < 4) (hi : bd i) {m a : Nat} (hm : m = (s.1 0).toNat) {T : List mR3} (ha : a + T.length ≤ 64) (hk : ∀ j : Nat, j < T.length → (s.2 33 ((a + j : Nat) : Int), s.2 34 ((a + j : Nat) : Int), s.2 35 ((a + j : Nat) : Int)) = T.getD j (0, 0, 0)) (hK : K (if mRows s r i m = T then 1 else 0) s) : pI D W X m_X3_isKept [r, i, (a : Nat), ((a + T.length : Nat) : Int)] s K := by
  have h64 := hT.1
  have hL : ∀ (f t n : Nat), t + f = m → n ≤ T.length → mRows s r i t = T.take n → PL_X3_isKept_6 D W X K s r i ((a + T.length : Nat) : Int) ((a + n : Nat) : Int) t := by
    intro f
    induction f with
    | zero =>
      intro t n ht hn hp
      have ht : t = m := by omega
      subst ht
      refine p_X3_isKept_6 hW fun _ _ _ _ _ _ => ⟨fun _ => ⟨fun w => ?_, fun w => ?_⟩, fun w => absurd (by omega) w⟩
      · rw [if_neg (fun q => by
          rw [q] at hp
          have := congrArg List.length hp
          rw [List.length_take] at this
          omega)] at hK
        exact hK
      · rw [if_pos (by rw [hp, List.take_of_length_le (by omega)])] at hK
        exact hK
    | succ f ih =>
      intro t n ht hn hp
      obtain ⟨l, hl⟩ := mRows_pre (s := s) (r := r) (i := i) (t := t + 1) (m - (t + 1))
      rw [show t + 1 + (m - (t + 1)) = m by omega] at hl
      have h102 : ∀ n' : Nat, n' ≤ T.length → mRows s r i (t + 1) = T.take n' → PL_X3_isKept_102 D W X K s r i ((a + T.length : Nat) : Int) ((a + n' : Nat) : Int) t := fun n' h1 h2 => p_X3_isKept_102 hW fun _ _ _ _ _ _ => ⟨⟨by omega, by omega⟩, ih (t + 1) n' (by omega) h1 h2⟩
      have h1020 : ¬ (s.2 15 (t : Int) = i ∧ ¬ mHg s (t : Int)) → PL_X3_isKept_102 D W X K s r i ((a + T.length : Nat) : Int) ((a + n : Nat) : Int) t := fun hc => h102 n hn (by rw [mRows_succ, if_neg hc]; exact hp)
      refine p_X3_isKept_6 hW fun hB _ _ _ _ _ => ⟨fun w => by omega, fun _ => ⟨⟨by omega, by omega⟩, fun w => h1020 (fun q => w q.1), fun w => q_hangs hW hB (by omega) (by omega) ⟨fun q => h1020 (fun w2 => by rw [if_neg w2.2] at q; exact q rfl), fun q => ?_⟩⟩⟩
      have hg : ¬ mHg s t := fun w2 => by rw [if_pos w2] at q; omega
      rw [mRows_succ, if_pos ⟨w, hg⟩, hp] at hl
      have hlt : (T.take n).length = n := by rw [List.length_take]; omega
      have hat : (mRows s r i m).getD n (0, 0, 0) = mRow s r t := by
        rw [hl, List.append_assoc, List.getD_eq_getElem?_getD, List.getElem?_append_right (by omega), hlt, Nat.sub_self]
        rfl
      have hbad : (n = T.length ∨ mRow s r t ≠ T.getD n (0, 0, 0)) → K 0 s := by
        intro hx
        rw [if_neg (fun q2 => ?_)] at hK
        · exact hK
        · rcases hx with hx | hx
          · have h9 := congrArg List.length hl
            rw [List.length_append, List.length_append, hlt, q2] at h9
            have : ([mRow s r (t : Int)] : List mR3).length = 1 := rfl
            omega
          · rw [q2] at hat
            exact hx hat.symm
      refine ⟨fun w2 => hbad (Or.inl (by omega)), fun w2 => ?_⟩
      have hn2 : n < T.length := by omega
      have hkn := hk n hn2
      have k1 := (hT.tok (t := (t : Int)) (by omega) (by omega)).2.1
      refine ⟨⟨by omega, by omega⟩, ⟨by omega, by omega⟩, fun w3 => hbad (Or.inr fun q2 => w3 ?_), fun w3 => ⟨⟨by omega, by omega⟩, q_wide hW hB hT hr (by omega) (by omega) ⟨fun w4 => hbad (Or.inr fun q2 => w4 ?_), fun w4 => ⟨⟨by omega, by omega⟩, ⟨by omega, by omega⟩, q_colourOf hW hB hT k1.1 (by omega) ⟨fun w5 => ⟨⟨by omega, by omega⟩, ?_⟩, fun w5 => hbad (Or.inr fun q2 => w5 ?_)⟩⟩⟩⟩⟩
      · exact congrArg Prod.fst (hkn.trans q2.symm)
      · exact congrArg (fun y => y.2.1) (hkn.trans q2.symm)
      · refine h102 (n + 1) (by omega) ?_
        rw [mRows_succ, if_pos ⟨w, hg⟩, hp, List.take_succ, List.getElem?_eq_getElem hn2]
        congr 1
        have e9 : T.getD n (0, 0, 0) = T[n] := by rw [List.getD_eq_getElem?_getD, List.getElem?_eq_getElem hn2]; rfl
        rw [e9] at hkn
        show [mRow s r (t : Int)] = [T[n]]
        rw [← hkn, w3, w4, w5]
        rfl
      · exact congrArg (fun y => y.2.2) (hkn.trans q2.symm)
  exact p_X3_isKept hW hB ⟨by omega, by omega⟩ hi ⟨by omega, by omega⟩ ⟨by omega, by omega⟩ (hL m 0 0 (by omega) (Nat.zero_le _) rfl)
end MPI
