set_option maxRecDepth 100000
/-! the model's columns: the loops -/
def mLine (s : mS) (i : Int) : mS := iter (mFig i) (s.1 0).toNat (mPlace (mWhile i 130 s) i)
def mCol00 (s : mS) : mS := mF (mF (mF s 22 0) 26 0) 27 0
def mEnd : Nat → mS → mS
  | 0, s => s
  | f + 1, s => if s.1 26 < s.1 27 then mEnd f (mBeg s) else s
def mCols (s : mS) : mS := if s.1 14 = 0 then mCol00 s else mEnd 130 (iter mLine (s.1 14).toNat (mBeg (mCol00 s)))
section MCR
variable {D : qD} {W : mW} {X : String → qH → Prop} {s s0 : mS} {i g : Int}
theorem CI_figs (hT : TI s0) (h : CI s0 (i + 1) (mG s0 i 0) s) (hs : s.1 30 = 1) : ∀ n : Nat, (n : Int) ≤ s0.1 0 → CI s0 (i + 1) (mG s0 i n) (iter (mFig i) n s) ∧ (iter (mFig i) n s).1 30 = 1
  | 0, _ => ⟨h, hs⟩
  | n + 1, hn => by
    obtain ⟨a, b⟩ := CI_figs hT h hs n (by omega)
    have h9 := CI_fig (i := i + 1) (t := (n : Int)) hT (by rw [Int.add_sub_cancel]; exact a) b (by omega) (by omega)
    rw [Int.add_sub_cancel] at h9
    exact h9
theorem CI_line (hT : TI s0) (hL : LL s0) (hi : 0 ≤ i ∧ i < s0.1 14) (h : CI s0 i (mG s0 i 0) s) : CI s0 (i + 1) (mG s0 (i + 1) 0) (mLine s i) ∧ (mLine s i).1 30 = 1 := by
  have h64 := hT.1
  have hl := hL.1
  have hgb := mG_bd (s0 := s0) h64.1 (i := i) (t := 0)
  have hj := h.1.2.2.2.2.1
  obtain ⟨w1, w2, w3⟩ := mWhile_ok hT hL ⟨hgb.1, by omega⟩ ⟨hi.1, by omega⟩ 130 s h (Or.inr (by omega))
  obtain ⟨p1, p2⟩ := CI_place hT hL hi w1 w3
  have e0 : s.1 0 = s0.1 0 := told_f h.1.2.1 0 (by simp)
  obtain ⟨f1, f2⟩ := CI_figs hT p1 p2 (s.1 0).toNat (by omega)
  unfold mLine
  rw [e0] at f1 f2 ⊢
  rw [Int.toNat_of_nonneg h64.1, mG_end h64.1] at f1
  exact ⟨f1, f2⟩
theorem q_109 (hW : mOK D W) (hT : TI s0) (hL : LL s0) (hi : 0 ≤ i ∧ i < s0.1 14) {K : mS → Prop} {t : Int} (h : CI s0 (i + 1) (mG s0 i t) s) (h0 : 0 ≤ t) (h1 : t ≤ s0.1 0) (hend : t = s0.1 0 → PL_X3_layColumns_29 D W X K s (i + 1)) (hgo : t < s0.1 0 → PL_X3_layColumns_109 D W X K (mFig i s t) i (t + 1)) : PL_X3_layColumns_109 D W X K s i t := by
  have h64 := hT.1
  have hl := hL.1
  have hgb := mG_bd (s0 := s0) h64.1 (i := i) (t := t)
  obtain ⟨hJ, h2, h3, h4, h5, h6⟩ := h
  have e0 : s.1 0 = s0.1 0 := told_f hJ.2.1 0 (by simp)
  have hj := hJ.2.2.2.2.1
  have h189 : ∀ {S : mS}, PL_X3_layColumns_109 D W X K S i (t + 1) → PL_X3_layColumns_189 D W X K S i t := fun G => p_X3_layColumns_189 hW fun _ _ _ => ⟨⟨by omega, by omega⟩, G⟩
  refine p_X3_layColumns_109 hW fun hB _ _ => ⟨fun w => ⟨⟨by omega, by omega⟩, hend (by omega)⟩, fun w => ?_⟩
  have hgo := hgo (by omega)
  unfold mFig at hgo
  have e2 : s.2 2 = s0.2 2 := told_a hJ.2.1 2 (by omega)
  have hk := hT.tok h0 (by omega : t < s0.1 0)
  unfold TK at hk
  rw [← e2] at hk
  refine ⟨⟨h0, by omega⟩, fun k => h189 ?_, fun k => ⟨⟨h0, by omega⟩, fun l => h189 ?_, fun l => ?_⟩⟩
  · rw [if_neg (fun q => k q.1)] at hgo
    exact hgo
  · rw [if_neg (fun q => l q.2)] at hgo
    exact hgo
  · rw [if_pos ⟨k, l⟩] at hgo
    have h169 : ¬ (s.1 26 = s.1 27 ∧ s.2 2 t ≤ s.1 28) → PL_X3_layColumns_169 D W X K s i t := fun w => by
      rw [if_neg w] at hgo
      exact p_X3_layColumns_169 hW fun _ _ _ => ⟨⟨by omega, by omega⟩, ⟨by omega, by omega⟩, h189 hgo⟩
    refine ⟨fun a => h169 (fun q => a q.1), fun a => ⟨⟨h0, by omega⟩, fun b => h169 (fun q => by omega), fun b => ?_⟩⟩
    rw [if_pos ⟨a, by omega⟩] at hgo
    exact q_tops hW hB ⟨h0, by omega⟩ ⟨by omega, by omega⟩ ⟨by omega, by omega⟩ ⟨by omega, by omega⟩ (h189 hgo)
theorem q_67 (hW : mOK D W) (hT : TI s0) (hL : LL s0) (hi : 0 ≤ i ∧ i < s0.1 14) {K : mS → Prop} (h : CI s0 i g s) (hc : s.1 30 = 0 ∨ mNeeds s i (s.1 29) ≤ s.1 28) (hgo : PL_X3_layColumns_109 D W X K (mPlace s i) i 0) : PL_X3_layColumns_67 D W X K s i := by
  obtain ⟨hJ, h2, h3, h4, h5, h6⟩ := h
  have hLs := LL_of hL hJ
  have e14 : s.1 14 = s0.1 14 := hJ.2.2.1
  have hl := hL.1
  have t1 := mTakes_bd hLs (b := s.1 29) hi.1 (by omega)
  refine p_X3_layColumns_67 hW fun hB _ => ?_
  have hb22 : bd (s.1 22 - 1) := ⟨by omega, by have := (hB.1 22).2; omega⟩
  have hL2 : LL (mA s 17 i (s.1 22 - 1)) := ⟨hLs.1, fun k a b => hLs.2 k a b⟩
  exact ⟨hb22, ⟨by omega, by omega⟩, q_takes hW (hB.A hb22) hL2 (by rcases h3 with q | q <;> rw [q] <;> exact bdl rfl) hi.1 (by show i < s.1 14; omega) ⟨by show bd (s.1 28 - mTakes s i (s.1 29)); exact ⟨by omega, by omega⟩, hgo⟩⟩
theorem q_29 (hW : mOK D W) (hT : TI s0) (hL : LL s0) (hi : 0 ≤ i ∧ i ≤ s0.1 14) {K : mS → Prop} (h : CI s0 i (mG s0 i 0) s) (hend : i = s0.1 14 → PL_X3_layColumns_201 D W X K s) (hgo : i < s0.1 14 → PL_X3_layColumns_29 D W X K (mLine s i) (i + 1)) : PL_X3_layColumns_29 D W X K s i := by
  have h64 := hT.1
  have hl := hL.1
  have hgb := mG_bd (s0 := s0) h64.1 (i := i) (t := 0)
  have hj := h.1.2.2.2.2.1
  have e14 : s.1 14 = s0.1 14 := h.1.2.2.1
  have e0 : s.1 0 = s0.1 0 := told_f h.1.2.1 0 (by simp)
  refine p_X3_layColumns_29 hW fun hB _ => ⟨fun w => hend (by omega), fun w => ?_⟩
  have hlt : i < s0.1 14 := by omega
  have hgo := hgo hlt
  obtain ⟨w1, w2, w3⟩ := mWhile_ok hT hL ⟨hgb.1, by omega⟩ ⟨hi.1, by omega⟩ 130 s h (Or.inr (by omega))
  refine q_while hW hT hL ⟨hgb.1, by omega⟩ ⟨hi.1, hlt⟩ 130 s h (Or.inr (by omega)) ?_
  refine q_67 hW hT hL ⟨hi.1, hlt⟩ w1 w3 ?_
  obtain ⟨p1, p2⟩ := CI_place hT hL ⟨hi.1, hlt⟩ w1 w3
  unfold mLine at hgo
  rw [e0] at hgo
  have hA := CI_figs hT p1 p2
  generalize mPlace (mWhile i 130 s) i = s1 at *
  have hLp : ∀ m n : Nat, n + m = (s0.1 0).toNat → PL_X3_layColumns_109 D W X K (iter (mFig i) n s1) i n := by
    intro m
    induction m with
    | zero =>
      intro n hn
      refine q_109 hW hT hL ⟨hi.1, hlt⟩ (hA n (by omega)).1 (by omega) (by omega) (fun _ => ?_) (fun w => by omega)
      rw [show n = (s0.1 0).toNat by omega]
      exact hgo
    | succ m ih =>
      intro n hn
      exact q_109 hW hT hL ⟨hi.1, hlt⟩ (hA n (by omega)).1 (by omega) (by omega) (fun w => by omega) (fun _ => ih (n + 1) (by omega))
  exact hLp (s0.1 0).toNat 0 (by omega)
theorem mTopsAll_has : ∀ (f : Nat) (s : mS), s.1 30 = 1 → (mTopsAll f s).1 30 = 1
  | 0, s, h => h
  | f + 1, s, h => by
    unfold mTopsAll
    split
    · exact mTopsAll_has f _ rfl
    · exact h
theorem mBeg_has (h : s.1 26 < s.1 27) : (mBeg s).1 30 = 1 := by
  unfold mBeg
  obtain ⟨n, hn⟩ : ∃ n, (s.1 27 - s.1 26).toNat = n + 1 := ⟨(s.1 27 - s.1 26).toNat - 1, by omega⟩
  rw [hn]
  unfold mTopsAll
  rw [if_pos ⟨h, Or.inr rfl⟩]
  exact mTopsAll_has n _ rfl
theorem q_201 (hW : mOK D W) (hT : TI s0) (hg : g ≤ 64) (hi : 0 ≤ i ∧ i ≤ 64) {K : mS → Prop} : ∀ (f : Nat) (s : mS), CI s0 i g s → s.1 30 = 1 → s.1 27 - s.1 26 ≤ f → K (mEnd f s) → PL_X3_layColumns_201 D W X K s
  | 0, s, h, hs, hf, hK => by
    have hj := h.1.2.2.2.2.1
    exact p_X3_layColumns_201 hW fun _ => ⟨fun _ => hK, fun w => absurd (by omega) w⟩
  | f + 1, s, h, hs, hf, hK => by
    obtain ⟨hJ, h2, h3, h4, h5, h6⟩ := h
    unfold mEnd at hK
    refine p_X3_layColumns_201 hW fun _ => ⟨fun w => ?_, fun w => ?_⟩
    · rw [if_neg (by omega)] at hK
      exact hK
    · rw [if_pos (by omega)] at hK
      obtain ⟨b1, b2, b3, b4, b5⟩ := CI_beg hT hg hi hJ ⟨by omega, by omega⟩
      refine q_begins hW hT hg hi hJ ⟨by omega, by omega⟩ ?_
      exact q_201 hW hT hg hi f _ b1 (mBeg_has (by omega)) (by have := b4 (by omega); omega) hK
theorem CI_end (hT : TI s0) (hg : g ≤ 64) (hi : 0 ≤ i ∧ i ≤ 64) : ∀ (f : Nat) (s : mS), CI s0 i g s → s.1 30 = 1 → s.1 27 - s.1 26 ≤ f → CI s0 i g (mEnd f s) ∧ (mEnd f s).1 26 = (mEnd f s).1 27 ∧ (mEnd f s).1 30 = 1
  | 0, s, h, hs, hf => ⟨h, by have := h.1.2.2.2.2.1; show s.1 26 = s.1 27; omega, hs⟩
  | f + 1, s, h, hs, hf => by
    have h9 := h
    obtain ⟨hJ, h2, h3, h4, h5, h6⟩ := h9
    have hj := hJ.2.2.2.2.1
    unfold mEnd
    split
    · next hc =>
      obtain ⟨b1, b2, b3, b4, b5⟩ := CI_beg hT hg hi hJ ⟨by omega, by omega⟩
      exact CI_end hT hg hi f _ b1 (mBeg_has hc) (by have := b4 hc; omega)
    · exact ⟨h, by omega, hs⟩
theorem CJ_00 (hB : MB s0) (hT : TI s0) : CJ s0 0 (mG s0 0 0) (mCol00 s0) := by
  have hgb := mG_bd (s0 := s0) hT.1.1 (i := 0) (t := 0)
  refine ⟨((hB.F (bdl rfl)).F (bdl rfl)).F (bdl rfl), ?_, rfl, fun _ _ => rfl, ?_, fun j a b => ?_, fun j a b => by omega⟩
  · unfold mCol00
    rw [told_F (by omega), told_F (by omega), told_F (by omega)]
  · show (0 : Int) ≤ 0 ∧ (0 : Int) ≤ 0 ∧ 0 ≤ mG s0 0 0
    omega
  · have b : j < 0 := b
    omega
theorem CI_lines (hT : TI s0) (hL : LL s0) (hB : MB s0) : ∀ n : Nat, (n : Int) ≤ s0.1 14 → CI s0 n (mG s0 n 0) (iter mLine n (mBeg (mCol00 s0))) ∧ (0 < n → (iter mLine n (mBeg (mCol00 s0))).1 30 = 1)
  | 0, _ => by
    have hgb := mG_bd (s0 := s0) hT.1.1 (i := 0) (t := 0)
    have h64 := hT.1
    refine ⟨(CI_beg hT (by omega) ⟨by omega, by omega⟩ (CJ_00 hB hT) ⟨by show (0 : Int) ≤ 0; omega, by show (0 : Int) ≤ 0 + (mG s0 0 0 - (0 - 0)); omega⟩).1, fun w => by omega⟩
  | n + 1, hn => by
    obtain ⟨a, -⟩ := CI_lines hT hL hB n (by omega)
    obtain ⟨b, c⟩ := CI_line hT hL ⟨by omega, by omega⟩ a
    exact ⟨b, fun _ => c⟩
theorem q_layColumns (hW : mOK D W) (hB : MB s) (hT : TI s) (hL : LL s) {K : mS → Prop} (hK : K (mCols s)) : pV D W X m_X3_layColumns [] s K := by
  have h64 := hT.1
  have hl := hL.1
  unfold mCols at hK
  refine p_X3_layColumns hW hB ⟨fun w => ?_, fun w => ?_⟩
  · rw [if_neg w] at hK
    have hgb := mG_bd (s0 := s) hT.1.1 (i := 0) (t := 0)
    refine q_begins hW hT (by omega) ⟨by omega, by omega⟩ (CJ_00 hB hT) ⟨by show (0 : Int) ≤ 0; omega, by show (0 : Int) ≤ 0 + (mG s 0 0 - (0 - 0)); omega⟩ ?_
    have hA := CI_lines hT hL hB
    generalize mBeg (mCol00 s) = s1 at *
    have hLp : ∀ m n : Nat, n + m = (s.1 14).toNat → PL_X3_layColumns_29 D W X K (iter mLine n s1) n := by
      intro m
      induction m with
      | zero =>
        intro n hn
        have h9 := hA n (by omega)
        have hgb := mG_bd (s0 := s) hT.1.1 (i := n) (t := 0)
        have hj := h9.1.1.2.2.2.2.1
        refine q_29 hW hT hL ⟨by omega, by omega⟩ h9.1 (fun _ => ?_) (fun w => by omega)
        refine q_201 hW hT (i := n) (g := mG s n 0) (by omega) ⟨by omega, by omega⟩ 130 _ h9.1 (h9.2 (by omega)) (by omega) ?_
        rw [show n = (s.1 14).toNat by omega]
        exact hK
      | succ m ih =>
        intro n hn
        exact q_29 hW hT hL ⟨by omega, by omega⟩ (hA n (by omega)).1 (fun w => by omega) (fun _ => ih (n + 1) (by omega))
    exact hLp (s.1 14).toNat 0 (by omega)
  · rw [if_pos w] at hK
    exact hK
end MCR
