set_option maxRecDepth 100000
/-! the model's columns: needs, the loops -/
/-- lines, as laid -/
def LL (s : mS) : Prop := (0 ≤ s.1 14 ∧ s.1 14 ≤ 64) ∧ ∀ i, 0 ≤ i → i < s.1 14 → (0 ≤ s.2 18 i ∧ s.2 18 i ≤ 256) ∧ (s.2 19 i = 0 ∨ s.2 19 i = 1) ∧ (s.2 20 i = 0 ∨ s.2 20 i = 1) ∧ (s.2 21 i = 0 ∨ (s.2 21 i = 1 ∧ s.2 20 i = 1 ∧ s.2 19 i = 0 ∧ i + 1 < s.1 14))
section MCP
variable {D : qD} {W : mW} {X : String → qH → Prop} {s s0 : mS} {i g : Int}
theorem mTakes_bd (hL : LL s) {i b : Int} (h0 : 0 ≤ i) (h1 : i < s.1 14) : 1 ≤ mTakes s i b ∧ mTakes s i b ≤ 258 := by
  obtain ⟨n1, -⟩ := hL.2 i h0 h1
  unfold mTakes
  split
  · omega
  · split <;> omega
theorem q_takes (hW : mOK D W) (hB : MB s) (hL : LL s) {K : Int → mS → Prop} {i b : Int} (hb : bd b) (h0 : 0 ≤ i) (h1 : i < s.1 14) (hK : K (mTakes s i b) s) : pI D W X m_X3_takes [i, b] s K := by
  obtain ⟨n1, -⟩ := hL.2 i h0 h1
  have h64 := hL.1
  unfold mTakes at hK
  refine p_X3_takes hW hB ⟨by omega, by omega⟩ hb ⟨⟨h0, by omega⟩, ⟨h0, by omega⟩, fun w => ⟨⟨by omega, by omega⟩, ?_⟩, fun w => ⟨fun w2 => ⟨⟨by omega, by omega⟩, ?_⟩, fun w2 => ⟨⟨by omega, by omega⟩, ?_⟩⟩⟩
  · rw [if_pos w] at hK; exact hK
  · rw [if_neg w, if_pos w2] at hK; exact hK
  · rw [if_neg w, if_neg w2] at hK; exact hK
theorem mNeeds_bd (hL : LL s) {i b : Int} (h0 : 0 ≤ i) (h1 : i < s.1 14) : mTakes s i b ≤ mNeeds s i b ∧ mNeeds s i b ≤ 1000 := by
  have t1 := mTakes_bd hL (b := b) h0 h1
  unfold mNeeds
  split
  · next hc =>
    have t2 := mTakes_bd hL (b := 1) (i := i + 1) (by omega) hc.2
    split
    · next hc2 =>
      obtain ⟨-, -, -, q4⟩ := hL.2 (i + 1) (by omega) hc.2
      have t3 := mTakes_bd hL (b := 1) (i := i + 2) (by omega) (by
        rcases q4 with q | q
        · exact absurd q hc2.2.2.2
        · omega)
      omega
    · omega
  · omega
theorem q_needs (hW : mOK D W) (hB : MB s) (hL : LL s) {K : Int → mS → Prop} {i b : Int} (hb : bd b) (h0 : 0 ≤ i) (h1 : i < s.1 14) (hK : K (mNeeds s i b) s) : pI D W X m_X3_needs [i, b] s K := by
  have h64 := hL.1
  have t1 := mTakes_bd hL (b := b) h0 h1
  unfold mNeeds at hK
  have h38 : ¬ (s.2 19 i ≠ 0 ∨ (s.2 20 i ≠ 0 ∧ s.2 21 i ≠ 0)) → PL_X3_needs_38 D W X K s i (mTakes s i b) := fun w => p_X3_needs_38 hW fun _ _ _ => p_X3_needs_39 hW fun _ _ _ _ => ⟨fun _ => by
    rw [if_neg (fun q => w q.1), Int.add_zero] at hK
    exact hK, fun q => absurd rfl q⟩
  have h34 : (s.2 19 i ≠ 0 ∨ (s.2 20 i ≠ 0 ∧ s.2 21 i ≠ 0)) → PL_X3_needs_34 D W X K s i (mTakes s i b) := fun w => p_X3_needs_34 hW fun _ _ _ => p_X3_needs_39 hW fun hB _ _ _ => ⟨fun q => absurd q (by decide), fun _ => ⟨⟨by omega, by omega⟩, fun u => by
    rw [if_neg (fun q => absurd q.2 (by omega)), Int.add_zero] at hK
    exact hK, fun u => by
    have hlt : i + 1 < s.1 14 := by omega
    rw [if_pos ⟨w, hlt⟩] at hK
    have t2 := mTakes_bd hL (b := 1) (i := i + 1) (by omega) hlt
    have hend : ¬ (s.2 19 i ≠ 0 ∧ s.2 19 (i + 1) = 0 ∧ s.2 20 (i + 1) ≠ 0 ∧ s.2 21 (i + 1) ≠ 0) → bd (mTakes s i b + mTakes s (i + 1) 1) ∧ K (mTakes s i b + mTakes s (i + 1) 1) s := fun q => by
      rw [if_neg q, Int.add_zero] at hK
      exact ⟨⟨by omega, by omega⟩, hK⟩
    refine q_takes hW hB hL (bdl rfl) (by omega) hlt ⟨⟨h0, by omega⟩, fun a => hend (fun q => q.1 a), fun a => ⟨⟨by omega, by omega⟩, fun a2 => hend (fun q => a2 q.2.1), fun a2 => ⟨⟨by omega, by omega⟩, fun a3 => hend (fun q => q.2.2.1 a3), fun a3 => ⟨⟨by omega, by omega⟩, fun a4 => hend (fun q => q.2.2.2 a4), fun a4 => ?_⟩⟩⟩⟩
    rw [if_pos ⟨a, a2, a3, a4⟩] at hK
    obtain ⟨-, -, -, q4⟩ := hL.2 (i + 1) (by omega) hlt
    have hl2 : i + 2 < s.1 14 := by
      rcases q4 with q | q
      · exact absurd q a4
      · omega
    have t3 := mTakes_bd hL (b := 1) (i := i + 2) (by omega) hl2
    refine q_takes hW hB hL (bdl rfl) (by omega) hl2 ⟨⟨by omega, by omega⟩, ?_⟩
    rw [Int.add_assoc]
    exact hK⟩⟩
  refine p_X3_needs hW hB ⟨by omega, by omega⟩ hb (q_takes hW hB hL hb h0 h1 ⟨⟨h0, by omega⟩, fun w => h34 (Or.inl w), fun w => ⟨⟨h0, by omega⟩, fun w2 => h38 (fun q => q.elim (fun z => z w) (fun z => z.1 w2)), fun w2 => ⟨⟨h0, by omega⟩, fun w3 => h38 (fun q => q.elim (fun z => z w) (fun z => z.2 w3)), fun w3 => h34 (Or.inr ⟨w2, w3⟩)⟩⟩⟩)
theorem LL_of (hL : LL s0) (h : CJ s0 i g s) : LL s := by
  obtain ⟨-, -, j3, j4, -⟩ := h
  refine ⟨by rw [j3]; exact hL.1, fun k a b => ?_⟩
  rw [j3] at b
  rw [j4 18 (by omega), j4 19 (by omega), j4 20 (by omega), j4 21 (by omega), j3]
  exact hL.2 k a b
/-- new columns, until the line fits -/
def mWhile (i : Int) : Nat → mS → mS
  | 0, s => s
  | f + 1, s => if s.1 30 ≠ 0 ∧ s.1 28 < mNeeds s i (s.1 29) then mWhile i f (mBeg s) else s
theorem mWhile_ok (hT : TI s0) (hL : LL s0) (hg : 0 ≤ g ∧ g ≤ 64) (hi : 0 ≤ i ∧ i ≤ 64) : ∀ (f : Nat) (s : mS), CI s0 i g s → (s.1 30 = 0 ∨ (s.1 27 - s.1 26) + 1 ≤ f) → CI s0 i g (mWhile i f s) ∧ (mWhile i f s).1 27 = s.1 27 ∧ ((mWhile i f s).1 30 = 0 ∨ mNeeds (mWhile i f s) i ((mWhile i f s).1 29) ≤ (mWhile i f s).1 28)
  | 0, s, h, hm => by
    have hj := h.1.2.2.2.2.1
    exact ⟨h, rfl, Or.inl (by rcases hm with w | w; exact w; omega)⟩
  | f + 1, s, h, hm => by
    unfold mWhile
    split
    · next hc =>
      have h9 := h
      obtain ⟨hJ, h2, h3, h4, h5, h6⟩ := h9
      have hj := hJ.2.2.2.2.1
      obtain ⟨b1, b2, b3, b4, b5⟩ := CI_beg hT hg.2 hi hJ ⟨by omega, by omega⟩
      obtain ⟨c1, c2, c3⟩ := mWhile_ok hT hL hg hi f _ b1 (by
        rcases hm with w | w
        · exact absurd w hc.1
        · by_cases hlt : s.1 26 < s.1 27
          · right
            have := b4 hlt
            omega
          · exact Or.inl (b5 (by omega)))
      exact ⟨c1, c2.trans b2, c3⟩
    · next hc =>
      refine ⟨h, rfl, ?_⟩
      by_cases hz : s.1 30 = 0
      · exact Or.inl hz
      · right
        apply Int.le_of_not_gt
        intro w
        exact hc ⟨hz, w⟩
theorem q_while (hW : mOK D W) (hT : TI s0) (hL : LL s0) (hg : 0 ≤ g ∧ g ≤ 64) (hi : 0 ≤ i ∧ i < s0.1 14) {K : mS → Prop} : ∀ (f : Nat) (s : mS), CI s0 i g s → (s.1 30 = 0 ∨ (s.1 27 - s.1 26) + 1 ≤ f) → PL_X3_layColumns_67 D W X K (mWhile i f s) i → PL_X3_layColumns_37 D W X K s i
  | 0, s, h, hm, hK => by
    have hj := h.1.2.2.2.2.1
    have hz : s.1 30 = 0 := by
      rcases hm with w | w
      · exact w
      · omega
    exact p_X3_layColumns_37 hW fun _ _ => ⟨fun _ => hK, fun w => absurd hz w⟩
  | f + 1, s, h, hm, hK => by
    have h64 := hL.1
    have h9 := h
    obtain ⟨hJ, h2, h3, h4, h5, h6⟩ := h9
    have hj := hJ.2.2.2.2.1
    have hLs := LL_of hL hJ
    have e14 : s.1 14 = s0.1 14 := hJ.2.2.1
    unfold mWhile at hK
    refine p_X3_layColumns_37 hW fun hB _ => ⟨fun w => ?_, fun w => ?_⟩
    · rw [if_neg (fun q => q.1 w)] at hK
      exact hK
    · refine q_needs hW hB hLs (by rcases h3 with q | q <;> rw [q] <;> exact bdl rfl) hi.1 (by omega) ⟨fun u => ?_, fun u => ?_⟩
      · rw [if_neg (fun q => by omega)] at hK
        exact hK
      · rw [if_pos ⟨w, by omega⟩] at hK
        obtain ⟨b1, b2, b3, b4, b5⟩ := CI_beg hT hg.2 ⟨hi.1, by omega⟩ hJ ⟨by omega, by omega⟩
        refine q_begins hW hT hg.2 ⟨hi.1, by omega⟩ hJ ⟨by omega, by omega⟩ ?_
        refine q_while hW hT hL hg hi f _ b1 ?_ hK
        rcases hm with q | q
        · exact absurd q w
        · by_cases hlt : s.1 26 < s.1 27
          · right
            have := b4 hlt
            omega
          · exact Or.inl (b5 (by omega))
end MCP
