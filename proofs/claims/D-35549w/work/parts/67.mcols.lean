set_option maxRecDepth 100000
/-! the model's columns: lines placed, figures topped or put to wait -/
def cnt (p : Int → Bool) : Nat → Nat
  | 0 => 0
  | n + 1 => cnt p n + (if p (n : Int) then 1 else 0)
theorem cnt_le (p : Int → Bool) : ∀ n, cnt p n ≤ n
  | 0 => Nat.le_refl 0
  | n + 1 => by
    have := cnt_le p n
    unfold cnt
    split <;> omega
theorem cnt_congr {p q : Int → Bool} : ∀ n : Nat, (∀ u : Int, 0 ≤ u → u < n → p u = q u) → cnt p n = cnt q n
  | 0, _ => rfl
  | n + 1, h => by
    unfold cnt
    rw [cnt_congr n (fun u a b => h u a (by omega)), h n (by omega) (by omega)]
theorem cnt_one {p q : Int → Bool} {t : Int} (h0 : 0 ≤ t) (hp : p t = false) (hq : q t = true) (hne : ∀ u, u ≠ t → q u = p u) : ∀ n : Nat, t < n → cnt q n = cnt p n + 1
  | 0, h => by omega
  | n + 1, h => by
    unfold cnt
    by_cases ht : t = n
    · subst ht
      rw [hp, hq, cnt_congr (p := q) (q := p) n (fun u a b => hne u (by omega))]
      rfl
    · rw [hne n (fun w => ht w.symm), cnt_one h0 hp hq hne n (by omega)]
      omega
/-- figures met when the lines below i are done, and the tokens below t of line i -/
def mG (s0 : mS) (i t : Int) : Int := (cnt (fun u => decide (s0.2 1 u = 4 ∧ (s0.2 15 u < i ∨ (s0.2 15 u = i ∧ u < t)))) (s0.1 0).toNat : Nat)
theorem mG_bd {s0 : mS} (h : 0 ≤ s0.1 0) {i t : Int} : 0 ≤ mG s0 i t ∧ mG s0 i t ≤ s0.1 0 := by
  have := cnt_le (fun u => decide (s0.2 1 u = 4 ∧ (s0.2 15 u < i ∨ (s0.2 15 u = i ∧ u < t)))) (s0.1 0).toNat
  unfold mG
  omega
theorem mG_yes {s0 : mS} {i t : Int} (h0 : 0 ≤ t) (h1 : t < s0.1 0) (hk : s0.2 1 t = 4) (hl : s0.2 15 t = i) : mG s0 i (t + 1) = mG s0 i t + 1 := by
  unfold mG
  rw [cnt_one (p := fun u => decide (s0.2 1 u = 4 ∧ (s0.2 15 u < i ∨ (s0.2 15 u = i ∧ u < t)))) (t := t) h0 (by simp [hl]) (by simp [hk, hl]; omega) (fun u hu => by
    apply decide_eq_decide.mpr
    constructor
    · rintro ⟨a, b | ⟨b, c⟩⟩
      · exact ⟨a, Or.inl b⟩
      · exact ⟨a, Or.inr ⟨b, by omega⟩⟩
    · rintro ⟨a, b | ⟨b, c⟩⟩
      · exact ⟨a, Or.inl b⟩
      · exact ⟨a, Or.inr ⟨b, by omega⟩⟩) _ (by omega)]
  omega
theorem mG_no {s0 : mS} {i t : Int} (h : ¬ (s0.2 1 t = 4 ∧ s0.2 15 t = i)) : mG s0 i (t + 1) = mG s0 i t := by
  unfold mG
  rw [cnt_congr (q := fun u => decide (s0.2 1 u = 4 ∧ (s0.2 15 u < i ∨ (s0.2 15 u = i ∧ u < t))))]
  intro u a b
  apply decide_eq_decide.mpr
  by_cases hu : u = t
  · subst hu
    constructor
    · rintro ⟨a, b | ⟨b, c⟩⟩
      · exact ⟨a, Or.inl b⟩
      · exact absurd ⟨a, b⟩ h
    · rintro ⟨a, b | ⟨b, c⟩⟩
      · exact ⟨a, Or.inl b⟩
      · exact absurd ⟨a, b⟩ h
  · constructor
    · rintro ⟨a, b | ⟨b, c⟩⟩
      · exact ⟨a, Or.inl b⟩
      · exact ⟨a, Or.inr ⟨b, by omega⟩⟩
    · rintro ⟨a, b | ⟨b, c⟩⟩
      · exact ⟨a, Or.inl b⟩
      · exact ⟨a, Or.inr ⟨b, by omega⟩⟩
theorem mG_end {s0 : mS} (h : 0 ≤ s0.1 0) {i : Int} : mG s0 i (s0.1 0) = mG s0 (i + 1) 0 := by
  unfold mG
  rw [cnt_congr (q := fun u => decide (s0.2 1 u = 4 ∧ (s0.2 15 u < i + 1 ∨ (s0.2 15 u = i + 1 ∧ u < 0))))]
  intro u a b
  apply decide_eq_decide.mpr
  constructor
  · rintro ⟨a, b | ⟨b, c⟩⟩
    · exact ⟨a, Or.inl (by omega)⟩
    · exact ⟨a, Or.inl (by omega)⟩
  · rintro ⟨a, b | ⟨b, c⟩⟩
    · by_cases hx : s0.2 15 u = i
      · exact ⟨a, Or.inr ⟨hx, by omega⟩⟩
      · exact ⟨a, Or.inl (by omega)⟩
    · omega
def mPlace (s : mS) (i : Int) : mS := mF (mF (mF (mA s 17 i (s.1 22 - 1)) 28 (s.1 28 - mTakes s i (s.1 29))) 29 1) 30 1
def mFig (i : Int) (s : mS) (t : Int) : mS := if s.2 1 t = 4 ∧ s.2 15 t = i then (if s.1 26 = s.1 27 ∧ s.2 2 t ≤ s.1 28 then mTops s t else mF (mA s 25 (s.1 27) t) 27 (s.1 27 + 1)) else s
section MCQ
variable {D : qD} {W : mW} {X : String → qH → Prop} {s s0 : mS} {i g : Int}
theorem CI_place (hT : TI s0) (hL : LL s0) (hi : 0 ≤ i ∧ i < s0.1 14) (h : CI s0 i g s) (hc : s.1 30 = 0 ∨ mNeeds s i (s.1 29) ≤ s.1 28) : CI s0 (i + 1) g (mPlace s i) ∧ (mPlace s i).1 30 = 1 := by
  obtain ⟨hJ, h2, h3, h4, h5, h6⟩ := h
  have hLs := LL_of hL hJ
  have e14 : s.1 14 = s0.1 14 := hJ.2.2.1
  obtain ⟨j1, j2, j3, j4, j5, j6, j7⟩ := hJ
  have h9 : 3 ≤ s.1 9 ∧ s.1 9 ≤ 20 := by
    rw [told_f j2 9 (by omega)]
    exact hT.2.2.2.2.2.1
  have t1 := mTakes_bd hLs (b := s.1 29) hi.1 (by omega)
  have t2 := mNeeds_bd hLs (b := s.1 29) hi.1 (by omega)
  have h64 := hL.1
  have h0 := hT.1
  have hb22 : bd (s.1 22 - 1) := ⟨by omega, by have := (j1.1 22).2; omega⟩
  refine ⟨⟨⟨(((j1.A hb22).F ⟨by omega, by omega⟩).F (bdl rfl)).F (bdl rfl), ?_, j3, fun k hk => ?_, j5, fun j a b => ?_, fun j a b => ?_⟩, ?_, Or.inr rfl, Or.inr rfl, fun w => absurd (show (1 : Int) = 0 from w) (by decide), ?_⟩, rfl⟩
  · unfold mPlace
    rw [told_F (by omega), told_F (by omega), told_F (by omega), told_A (by omega), j2]
  · have hk16 : ¬ k = 17 := by omega
    rw [← j4 k hk]
    funext z
    show (if k = 17 ∧ z = i then s.1 22 - 1 else s.2 k z) = s.2 k z
    rw [if_neg (fun w => hk16 w.1)]
  · exact j6 j a b
  · show 0 ≤ (if 17 = 17 ∧ j = i then s.1 22 - 1 else s.2 17 j) ∧ (if 17 = 17 ∧ j = i then s.1 22 - 1 else s.2 17 j) < s.1 22
    by_cases hj : j = i
    · rw [if_pos ⟨rfl, hj⟩]
      omega
    · rw [if_neg (fun w => hj w.2)]
      exact j7 j a (by omega)
  · show -300 ≤ s.1 28 - mTakes s i (s.1 29) ∧ s.1 28 - mTakes s i (s.1 29) ≤ 20
    rcases hc with w | w
    · have := h5 w
      omega
    · omega
  · show 1 ≤ s.1 22 ∧ s.1 22 ≤ (i + 1) + (g - (s.1 27 - s.1 26)) + (1 - 1)
    omega
theorem CI_fig (hT : TI s0) {t : Int} (h : CI s0 i (mG s0 (i - 1) t) s) (hs : s.1 30 = 1) (h0 : 0 ≤ t) (h1 : t < s0.1 0) : CI s0 i (mG s0 (i - 1) (t + 1)) (mFig (i - 1) s t) ∧ (mFig (i - 1) s t).1 30 = 1 := by
  have h9 := h
  obtain ⟨hJ, h2, h3, h4, h5, h6⟩ := h9
  obtain ⟨j1, j2, j3, j4, j5, j6, j7⟩ := hJ
  have e1 : s.2 1 = s0.2 1 := told_a j2 1 (by omega)
  have e2 : s.2 2 = s0.2 2 := told_a j2 2 (by omega)
  have e15 : s.2 15 = s0.2 15 := j4 15 (by omega)
  have h64 := hT.1
  have hk := hT.tok h0 h1
  unfold TK at hk
  have hgb := mG_bd (s0 := s0) h64.1 (i := i - 1) (t := t)
  unfold mFig
  rw [e1, e2, e15]
  split
  · next hc =>
    rw [mG_yes h0 h1 hc.1 hc.2]
    generalize mG s0 (i - 1) t = g at *
    split
    · next hf =>
      refine ⟨⟨⟨((j1.A ⟨by omega, by have := (j1.1 22).2; omega⟩).F ⟨by rw [e2]; omega, by rw [e2]; omega⟩).F (bdl rfl), by rw [told_Tops, j2], j3, fun k hk => ?_, ?_, j6, j7⟩, ?_, h3, Or.inr rfl, fun w => absurd (show (1 : Int) = 0 from w) (by decide), ?_⟩, rfl⟩
      · have hk16 : ¬ k = 16 := by omega
        rw [← j4 k hk]
        funext z
        show (if k = 16 ∧ z = t then s.1 22 - 1 else s.2 k z) = s.2 k z
        rw [if_neg (fun w => hk16 w.1)]
      · show 0 ≤ s.1 26 ∧ s.1 26 ≤ s.1 27 ∧ s.1 27 ≤ g + 1
        omega
      · show -300 ≤ s.1 28 - s.2 2 t ∧ s.1 28 - s.2 2 t ≤ 20
        rw [e2]
        omega
      · show 1 ≤ s.1 22 ∧ s.1 22 ≤ i + (g + 1 - (s.1 27 - s.1 26)) + (1 - 1)
        omega
    · refine ⟨⟨⟨(j1.A ⟨by omega, by omega⟩).F ⟨by omega, by omega⟩, by rw [told_F (by omega), told_A (by omega), j2], j3, fun k hk => ?_, ?_, fun j a b => ?_, j7⟩, h2, h3, h4, h5, ?_⟩, hs⟩
      · have hk16 : ¬ k = 25 := by omega
        rw [← j4 k hk]
        funext z
        show (if k = 25 ∧ z = s.1 27 then t else s.2 k z) = s.2 k z
        rw [if_neg (fun w => hk16 w.1)]
      · show 0 ≤ s.1 26 ∧ s.1 26 ≤ s.1 27 + 1 ∧ s.1 27 + 1 ≤ g + 1
        omega
      · have b : j < s.1 27 + 1 := b
        show 0 ≤ (if 25 = 25 ∧ j = s.1 27 then t else s.2 25 j) ∧ (if 25 = 25 ∧ j = s.1 27 then t else s.2 25 j) < s0.1 0 ∧ s0.2 1 (if 25 = 25 ∧ j = s.1 27 then t else s.2 25 j) = 4
        by_cases hj : j = s.1 27
        · rw [if_pos ⟨rfl, hj⟩]
          exact ⟨h0, h1, hc.1⟩
        · rw [if_neg (fun w => hj w.2)]
          exact j6 j a (by omega)
      · show 1 ≤ s.1 22 ∧ s.1 22 ≤ i + (g + 1 - (s.1 27 + 1 - s.1 26)) + (1 - s.1 30)
        omega
  · next hc =>
    rw [mG_no hc]
    exact ⟨h, hs⟩
end MCQ
