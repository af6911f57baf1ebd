set_option maxRecDepth 100000
/-! the model's calls: index -/
/-- how many follow p, one by one, at the list's head -/
def ixRun : Int → List Int → Nat
  | _, [] => 0
  | p, q :: L => if q = p + 1 then ixRun q L + 1 else 0
/-- the part of an index over rising pages -/
def ixOf : Nat → List Int → Int → Int
  | 0, _, _ => -1
  | _ + 1, [], _ => -1
  | f + 1, p :: L, n => if 2 ≤ ixRun p L then (if n = 0 then 1000 * p + (p + ixRun p L) else ixOf f (L.drop (ixRun p L)) (n - 1)) else (if n = 0 then 1001 * p else ixOf f L (n - 1))
/-- L: the pages from p on -/
def IXP (g : Int → Int) (L : List Int) (p : Int) : Prop := L.Pairwise (· < ·) ∧ (∀ q, p ≤ q → q < 400 → (g q ≠ 0 ↔ q ∈ L)) ∧ ∀ q ∈ L, p ≤ q ∧ q < 398
theorem IX_tail {g : Int → Int} {R : List Int} {q : Int} (h : IXP g (q :: R) q) : IXP g R (q + 1) := by
  obtain ⟨h1, h2, h3⟩ := h
  rw [List.pairwise_cons] at h1
  refine ⟨h1.2, fun z a b => ?_, fun z hz => ?_⟩
  · rw [h2 z (by omega) b, List.mem_cons]
    constructor
    · rintro (w | w)
      · omega
      · exact w
    · exact Or.inr
  · have := h1.1 z hz
    exact ⟨by omega, (h3 z (List.mem_cons_of_mem q hz)).2⟩
theorem IX_skip {g : Int → Int} {L : List Int} {p : Int} (hp : g p = 0) (h4 : p < 400) (h : IXP g L p) : IXP g L (p + 1) := by
  obtain ⟨h1, h2, h3⟩ := h
  refine ⟨h1, fun z a b => h2 z (by omega) b, fun z hz => ?_⟩
  have h9 := h3 z hz
  refine ⟨?_, h9.2⟩
  by_cases w : z = p
  · subst w
    exact absurd hp ((h2 z (Int.le_refl _) h4).mpr hz)
  · omega
theorem IX_head {g : Int → Int} {L : List Int} {p : Int} (hp : g p ≠ 0) (h4 : p < 400) (h : IXP g L p) : ∃ R, L = p :: R := by
  obtain ⟨h1, h2, h3⟩ := h
  have hm := (h2 p (Int.le_refl _) h4).mp hp
  cases L with
  | nil => cases hm
  | cons q R =>
    have h9 := h3 q List.mem_cons_self
    rw [List.pairwise_cons] at h1
    rcases List.mem_cons.mp hm with w | w
    · exact ⟨R, by rw [w]⟩
    · have := h1.1 p w
      omega
theorem IX_drop {g : Int → Int} : ∀ (R : List Int) (to : Int), IXP g R (to + 1) → IXP g (R.drop (ixRun to R)) (to + (ixRun to R : Nat) + 1)
  | [], to, h => by
    show IXP g [] (to + ((0 : Nat) : Int) + 1)
    rw [show to + ((0 : Nat) : Int) + 1 = to + 1 by omega]
    exact h
  | q :: R, to, h => by
    unfold ixRun
    by_cases hq : q = to + 1
    · rw [if_pos hq]
      subst hq
      have ih := IX_drop R (to + 1) (IX_tail h)
      rw [show to + ((ixRun (to + 1) R + 1 : Nat) : Int) + 1 = to + 1 + (ixRun (to + 1) R : Nat) + 1 by omega]
      exact ih
    · rw [if_neg hq]
      rw [show to + ((0 : Nat) : Int) + 1 = to + 1 by omega]
      exact h
/-- another array of pages -/
def m36 (x : mS) (g : Int → Int) : mS := (x.1, fun k z => if k = 36 then g z else x.2 k z)
theorem m36_A {x : mS} {g : Int → Int} {v w : Int} : mA (m36 x g) 36 v w = m36 x (fun z => if z = v then w else g z) := by
  refine Prod.ext rfl (funext fun k => funext fun z => ?_)
  show (if k = 36 ∧ z = v then w else if k = 36 then g z else x.2 k z) = (if k = 36 then (if z = v then w else g z) else x.2 k z)
  by_cases h : k = 36
  · by_cases h2 : z = v
    · rw [if_pos ⟨h, h2⟩, if_pos h, if_pos h2]
    · rw [if_neg (fun q => h2 q.2), if_pos h, if_pos h, if_neg h2]
  · rw [if_neg (fun q => h q.1), if_neg h, if_neg h]
theorem m36_rf {x : mS} : m36 x (x.2 36) = x := by
  refine Prod.ext rfl (funext fun k => funext fun z => ?_)
  show (if k = 36 then x.2 36 z else x.2 k z) = x.2 k z
  by_cases h : k = 36
  · rw [if_pos h, h]
  · rw [if_neg h]
theorem m36_told {x : mS} {g : Int → Int} : told (m36 x g) = told x := by
  refine Prod.ext rfl (funext fun k => funext fun z => ?_)
  simp only [told, m36]
  split
  · next h => rw [if_neg (by omega)]
  · rfl
theorem m36_root {x : mS} {g : Int → Int} : ∀ (f : Nat) (v : Int), mRootS (m36 x g) f v = mRootS x f v
  | 0, _ => rfl
  | f + 1, v => by
    unfold mRootS
    rw [m36_root f]
    rfl
theorem m36_counts {x : mS} {g : Int → Int} {t m : Int} : mCounts (m36 x g) t m ↔ mCounts x t m := by
  unfold mCounts mLast
  rw [m36_root]
  exact Iff.rfl
theorem m36_CH {x : mS} {g : Int → Int} (h : CH x) (hB : MB (m36 x g)) : CH (m36 x g) := ⟨⟨⟨hB, h.1.1.2.1.of m36_told.symm, ⟨h.1.1.2.2.1.1, fun i a b => h.1.1.2.2.1.2 i a b⟩, h.1.1.2.2.2.1, h.1.1.2.2.2.2⟩, h.1.2.1, h.1.2.2⟩, h.2⟩
section MPH
variable {D : qD} {W : mW} {X : String → qH → Prop} {s x : mS} {g : Int → Int}
theorem q_ix151 (hW : mOK D W) {K : Int → mS → Prop} {a n p : Int} (hp : 0 ≤ p ∧ p < 400) (hg : g p ≠ 0) : ∀ (R : List Int) (to : Int), IXP g R (to + 1) → 0 ≤ to → to < 398 → PL_X3_index_187 D W X K (m36 x g) a n p (to + (ixRun to R : Nat)) → PL_X3_index_151 D W X K (m36 x g) a n p to
  | [], to, h, h0, h1, G => by
    have G : PL_X3_index_187 D W X K (m36 x g) a n p (to + ((0 : Nat) : Int)) := G
    rw [show to + ((0 : Nat) : Int) = to by omega] at G
    refine p_X3_index_151 hW fun _ _ _ _ _ => ⟨hp, fun w => absurd w hg, fun _ => ⟨⟨by omega, by omega⟩, fun _ => G, fun w => ?_⟩⟩
    have := (h.2.1 (to + 1) (by omega) (by omega)).mp w
    cases this
  | q :: R, to, h, h0, h1, G => by
    unfold ixRun at G
    by_cases hq : q = to + 1
    · rw [if_pos hq] at G
      subst hq
      have h9 := h.2.2 (to + 1) List.mem_cons_self
      have ih := q_ix151 hW hp hg (K := K) (a := a) (n := n) R (to + 1) (IX_tail h) (by omega) (by omega) (by rw [show to + 1 + ((ixRun (to + 1) R : Nat) : Int) = to + ((ixRun (to + 1) R + 1 : Nat) : Int) by omega]; exact G)
      refine p_X3_index_151 hW fun _ _ _ _ _ => ⟨hp, fun w => absurd w hg, fun _ => ⟨⟨by omega, by omega⟩, fun w => ?_, fun _ => ⟨fun w => by omega, fun _ => ⟨⟨by omega, by omega⟩, ih⟩⟩⟩⟩
      exact absurd w ((h.2.1 (to + 1) (by omega) (by omega)).mpr List.mem_cons_self)
    · rw [if_neg hq] at G
      rw [show to + ((0 : Nat) : Int) = to by omega] at G
      refine p_X3_index_151 hW fun _ _ _ _ _ => ⟨hp, fun w => absurd w hg, fun _ => ⟨⟨by omega, by omega⟩, fun _ => G, fun w => ?_⟩⟩
      obtain ⟨R', hR⟩ := IX_head w (by omega) h
      cases hR
      exact absurd rfl hq
theorem q_ix139 (hW : mOK D W) {K : Int → mS → Prop} {a : Int} : ∀ (j : Nat) (p n : Int) (f : Nat) (L : List Int), p + j = 400 → 1 ≤ p → (0 ≤ n ∧ n < p) → 0 ≤ a → L.length ≤ f → IXP g L p → (n ≤ a) → K (ixOf f L (a - n)) (m36 x g) → PL_X3_index_139 D W X K (m36 x g) a n p := by
  intro j
  induction j using Nat.strongRecOn with
  | _ j ih =>
  intro p n f L hj h1 hn ha hf hL hna hK
  refine p_X3_index_139 hW fun hB ba bn bp => ⟨fun w => ?_, fun w => ?_⟩
  · have hL0 : L = [] := by
      cases L with
      | nil => rfl
      | cons q R =>
        have := hL.2.2 q List.mem_cons_self
        omega
    subst hL0
    cases f with
    | zero => exact hK
    | succ f => exact hK
  by_cases hg : g p = 0
  · have h271 : PL_X3_index_271 D W X K (m36 x g) a n (p + 1) := p_X3_index_271 hW fun _ _ _ _ => ih (j - 1) (by omega) (p + 1) n f L (by omega) (by omega) (by omega) ha hf (IX_skip hg (by omega) hL) hna hK
    have h248 : PL_X3_index_248 D W X K (m36 x g) a p p 0 n := p_X3_index_248 hW fun _ _ _ _ _ _ => ⟨⟨by omega, by omega⟩, fun _ => ⟨⟨by omega, by omega⟩, ⟨by omega, by omega⟩, by rw [Int.add_zero]; exact h271⟩, fun w => absurd (by omega) w⟩
    have h231 : PL_X3_index_231 D W X K (m36 x g) a n p p := p_X3_index_231 hW fun _ _ _ _ _ => ⟨⟨by omega, by omega⟩, fun _ => h248, fun w => absurd hg w⟩
    have h187 : PL_X3_index_187 D W X K (m36 x g) a n p p := p_X3_index_187 hW fun _ _ _ _ _ => ⟨⟨by omega, by omega⟩, fun _ => h231, fun w => absurd hg w⟩
    exact p_X3_index_151 hW fun _ _ _ _ _ => ⟨⟨by omega, by omega⟩, fun _ => h187, fun w => absurd hg w⟩
  · obtain ⟨R, rfl⟩ := IX_head hg (by omega) hL
    have hp9 := hL.2.2 p List.mem_cons_self
    have hR := IX_tail hL
    have hD := IX_drop R p hR
    obtain ⟨f, rfl⟩ : ∃ f', f = f' + 1 := ⟨f - 1, by have : (p :: R).length = R.length + 1 := rfl; omega⟩
    have hf : R.length ≤ f := by have : (p :: R).length = R.length + 1 := rfl; omega
    unfold ixOf at hK
    refine q_ix151 hW ⟨by omega, by omega⟩ hg R p hR (by omega) (by omega) ?_
    have hkb : p + (ixRun p R : Nat) < 398 ∨ ixRun p R = 0 := by
      have h9 : ∀ (R : List Int) (p : Int), (∀ q ∈ R, q < 398) → p + (ixRun p R : Nat) < 398 ∨ ixRun p R = 0 := by
        intro R
        induction R with
        | nil => intro p _; exact Or.inr rfl
        | cons q R ih2 =>
          intro p hh
          unfold ixRun
          by_cases hq : q = p + 1
          · rw [if_pos hq]
            have := ih2 q (fun z hz => hh z (List.mem_cons_of_mem q hz))
            have := hh q List.mem_cons_self
            omega
          · rw [if_neg hq]
            exact Or.inr rfl
      exact h9 R p (fun q hq => (hR.2.2 q hq).2)
    generalize hk : ixRun p R = k at *
    have hgo : n ≠ a → PL_X3_index_231 D W X K (m36 x g) a n p (p + k) := by
      intro hne
      refine p_X3_index_231 hW fun _ _ _ _ _ => ⟨⟨by omega, by omega⟩, fun w => absurd w hg, fun _ => p_X3_index_248 hW fun _ _ _ _ _ _ => ⟨⟨by omega, by omega⟩, fun w => ⟨⟨by omega, by omega⟩, ⟨by omega, by omega⟩, ?_⟩, fun w => ⟨⟨by omega, by omega⟩, ⟨by omega, by omega⟩, ?_⟩⟩⟩
      · rw [if_neg (by omega), if_neg (by omega)] at hK
        refine p_X3_index_271 hW fun _ _ _ _ => ih (j - 1) (by omega) (p + 1) (n + 1) f R (by omega) (by omega) (by omega) ha hf hR (by omega) ?_
        rw [show a - (n + 1) = a - n - 1 by omega]
        exact hK
      · rw [if_pos (by omega), if_neg (by omega)] at hK
        refine p_X3_index_271 hW fun _ _ _ _ => ih (j - 1 - k) (by omega) (p + k + 1) (n + 1) f (R.drop k) (by omega) (by omega) (by omega) ha (by rw [List.length_drop]; omega) hD (by omega) ?_
        rw [show a - (n + 1) = a - n - 1 by omega]
        exact hK
    refine p_X3_index_187 hW fun _ _ _ _ _ => ⟨⟨by omega, by omega⟩, fun w => absurd w hg, fun _ => ⟨fun w => hgo w, fun w => ⟨⟨by omega, by omega⟩, fun w2 => ⟨⟨by omega, by omega⟩, ?_⟩, fun w2 => ⟨⟨by omega, by omega⟩, ?_⟩⟩⟩⟩
    · rw [if_neg (by omega), if_pos (by omega)] at hK
      exact hK
    · rw [if_pos (by omega), if_pos (by omega)] at hK
      exact hK
/-- what is on when the tokens below t are done -/
def IXG (x : mS) (m t : Int) (g : Int → Int) : Prop := ∀ q, 0 ≤ q → q < 400 → (g q ≠ 0 ↔ ∃ u, 0 ≤ u ∧ u < t ∧ mCounts x u m ∧ mPage x (x.2 15 u) = q)
theorem q_ix91 (hW : mOK D W) (h : CH x) (hr : x.1 24 ≠ 0) {K : Int → mS → Prop} {a m : Int} (ha : 0 ≤ a) (hm : bd m) {L : List Int} (hL : L.Pairwise (· < ·)) (hL2 : ∀ q, q ∈ L ↔ ∃ u, 0 ≤ u ∧ u < x.1 0 ∧ mCounts x u m ∧ mPage x (x.2 15 u) = q) (hK : ∀ g, MB (m36 x g) → K (ixOf L.length L a) (m36 x g)) : ∀ (j : Nat) (t : Int) (g : Int → Int), t + j = x.1 0 → 0 ≤ t → MB (m36 x g) → IXG x m t g → PL_X3_index_91 D W X K (m36 x g) m a t := by
  have h64 := h.1.1.2.1.1
  have hpg : ∀ u, 0 ≤ u → u < x.1 0 → mCounts x u m → 1 ≤ mPage x (x.2 15 u) ∧ mPage x (x.2 15 u) ≤ 195 := by
    intro u a b c
    have hl := h.2 u a b
    have := mPageBy_bd h.1.1 (i := x.2 15 u) ⟨by have := c.2.1; omega, hl.2⟩ h.1.2.1
    unfold mPage
    rw [if_neg hr]
    exact ⟨this.1, this.2.2⟩
  intro j
  induction j with
  | zero =>
    intro t g ht h0 hB hG
    have ht : t = x.1 0 := by omega
    subst ht
    refine p_X3_index_91 hW fun _ _ _ _ => ⟨fun _ => ?_, fun w => absurd (Int.le_refl _) w⟩
    refine q_ix139 hW 399 1 0 L.length L (by omega) (by omega) (by omega) ha (Nat.le_refl _) ⟨hL, fun q a b => (hG q (by omega) b).trans (hL2 q).symm, fun q hq => ?_⟩ ha ?_
    · obtain ⟨u, u1, u2, u3, u4⟩ := (hL2 q).mp hq
      have := hpg u u1 u2 u3
      omega
    · rw [Int.sub_zero]
      exact hK g hB
  | succ j ih =>
    intro t g ht h0 hB hG
    have hC := m36_CH h hB
    have h127 : ∀ {g' : Int → Int}, MB (m36 x g') → IXG x m (t + 1) g' → PL_X3_index_127 D W X K (m36 x g') m a t := fun hB' hG' => p_X3_index_127 hW fun _ _ _ _ => ⟨⟨by omega, by omega⟩, ih (t + 1) _ (by omega) (by omega) hB' hG'⟩
    refine p_X3_index_91 hW fun hB _ _ _ => ⟨fun w => absurd w (by show ¬ x.1 0 ≤ t; omega), fun _ => q_counts hW hB hC.1.1.2.1 ⟨h0, by show t < x.1 0; omega⟩ hm (fun c => ⟨fun w => absurd w (by decide), fun _ => ⟨⟨by omega, by omega⟩, ?_⟩⟩) (fun c => ⟨fun _ => ?_, fun w => absurd rfl w⟩)⟩
    · have c := m36_counts.mp c
      have hp := hpg t h0 (by omega) c
      have hl := h.2 t h0 (by omega)
      refine q_page hW hC.1 (i := x.2 15 t) ⟨by have := c.2.1; omega, hl.2⟩ ⟨⟨by show 0 ≤ mPage x (x.2 15 t); omega, by show mPage x (x.2 15 t) < 400; omega⟩, ?_⟩
      have hB9 := hB.A (k := 36) (z := mPage (m36 x g) (x.2 15 t)) (x := 1) (bdl rfl)
      rw [m36_A] at hB9 ⊢
      refine h127 hB9 (fun q a b => ?_)
      by_cases w : q = mPage (m36 x g) (x.2 15 t)
      · rw [if_pos w]
        exact ⟨fun _ => ⟨t, h0, by omega, c, w.symm⟩, fun _ => by decide⟩
      · rw [if_neg w, hG q a b]
        constructor
        · rintro ⟨u, u1, u2, u3⟩
          exact ⟨u, u1, by omega, u3⟩
        · rintro ⟨u, u1, u2, u3, u4⟩
          by_cases hu : u = t
          · subst hu
            exact absurd u4.symm w
          · exact ⟨u, u1, by omega, u3, u4⟩
    · have c := fun z => c (m36_counts.mpr z)
      refine h127 hB (fun q a b => ?_)
      rw [hG q a b]
      constructor
      · rintro ⟨u, u1, u2, u3⟩
        exact ⟨u, u1, by omega, u3⟩
      · rintro ⟨u, u1, u2, u3, u4⟩
        by_cases hu : u = t
        · subst hu
          exact absurd u3 c
        · exact ⟨u, u1, by omega, u3, u4⟩
theorem q_ix66 (hW : mOK D W) (h : CH x) (hr : x.1 24 ≠ 0) {K : Int → mS → Prop} {a m : Int} (ha : 0 ≤ a) (hm : bd m) {L : List Int} (hL : L.Pairwise (· < ·)) (hL2 : ∀ q, q ∈ L ↔ ∃ u, 0 ≤ u ∧ u < x.1 0 ∧ mCounts x u m ∧ mPage x (x.2 15 u) = q) (hK : ∀ g, MB (m36 x g) → K (ixOf L.length L a) (m36 x g)) : ∀ (j : Nat) (t : Int) (g : Int → Int), t + j = 400 → 0 ≤ t → (∀ q, 0 ≤ q → q < t → g q = 0) → PL_X3_index_66 D W X K (m36 x g) m a t := by
  have h64 := h.1.1.2.1.1
  intro j
  induction j with
  | zero =>
    intro t g ht h0 hg
    refine p_X3_index_66 hW fun hB _ _ _ => ⟨fun _ => q_ix91 hW h hr ha hm hL hL2 hK (x.1 0).toNat 0 g (by omega) (by omega) hB (fun q a b => ?_), fun w => absurd (by omega) w⟩
    rw [hg q a (by omega)]
    constructor
    · intro w
      exact absurd rfl w
    · rintro ⟨u, u1, u2, -⟩
      omega
  | succ j ih =>
    intro t g ht h0 hg
    refine p_X3_index_66 hW fun hB _ _ _ => ⟨fun w => by omega, fun _ => ⟨⟨by omega, by omega⟩, ⟨by omega, by omega⟩, ?_⟩⟩
    rw [m36_A]
    refine ih (t + 1) _ (by omega) (by omega) (fun q a b => ?_)
    by_cases w : q = t
    · rw [if_pos w]
    · rw [if_neg w]
      exact hg q a (by omega)
theorem q_index (hW : mOK D W) (hB : MB s) (hT : TI s) {K : Int → mS → Prop} {r m a : Int} (br : bd r) (bm : bd m) (ba : bd a) (hno : ¬ ((0 ≤ r ∧ r ≤ 3) ∧ (0 ≤ m ∧ m ≤ 9) ∧ 0 ≤ a) → K 0 (mF s 37 1)) (hnone : (0 ≤ r ∧ r ≤ 3) → (0 ≤ m ∧ m ≤ 9) → 0 ≤ a → ((mLay (mF s 37 0) r).2 11 m ≠ -1 ∨ (mLay (mF s 37 0) r).1 24 = 0) → K (-1) (mLay (mF s 37 0) r)) (hok : (0 ≤ r ∧ r ≤ 3) → (0 ≤ m ∧ m ≤ 9) → 0 ≤ a → (mLay (mF s 37 0) r).2 11 m = -1 → (mLay (mF s 37 0) r).1 24 ≠ 0 → ∃ L : List Int, L.Pairwise (· < ·) ∧ (∀ q, q ∈ L ↔ ∃ u, 0 ≤ u ∧ u < (mLay (mF s 37 0) r).1 0 ∧ mCounts (mLay (mF s 37 0) r) u m ∧ mPage (mLay (mF s 37 0) r) ((mLay (mF s 37 0) r).2 15 u) = q) ∧ ∀ g, MB (m36 (mLay (mF s 37 0) r) g) → K (ixOf L.length L a) (m36 (mLay (mF s 37 0) r) g)) : pI D W X m_X3_index [r, m, a] s K := by
  have h28 : ¬ ((0 ≤ r ∧ r ≤ 3) ∧ (0 ≤ m ∧ m ≤ 9) ∧ 0 ≤ a) → PL_X3_index_28 D W X K s := fun q => p_X3_index_28 hW fun hB => q_fails hW hB (bdl rfl) (hno q)
  refine p_X3_index hW hB br bm ba ⟨fun q => h28 (fun z => mIn_no.mp q z.1), fun q => ⟨fun q2 => h28 (fun z => mIn_no.mp q2 z.2.1), fun q2 => ⟨fun q3 => ?_, fun q3 => h28 (fun z => q3 z.2.2)⟩⟩⟩
  have e1 := mIn_yes.mp q
  have e2 := mIn_yes.mp q2
  have hB2 : MB (mF s 37 0) := hB.F (bdl rfl)
  have hC := CH_lay hB2 hT.f37 (r := r) ⟨e1.1, by omega⟩
  refine q_lay hW hB2 hT.f37 ⟨e1.1, by omega⟩ ?_
  have hok := hok e1 e2 q3
  have hnone := hnone e1 e2 q3
  generalize mLay (mF s 37 0) r = x at *
  refine ⟨⟨e2.1, by omega⟩, fun w => hnone (Or.inl w), fun w => ⟨fun w2 => ?_, fun w2 => hnone (Or.inr w2)⟩⟩
  obtain ⟨L, l1, l2, l3⟩ := hok w w2
  have h9 := q_ix66 (X := X) hW hC w2 q3 bm l1 l2 l3 400 0 (x.2 36) (by omega) (by omega) (fun q a b => by omega)
  rw [m36_rf] at h9
  exact h9
end MPH
