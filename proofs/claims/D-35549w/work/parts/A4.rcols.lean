set_option maxRecDepth 100000
/-! the component's columns are the model's: the loops -/
section RCT
variable {s s0 : mS} {v2 v : lV} {x : mS} {ip i t g : Int} {r : Int}
theorem RB_at (h1 : R1 s v2 s0) (hJ : CJ s0 ip g x) (hB : RB v2 v) {j : Int} (a : 0 ≤ j) (b : j < s0.1 14) : v.1.2 18 j = x.2 18 j ∧ v.1.2 19 j = x.2 19 j ∧ v.1.2 21 j = x.2 21 j := by
  obtain ⟨-, -, q3, -⟩ := h1
  obtain ⟨-, -, -, j4, -⟩ := hJ
  have := q3 j a b
  rw [hB.2.1 18 (by omega) (by omega), hB.2.1 19 (by omega) (by omega), hB.2.1 21 (by omega) (by omega), j4 18 (by omega), j4 19 (by omega), j4 21 (by omega)]
  exact this
theorem takes_eq (h1 : R1 s v2 s0) (hJ : CJ s0 ip g x) (hB : RB v2 v) {j b : Int} (a : 0 ≤ j) (c : j < s0.1 14) : mTakes v.1 j b = mTakes x j b := by
  obtain ⟨q1, q2, q3⟩ := RB_at h1 hJ hB a c
  unfold mTakes
  rw [q1, q2]
theorem needs_eq (hL : LL s0) (h1 : R1 s v2 s0) (hJ : CJ s0 ip g x) (hB : RB v2 v) {j b : Int} (a : 0 ≤ j) (c : j < s0.1 14) : lNeeds v.1 j b = mNeeds x j b := by
  obtain ⟨q1, q2, q3⟩ := RB_at h1 hJ hB a c
  have e14 : v.1.1 14 = s0.1 14 := hB.1.trans h1.1
  have x14 : x.1 14 = s0.1 14 := hJ.2.2.1
  have x20 : x.2 20 = s0.2 20 := hJ.2.2.2.1 20 (by omega)
  have x21 : x.2 21 = s0.2 21 := hJ.2.2.2.1 21 (by omega)
  have x19 : x.2 19 = s0.2 19 := hJ.2.2.2.1 19 (by omega)
  obtain ⟨-, l1, l2, l3⟩ := hL.2 j a c
  unfold lNeeds mNeeds
  rw [takes_eq h1 hJ hB a c, Int.add_assoc, e14, x14, q2, q3, x19, x20, x21]
  congr 1
  by_cases hk : (s0.2 19 j ≠ 0 ∨ s0.2 21 j ≠ 0) ∧ j + 1 < s0.1 14
  · have hk' : (s0.2 19 j ≠ 0 ∨ (s0.2 20 j ≠ 0 ∧ s0.2 21 j ≠ 0)) ∧ j + 1 < s0.1 14 := by omega
    rw [if_pos hk, if_pos hk', takes_eq h1 hJ hB (by omega) hk.2]
    obtain ⟨w1, w2, w3⟩ := RB_at h1 hJ hB (j := j + 1) (by omega) hk.2
    obtain ⟨-, m1, m2, m3⟩ := hL.2 (j + 1) (by omega) hk.2
    rw [w3, x21]
    congr 1
    by_cases hm : s0.2 19 j ≠ 0 ∧ s0.2 21 (j + 1) ≠ 0
    · rw [if_pos ⟨hk, hm⟩, if_pos ⟨hm.1, by omega, by omega, hm.2⟩, takes_eq h1 hJ hB (by omega) (by omega)]
    · rw [if_neg (fun q => hm q.2), if_neg (fun q => hm ⟨q.1, q.2.2.2⟩)]
  · have hk' : ¬ ((s0.2 19 j ≠ 0 ∨ (s0.2 20 j ≠ 0 ∧ s0.2 21 j ≠ 0)) ∧ j + 1 < s0.1 14) := by omega
    rw [if_neg hk, if_neg hk', if_neg (fun q => hk q.1)]
    rfl
theorem RC_while (hT0 : TI s0) (h0 : told s0 = told s) (hL : LL s0) (h1 : R1 s v2 s0) (hg : 0 ≤ g ∧ g ≤ 64) (hi : 0 ≤ ip ∧ ip < s0.1 14) : ∀ (f : Nat) (v : lV) (x : mS), CI s0 ip g x → RC s s0 v2 ip i t v x → RD s v x → RC s s0 v2 ip i t (lWhile (canon s r) ip f v) (mWhile ip f x) ∧ RD s (lWhile (canon s r) ip f v) (mWhile ip f x)
  | 0, v, x, _, hR, hd => ⟨hR, hd⟩
  | f + 1, v, x, hI, hR, hd => by
    have hl := hL.1
    obtain ⟨d1, d2, d3, d4, d5⟩ := hd
    have hc : (0 < v.1.1 28 ∧ (canon s r).1 9 < v.1.1 28 + lNeeds v.1 ip (v.1.1 29)) ↔ (x.1 30 ≠ 0 ∧ x.1 28 < mNeeds x ip (x.1 29)) := by
      rw [needs_eq hL h1 hI.1 hR.1 hi.1 hi.2, d2]
      have c9 : (canon s r).1 9 = s.1 9 := rfl
      rw [c9]
      constructor
      · rintro ⟨q1, q2⟩
        exact ⟨fun w => by have := d4 w; omega, by omega⟩
      · rintro ⟨q1, q2⟩
        exact ⟨d5 q1, by omega⟩
    unfold lWhile mWhile
    by_cases w : x.1 30 ≠ 0 ∧ x.1 28 < mNeeds x ip (x.1 29)
    · rw [if_pos w, if_pos (hc.mpr w)]
      have hb := hI.2.2.2.2.2
      have h30 := hI.2.2.2.1
      obtain ⟨-, -, b1, b2⟩ := RC_beg (r := r) hT0 h0 hg.2 ⟨hi.1, by omega⟩ hI.1 ⟨by omega, by omega⟩ hR
      exact RC_while hT0 h0 hL h1 hg hi f _ _ (CI_beg hT0 hg.2 ⟨hi.1, by omega⟩ hI.1 ⟨by omega, by omega⟩).1 b1 b2
    · rw [if_neg w, if_neg (fun q => w (hc.mp q))]
      exact ⟨hR, d1, d2, d3, d4, d5⟩
theorem RC_place (hT0 : TI s0) (h0 : told s0 = told s) (hL : LL s0) (h1 : R1 s v2 s0) (hi : 0 ≤ ip ∧ ip < s0.1 14) (hI : CI s0 ip g x) (hR : RC s s0 v2 ip i t v x) (hd : RD s v x) : RC s s0 v2 (ip + 1) i t (lPlace v ip) (mPlace x ip) ∧ RD s (lPlace v ip) (mPlace x ip) := by
  obtain ⟨r1, r2, r3, r4, r5, r6, r7⟩ := hR
  obtain ⟨d1, d2, d3, d4, d5⟩ := hd
  have ht := takes_eq h1 hI.1 r1 hi.1 hi.2 (b := v.1.1 29)
  have htb := mTakes_bd (LL_of hL hI.1) (b := x.1 29) hi.1 (by rw [hI.1.2.2.1]; exact hi.2)
  have v16 : ∀ u, (lPlace v ip).1.2 16 u = v.1.2 16 u := fun u => by unfold lPlace lA lF; simp [mA, mF]
  have x16 : ∀ u, (mPlace x ip).2 16 u = x.2 16 u := fun u => by unfold mPlace; simp [mA, mF]
  have v17 : ∀ u, (lPlace v ip).1.2 17 u = if u = ip then v.1.1 22 - 1 else v.1.2 17 u := fun u => by unfold lPlace lA lF; simp [mA, mF]
  have x17 : ∀ u, (mPlace x ip).2 17 u = if u = ip then x.1 22 - 1 else x.2 17 u := fun u => by unfold mPlace; simp [mA, mF]
  refine ⟨⟨((r1.F (by omega)).F (by omega)).A (Or.inr rfl), r2, r3, fun u => ?_, fun u b0 b1 hm => ?_, r6, fun j b0 b1 => ?_⟩, ?_, rfl, ?_, fun w => absurd w (by show ¬ (1 : Int) = 0; decide), fun _ => ?_⟩
  · rw [v16, x16]
    exact r4 u
  · rw [v16]
    exact r5 u b0 b1 hm
  · rw [v17, x17]
    by_cases hj : j = ip
    · rw [if_pos hj, if_pos hj, r2]
    · rw [if_neg hj, if_neg hj]
      exact r7 j b0 (by omega)
  · show v.1.1 28 + mTakes v.1 ip (v.1.1 29) = s.1 9 - (x.1 28 - mTakes x ip (x.1 29))
    rw [ht, d2]
    omega
  · show 0 ≤ v.1.1 28 + mTakes v.1 ip (v.1.1 29)
    rw [ht, d2]
    omega
  · show 0 < v.1.1 28 + mTakes v.1 ip (v.1.1 29)
    rw [ht, d2]
    omega
theorem met_succ {T u : Int} : met s s0 i (T + 1) u ↔ met s s0 i T u ∨ (u = T ∧ (0 ≤ T ∧ T < s.1 0) ∧ s.2 1 T = 4 ∧ 0 ≤ s0.2 15 T ∧ s0.2 15 T = i) := by
  unfold met
  constructor
  · rintro ⟨q0, q1, q2, q3⟩
    by_cases hu : u = T
    · subst hu
      rcases q3 with q3 | q3
      · exact Or.inl ⟨q0, q1, q2, Or.inl q3⟩
      · exact Or.inr ⟨rfl, q0, q1, q2, q3.1⟩
    · exact Or.inl ⟨q0, q1, q2, by omega⟩
  · rintro (⟨q0, q1, q2, q3⟩ | ⟨rfl, q0, q1, q2, q3⟩)
    · exact ⟨q0, q1, q2, by omega⟩
    · exact ⟨q0, q1, q2, by omega⟩
theorem met_end {u : Int} : met s s0 i (s.1 0) u ↔ met s s0 (i + 1) 0 u := by
  unfold met
  constructor
  · rintro ⟨q0, q1, q2, q3⟩
    exact ⟨q0, q1, q2, by omega⟩
  · rintro ⟨q0, q1, q2, q3⟩
    exact ⟨q0, q1, q2, by omega⟩
theorem RC_met {i' t' : Int} (h : ∀ u, met s s0 i t u ↔ met s s0 i' t' u) (hR : RC s s0 v2 ip i t v x) : RC s s0 v2 ip i' t' v x := by
  obtain ⟨r1, r2, r3, r4, r5, r6, r7⟩ := hR
  refine ⟨r1, r2, r3, fun u => ?_, fun u a b hm => r5 u a b (fun q => hm ((h u).mp q)), fun u hu => (h u).mp (r6 u hu), r7⟩
  rw [← h u]
  exact r4 u
theorem RC_fig (hT : TI s) (h0 : told s0 = told s) {T : Int} (hT1 : 0 ≤ T ∧ T < s.1 0) (hI : CI s0 ip g x) (h30 : x.1 30 = 1) (hR : RC s s0 v2 ip i T v x) (hd : RD s v x) (hi : 0 ≤ i) : RC s s0 v2 ip i (T + 1) (if s.2 1 T = 4 ∧ s0.2 15 T = i then lFig (canon s r) v T else v) (mFig i x T) ∧ RD s (if s.2 1 T = 4 ∧ s0.2 15 T = i then lFig (canon s r) v T else v) (mFig i x T) := by
  have e1 : x.2 1 = s.2 1 := (told_a hI.1.2.1 1 (by omega)).trans (told_a h0 1 (by omega))
  have e2 : x.2 2 = s.2 2 := (told_a hI.1.2.1 2 (by omega)).trans (told_a h0 2 (by omega))
  have e15 : x.2 15 = s0.2 15 := hI.1.2.2.2.1 15 (by omega)
  have hj := hI.1.2.2.2.2.1
  have h64 := hT.1
  unfold mFig
  rw [e1, e15, e2]
  by_cases hc : s.2 1 T = 4 ∧ s0.2 15 T = i
  · rw [if_pos hc, if_pos hc]
    obtain ⟨r1, r2, r3, r4, r5, r6, r7⟩ := hR
    obtain ⟨d1, d2, d3, d4, d5⟩ := hd
    have hk := hT.tok hT1.1 hT1.2
    have hnum := hk.2.2.2.1 (Or.inr (Or.inr (Or.inl hc.1)))
    have hmT : met s s0 i (T + 1) T := met_succ.mpr (Or.inr ⟨rfl, hT1, hc.1, by omega, hc.2⟩)
    have hnT : ¬ met s s0 i T T := by
      unfold met
      rintro ⟨-, -, q2, q3⟩
      omega
    have hms : ∀ u, u ≠ T → (met s s0 i (T + 1) u ↔ met s s0 i T u) := fun u hu => met_succ.trans ⟨fun q => q.elim id (fun z => absurd z.1 hu), Or.inl⟩
    have hcc : (v.2 4 = [] ∧ v.1.1 28 + (canon s r).2 2 T ≤ (canon s r).1 9) ↔ (x.1 26 = x.1 27 ∧ s.2 2 T ≤ x.1 28) := by
      have c2 : (canon s r).2 2 T = s.2 2 T := rfl
      have c9 : (canon s r).1 9 = s.1 9 := rfl
      rw [r3, wts_nil, c2, c9]
      omega
    unfold lFig
    by_cases w : x.1 26 = x.1 27 ∧ s.2 2 T ≤ x.1 28
    · rw [if_pos w, if_pos (hcc.mpr w)]
      have c2 : (canon s r).2 2 T = s.2 2 T := rfl
      have hnil : v.2 4 = [] := (hcc.mpr w).1
      refine ⟨⟨(r1.F (by omega)).A (Or.inl rfl), r2, r3, fun u => ?_, fun u b0 b1 hm => ?_, fun u hu => ?_, r7⟩, ?_, d2, ?_, fun q => absurd q (by show ¬ (1 : Int) = 0; decide), fun _ => ?_⟩
      · rw [lTops_16, mTops_16]
        by_cases hu : u = T
        · rw [if_pos hu, if_pos hu, r2]
          exact Or.inl rfl
        · rw [if_neg hu, if_neg hu, hms u hu]
          exact r4 u
      · have hu : u ≠ T := fun q => hm (by rw [q]; exact hmT)
        rw [lTops_16, if_neg hu]
        exact r5 u b0 b1 (fun q => hm ((hms u hu).mpr q))
      · have hu : u ∈ v.2 4 := hu
        rw [hnil] at hu
        cases hu
      · show v.1.1 28 + (canon s r).2 2 T = s.1 9 - (x.1 28 - x.2 2 T)
        rw [c2, e2]
        omega
      · show 0 ≤ v.1.1 28 + (canon s r).2 2 T
        rw [c2]
        omega
      · show 0 < v.1.1 28 + (canon s r).2 2 T
        rw [c2]
        omega
    · rw [if_neg w, if_neg (fun q => w (hcc.mp q))]
      have ew : wts (mF (mA x 25 (x.1 27) T) 27 (x.1 27 + 1)) = wts x ++ [T] := by
        have f26 : (mF (mA x 25 (x.1 27) T) 27 (x.1 27 + 1)).1 26 = x.1 26 := rfl
        have f27 : (mF (mA x 25 (x.1 27) T) 27 (x.1 27 + 1)).1 27 = x.1 27 + 1 := rfl
        have f25 : ∀ z, (mF (mA x 25 (x.1 27) T) 27 (x.1 27 + 1)).2 25 z = if z = x.1 27 then T else x.2 25 z := fun z => by simp [mF, mA]
        unfold wts
        rw [f26, f27, show (x.1 27 + 1 - x.1 26).toNat = (x.1 27 - x.1 26).toNat + 1 by omega, List.range_succ, List.map_append]
        congr 1
        · refine List.map_congr_left fun j hj9 => ?_
          have := List.mem_range.mp hj9
          rw [f25, if_neg (by omega)]
        · show [(mF (mA x 25 (x.1 27) T) 27 (x.1 27 + 1)).2 25 (x.1 26 + (((x.1 27 - x.1 26).toNat : Nat) : Int))] = [T]
          rw [f25, if_pos (by omega)]
      have ev4 : (lAdd v 4 T).2 4 = v.2 4 ++ [T] := rfl
      have f16 : ∀ u, (mF (mA x 25 (x.1 27) T) 27 (x.1 27 + 1)).2 16 u = x.2 16 u := fun u => by simp [mF, mA]
      have f17 : ∀ u, (mF (mA x 25 (x.1 27) T) 27 (x.1 27 + 1)).2 17 u = x.2 17 u := fun u => by simp [mF, mA]
      refine ⟨⟨r1.D, r2, by rw [ev4, ew, r3], fun u => ?_, fun u b0 b1 hm => ?_, fun u hu => ?_, fun j b0 b1 => ?_⟩, d1, d2, d3, d4, d5⟩
      · rw [f16, ev4]
        by_cases hu : u = T
        · subst hu
          exact Or.inr (Or.inl ⟨r5 u hT1.1 (by omega) hnT, Or.inr (List.mem_append_right _ (List.mem_singleton.mpr rfl))⟩)
        · rw [hms u hu]
          rcases r4 u with q | ⟨q, q2⟩ | q
          · exact Or.inl q
          · exact Or.inr (Or.inl ⟨q, q2.elim Or.inl (fun z => Or.inr (List.mem_append_left _ z))⟩)
          · exact Or.inr (Or.inr q)
      · have hu : u ≠ T := fun q => hm (by rw [q]; exact hmT)
        exact r5 u b0 b1 (fun q => hm ((hms u hu).mpr q))
      · rw [ev4] at hu
        rcases List.mem_append.mp hu with q | q
        · exact met_succ.mpr (Or.inl (r6 u q))
        · rw [List.mem_singleton.mp q]
          exact hmT
      · rw [f17]
        exact r7 j b0 b1
  · rw [if_neg hc, if_neg hc]
    refine ⟨RC_met (fun u => ⟨fun q => met_succ.mpr (Or.inl q), fun q => ?_⟩) hR, hd⟩
    rcases met_succ.mp q with q | q
    · exact q
    · exact absurd ⟨q.2.2.1, q.2.2.2.2⟩ hc
theorem RC_figs (hT : TI s) (hT0 : TI s0) (h0 : told s0 = told s) {n : Nat} (h : CI s0 ((n : Int) + 1) (mG s0 n 0) x) (h30 : x.1 30 = 1) (hR : RC s s0 v2 ((n : Int) + 1) n 0 v x) (hd : RD s v x) : ∀ T : Nat, (T : Int) ≤ s.1 0 → RC s s0 v2 ((n : Int) + 1) n T ((fFg (s.2 1) (s0.2 15) n T).foldl (lFig (canon s r)) v) (iter (mFig n) T x) ∧ RD s ((fFg (s.2 1) (s0.2 15) n T).foldl (lFig (canon s r)) v) (iter (mFig n) T x)
  | 0, _ => ⟨hR, hd⟩
  | T + 1, hT1 => by
    obtain ⟨a, b⟩ := RC_figs hT hT0 h0 h h30 hR hd T (by omega)
    have e0 : s0.1 0 = s.1 0 := told_f h0 0 (by simp)
    obtain ⟨c1, c2⟩ := CI_figs hT0 h h30 T (by omega)
    have h9 := RC_fig (r := r) hT h0 (T := (T : Int)) ⟨by omega, by omega⟩ c1 c2 a b (by omega)
    have e : (fFg (s.2 1) (s0.2 15) n (T + 1)).foldl (lFig (canon s r)) v = if s.2 1 T = 4 ∧ s0.2 15 T = n then lFig (canon s r) ((fFg (s.2 1) (s0.2 15) n T).foldl (lFig (canon s r)) v) T else (fFg (s.2 1) (s0.2 15) n T).foldl (lFig (canon s r)) v := by
      rw [fFg_succ (g := s0.2 15) (fun _ _ _ => rfl)]
      split
      · rw [List.foldl_append]
        rfl
      · rfl
    rw [e]
    exact h9
theorem RC_line (hT : TI s) (hT0 : TI s0) (h0 : told s0 = told s) (hL : LL s0) (h1 : R1 s v2 s0) {n : Nat} (hn : (n : Int) < s0.1 14) (hI : CI s0 n (mG s0 n 0) x) (hR : RC s s0 v2 n n 0 v x) (hd : RD s v x) : RC s s0 v2 ((n : Int) + 1) ((n : Int) + 1) 0 ((v.2 (7 + 3 * n)).foldl (lFig (canon s r)) (lPlace (lWhile (canon s r) n 130 v) n)) (mLine x n) ∧ RD s ((v.2 (7 + 3 * n)).foldl (lFig (canon s r)) (lPlace (lWhile (canon s r) n 130 v) n)) (mLine x n) := by
  have h64 := hT0.1
  have hl := hL.1
  have hgb := mG_bd (s0 := s0) h64.1 (i := (n : Int)) (t := 0)
  have hj := hI.1.2.2.2.2.1
  obtain ⟨w1, w2, w3⟩ := mWhile_ok hT0 hL ⟨hgb.1, by omega⟩ ⟨by omega, by omega⟩ 130 x hI (Or.inr (by omega))
  obtain ⟨a1, a2⟩ := RC_while (r := r) hT0 h0 hL h1 ⟨hgb.1, by omega⟩ ⟨by omega, hn⟩ 130 v x hI hR hd
  obtain ⟨b1, b2⟩ := RC_place hT0 h0 hL h1 ⟨by omega, hn⟩ w1 a1 a2
  obtain ⟨p1, p2⟩ := CI_place hT0 hL ⟨by omega, hn⟩ w1 w3
  have e0 : s0.1 0 = s.1 0 := told_f h0 0 (by simp)
  have ex0 : x.1 0 = s.1 0 := (told_f hI.1.2.1 0 (by simp)).trans e0
  obtain ⟨c1, c2⟩ := RC_figs (r := r) hT hT0 h0 p1 p2 b1 b2 (s.1 0).toNat (by omega)
  have ev : v.2 (7 + 3 * n) = fFg (s.2 1) (s0.2 15) n (s.1 0).toNat := by
    rw [hR.1.2.2 _ (by omega)]
    exact h1.2.2.2.2.1 n hn
  rw [ev]
  unfold mLine
  rw [ex0]
  rw [Int.toNat_of_nonneg (by omega)] at c1
  exact ⟨RC_met (fun u => met_end) c1, c2⟩
end RCT
