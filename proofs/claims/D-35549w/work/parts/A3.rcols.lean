set_option maxRecDepth 100000
/-! the component's columns are the model's: steps -/
def lTops (k : mS) (v : lV) (t : Int) : lV := lA (lF v 28 (v.1.1 28 + k.2 2 t)) 16 t (v.1.1 22 - 1)
def lTopsAll (k : mS) : Nat → lV → lV
  | 0, v => v
  | f + 1, v => if v.2 4 ≠ [] ∧ (v.1.1 28 = 0 ∨ v.1.1 28 + k.2 2 ((v.2 4).headD 0) ≤ k.1 9) then lTopsAll k f (lTops k (lSet v 4 (v.2 4).tail) ((v.2 4).headD 0)) else v
def lBeg0 (v : lV) : lV := lF (lF (lF v 22 (v.1.1 22 + 1)) 28 0) 29 0
def lBeg (k : mS) (v : lV) : lV := lTopsAll k (v.2 4).length (lBeg0 v)
def lWhile (k : mS) (i : Int) : Nat → lV → lV
  | 0, v => v
  | f + 1, v => if 0 < v.1.1 28 ∧ k.1 9 < v.1.1 28 + lNeeds v.1 i (v.1.1 29) then lWhile k i f (lBeg k v) else v
def lPlace (v : lV) (i : Int) : lV := lA (lF (lF v 28 (v.1.1 28 + mTakes v.1 i (v.1.1 29))) 29 1) 17 i (v.1.1 22 - 1)
def lFig (k : mS) (v : lV) (t : Int) : lV := if v.2 4 = [] ∧ v.1.1 28 + k.2 2 t ≤ k.1 9 then lTops k v t else lAdd v 4 t
def lLine (k : mS) (v : lV) (i : Int) : lV := (v.2 (7 + 3 * i.toNat)).foldl (lFig k) (lPlace (lWhile k i 130 (if v.1.1 22 = 0 then lBeg k v else v)) i)
def lEnd (k : mS) : Nat → lV → lV
  | 0, v => v
  | f + 1, v => if v.2 4 ≠ [] then lEnd k f (lBeg k v) else v
def lFill (k : mS) (v : lV) : lV := lEnd k 130 (iter (lLine k) (v.1.1 14).toNat v)
/-- what the model lets wait -/
def wts (x : mS) : List Int := (List.range (x.1 27 - x.1 26).toNat).map fun (j : Nat) => x.2 25 (x.1 26 + (j : Int))
def met (s s0 : mS) (i t u : Int) : Prop := (0 ≤ u ∧ u < s.1 0) ∧ s.2 1 u = 4 ∧ 0 ≤ s0.2 15 u ∧ (s0.2 15 u < i ∨ (s0.2 15 u = i ∧ u < t))
def RB (v2 v : lV) : Prop := v.1.1 14 = v2.1.1 14 ∧ (∀ k, k ≠ 16 → k ≠ 17 → v.1.2 k = v2.1.2 k) ∧ ∀ j, j ≠ 4 → v.2 j = v2.2 j
def RC (s s0 : mS) (v2 : lV) (ip i t : Int) (v : lV) (x : mS) : Prop :=
  RB v2 v ∧ v.1.1 22 = x.1 22 ∧ v.2 4 = wts x ∧ (∀ u, v.1.2 16 u = x.2 16 u ∨ (v.1.2 16 u = -1 ∧ (¬ met s s0 i t u ∨ u ∈ v.2 4)) ∨ u < 0 ∨ 120 ≤ u) ∧ (∀ u, 0 ≤ u → u < 120 → ¬ met s s0 i t u → v.1.2 16 u = -1) ∧ (∀ u, u ∈ v.2 4 → met s s0 i t u) ∧ ∀ j, 0 ≤ j → j < ip → v.1.2 17 j = x.2 17 j
def RD (s : mS) (v : lV) (x : mS) : Prop := v.1.1 28 = s.1 9 - x.1 28 ∧ v.1.1 29 = x.1 29 ∧ 0 ≤ v.1.1 28 ∧ (x.1 30 = 0 → v.1.1 28 = 0) ∧ (x.1 30 ≠ 0 → 0 < v.1.1 28)
section RCS
variable {s s0 : mS} {v2 v : lV} {x : mS} {ip i t g : Int} {r : Int}
theorem wts_nil : wts x = [] ↔ x.1 27 ≤ x.1 26 := by
  unfold wts
  rw [List.map_eq_nil_iff, List.range_eq_nil]
  omega
theorem wts_cons (h : x.1 26 < x.1 27) : wts x = x.2 25 (x.1 26) :: wts (mNext x) := by
  unfold wts
  have e27 : (mNext x).1 27 = x.1 27 := rfl
  have e26 : (mNext x).1 26 = x.1 26 + 1 := rfl
  have e25 : (mNext x).2 25 = x.2 25 := rfl
  rw [e27, e26, e25]
  obtain ⟨n, hn⟩ : ∃ n, (x.1 27 - x.1 26).toNat = n + 1 := ⟨(x.1 27 - x.1 26).toNat - 1, by omega⟩
  rw [hn, show (x.1 27 - (x.1 26 + 1)).toNat = n by omega, List.range_succ_eq_map, List.map_cons, List.map_map]
  congr 1
  · show x.2 25 (x.1 26 + ((0 : Nat) : Int)) = _
    rw [show x.1 26 + ((0 : Nat) : Int) = x.1 26 by omega]
  · refine List.map_congr_left fun j _ => ?_
    show x.2 25 (x.1 26 + ((j + 1 : Nat) : Int)) = x.2 25 (x.1 26 + 1 + (j : Int))
    rw [show x.1 26 + ((j + 1 : Nat) : Int) = x.1 26 + 1 + (j : Int) by omega]
theorem wts_len : (wts x).length = (x.1 27 - x.1 26).toNat := by unfold wts; simp
theorem RB.rf : RB v2 v2 := ⟨rfl, fun _ _ _ => rfl, fun _ _ => rfl⟩
theorem RB.F (h : RB v2 v) {k : Nat} {z : Int} (hk : k ≠ 14) : RB v2 (lF v k z) := ⟨by rw [← h.1]; exact if_neg (Ne.symm hk), h.2.1, h.2.2⟩
theorem RB.A (h : RB v2 v) {k : Nat} {z w : Int} (hk : k = 16 ∨ k = 17) : RB v2 (lA v k z w) := ⟨h.1, fun j h1 h2 => by
  rw [← h.2.1 j h1 h2]
  funext u
  show (if j = k ∧ u = z then w else v.1.2 j u) = _
  rw [if_neg (by omega)], h.2.2⟩
theorem RB.S (h : RB v2 v) {T : List Int} : RB v2 (lSet v 4 T) := ⟨h.1, h.2.1, fun j hj => by
  rw [← h.2.2 j hj]
  exact if_neg hj⟩
theorem RB.D (h : RB v2 v) {u : Int} : RB v2 (lAdd v 4 u) := ⟨h.1, h.2.1, fun j hj => by
  rw [← h.2.2 j hj]
  exact if_neg hj⟩
theorem lTops_16 {k : mS} {u : Int} : (lTops k v t).1.2 16 u = if u = t then v.1.1 22 - 1 else v.1.2 16 u := by
  unfold lTops lA lF
  simp [mA, mF]
theorem mTops_16 {u : Int} : (mTops x t).2 16 u = if u = t then x.1 22 - 1 else x.2 16 u := by
  unfold mTops
  simp [mA, mF]
/-- the first that waits is topped -/
theorem RC_next (hT0 : TI s0) (h0 : told s0 = told s) (hI : CI s0 ip g x) (hR : RC s s0 v2 ip i t v x) (hd : RD s v x) (hlt : x.1 26 < x.1 27) : RC s s0 v2 ip i t (lTops (canon s r) (lSet v 4 (v.2 4).tail) ((v.2 4).headD 0)) (mNext x) ∧ RD s (lTops (canon s r) (lSet v 4 (v.2 4).tail) ((v.2 4).headD 0)) (mNext x) ∧ (v.2 4).headD 0 = x.2 25 (x.1 26) := by
  obtain ⟨r1, r2, r3, r4, r5, r6, r7⟩ := hR
  obtain ⟨d1, d2, d3, d4, d5⟩ := hd
  have hn := hI.1.num hT0 (j := x.1 26) (by have := hI.1.2.2.2.2.1; omega) hlt
  have e2 : x.2 2 = s.2 2 := (told_a hI.1.2.1 2 (by omega)).trans (told_a h0 2 (by omega))
  rw [wts_cons hlt] at r3
  have eh : (v.2 4).headD 0 = x.2 25 (x.1 26) := by rw [r3]; rfl
  have et : (v.2 4).tail = wts (mNext x) := by rw [r3]; rfl
  rw [eh, et]
  have hmt : met s s0 i t (x.2 25 (x.1 26)) := r6 _ (by rw [r3]; exact List.mem_cons_self)
  have c2 : (canon s r).2 2 = s.2 2 := rfl
  have e16 : ∀ u, (mNext x).2 16 u = if u = x.2 25 (x.1 26) then x.1 22 - 1 else x.2 16 u := fun u => by
    show (mTops x (x.2 25 (x.1 26))).2 16 u = _
    rw [mTops_16]
  refine ⟨⟨((r1.S (T := wts (mNext x))).F (by omega)).A (Or.inl rfl), r2, rfl, fun u => ?_, fun u b0 b1 hm => ?_, fun u hu => r6 u (by rw [r3]; exact List.mem_cons_of_mem _ hu), r7⟩, ⟨?_, d2, ?_, fun w => absurd w (by show ¬ (1 : Int) = 0; decide), fun _ => ?_⟩, rfl⟩
  · rw [lTops_16, e16]
    by_cases hu : u = x.2 25 (x.1 26)
    · rw [if_pos hu, if_pos hu]
      exact Or.inl (by show v.1.1 22 - 1 = _; rw [r2])
    · rw [if_neg hu, if_neg hu]
      rcases r4 u with q | ⟨q, q2⟩ | q
      · exact Or.inl q
      · refine Or.inr (Or.inl ⟨q, ?_⟩)
        rcases q2 with q2 | q2
        · exact Or.inl q2
        · rw [r3] at q2
          rcases List.mem_cons.mp q2 with q2 | q2
          · exact absurd q2 hu
          · exact Or.inr q2
      · exact Or.inr (Or.inr q)
  · rw [lTops_16, if_neg (fun q => hm (by rw [q]; exact hmt))]
    exact r5 u b0 b1 hm
  · show v.1.1 28 + (canon s r).2 2 (x.2 25 (x.1 26)) = s.1 9 - (x.1 28 - x.2 2 (x.2 25 (x.1 26)))
    rw [c2, e2]
    omega
  · show 0 ≤ v.1.1 28 + (canon s r).2 2 (x.2 25 (x.1 26))
    rw [c2, ← e2]
    omega
  · show 0 < v.1.1 28 + (canon s r).2 2 (x.2 25 (x.1 26))
    rw [c2, ← e2]
    omega
theorem RC_cond (h0 : told s0 = told s) (hI : CI s0 ip g x) (hR : RC s s0 v2 ip i t v x) (hd : RD s v x) : (v.2 4 ≠ [] ∧ (v.1.1 28 = 0 ∨ v.1.1 28 + (canon s r).2 2 ((v.2 4).headD 0) ≤ (canon s r).1 9)) ↔ (x.1 26 < x.1 27 ∧ (x.2 2 (x.2 25 (x.1 26)) ≤ x.1 28 ∨ x.1 30 = 0)) := by
  obtain ⟨r1, r2, r3, r4, r5, r6, r7⟩ := hR
  obtain ⟨d1, d2, d3, d4, d5⟩ := hd
  have e2 : x.2 2 = s.2 2 := (told_a hI.1.2.1 2 (by omega)).trans (told_a h0 2 (by omega))
  have c2 : (canon s r).2 2 = s.2 2 := rfl
  have c9 : (canon s r).1 9 = s.1 9 := rfl
  rw [r3, ne_eq, wts_nil, c2, c9]
  by_cases hlt : x.1 26 < x.1 27
  · rw [wts_cons hlt]
    show (¬ x.1 27 ≤ x.1 26 ∧ (v.1.1 28 = 0 ∨ v.1.1 28 + s.2 2 (x.2 25 (x.1 26)) ≤ s.1 9)) ↔ _
    rw [e2]
    constructor
    · rintro ⟨q1, q2⟩
      refine ⟨hlt, ?_⟩
      rcases q2 with q2 | q2
      · by_cases q3 : x.1 30 = 0
        · exact Or.inr q3
        · have := d5 q3; omega
      · exact Or.inl (by omega)
    · rintro ⟨q1, q2⟩
      refine ⟨by omega, ?_⟩
      rcases q2 with q2 | q2
      · exact Or.inr (by omega)
      · exact Or.inl (d4 q2)
  · exact ⟨fun q => absurd q.1 (by omega), fun q => absurd q.1 hlt⟩
theorem RC_all (hT0 : TI s0) (h0 : told s0 = told s) (hg : g ≤ 64) (hi : 0 ≤ ip ∧ ip ≤ 64) : ∀ (f : Nat) (v : lV) (x : mS), CI s0 ip g x → RC s s0 v2 ip i t v x → RD s v x → RC s s0 v2 ip i t (lTopsAll (canon s r) f v) (mTopsAll f x) ∧ RD s (lTopsAll (canon s r) f v) (mTopsAll f x)
  | 0, v, x, _, hR, hd => ⟨hR, hd⟩
  | f + 1, v, x, hI, hR, hd => by
    unfold lTopsAll mTopsAll
    have hc := RC_cond (r := r) h0 hI hR hd
    by_cases w : x.1 26 < x.1 27 ∧ (x.2 2 (x.2 25 (x.1 26)) ≤ x.1 28 ∨ x.1 30 = 0)
    · rw [if_pos w, if_pos (hc.mpr w)]
      obtain ⟨n1, n2, -⟩ := RC_next (r := r) hT0 h0 hI hR hd w.1
      exact RC_all hT0 h0 hg hi f _ _ (CI_next hT0 hg hi hI w.1 w.2).1 n1 n2
    · rw [if_neg w, if_neg (fun q => w (hc.mp q))]
      exact ⟨hR, hd⟩
theorem RC_beg (hT0 : TI s0) (h0 : told s0 = told s) (hg : g ≤ 64) (hi : 0 ≤ ip ∧ ip ≤ 64) (hJ : CJ s0 ip g x) (h22 : 0 ≤ x.1 22 ∧ x.1 22 ≤ ip + (g - (x.1 27 - x.1 26))) (hR : RC s s0 v2 ip i t v x) : RC s s0 v2 ip i t (lBeg0 v) (mBeg0 x) ∧ RD s (lBeg0 v) (mBeg0 x) ∧ RC s s0 v2 ip i t (lBeg (canon s r) v) (mBeg x) ∧ RD s (lBeg (canon s r) v) (mBeg x) := by
  obtain ⟨r1, r2, r3, r4, r5, r6, r7⟩ := hR
  have e9 : x.1 9 = s.1 9 := (told_f hJ.2.1 9 (by simp)).trans (told_f h0 9 (by simp))
  have hR0 : RC s s0 v2 ip i t (lBeg0 v) (mBeg0 x) := ⟨((r1.F (by omega)).F (by omega)).F (by omega), by show v.1.1 22 + 1 = x.1 22 + 1; rw [r2], r3, r4, r5, r6, r7⟩
  have hd0 : RD s (lBeg0 v) (mBeg0 x) := ⟨by show (0 : Int) = s.1 9 - x.1 9; omega, rfl, by show (0 : Int) ≤ 0; omega, fun _ => rfl, fun w => absurd rfl w⟩
  have hl : (v.2 4).length = (x.1 27 - x.1 26).toNat := by rw [r3, wts_len]
  have hA := RC_all (r := r) hT0 h0 hg hi (x.1 27 - x.1 26).toNat _ _ (CI_beg0 hT0 hg hi hJ h22) hR0 hd0
  unfold lBeg mBeg
  rw [hl]
  exact ⟨hR0, hd0, hA.1, hA.2⟩
end RCS
