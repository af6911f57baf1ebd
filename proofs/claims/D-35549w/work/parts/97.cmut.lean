set_option maxRecDepth 100000
/-! the component: lists of a layout under way -/
theorem getDA {α : Type} {l : List α} {z d : α} {i : Nat} : (l ++ [z]).getD i d = if i < l.length then l.getD i d else if i = l.length then z else d := by
  simp only [List.getD_eq_getElem?_getD, List.getElem?_append]
  by_cases h1 : i < l.length
  · simp [h1]
  · by_cases h2 : i = l.length
    · subst h2
      simp
    · rw [if_neg h1, if_neg h1, if_neg h2, List.getElem?_eq_none (by simp; omega)]
      rfl
theorem mem_getD {l : List Nat} {y : Nat} (h : y ∈ l) : ∃ i, i < l.length ∧ l.getD i 0 = y := by
  obtain ⟨i, hi, e⟩ := List.mem_iff_getElem.mp h
  exact ⟨i, hi, by rw [List.getD_eq_getElem?_getD, List.getElem?_eq_getElem hi]; exact e⟩
theorem lcell_bx {A : Nat → Nat} {x : Nat} {r : Int} {c : mS} {q : Nat → Int32} {p : Nat → List Nat} {k : Nat} {y : Int32} : lcell A x r c q p k ≠ c_bx y := by
  unfold lcell
  intro w
  split at w
  · cases w
  · split at w
    · cases w
    · split at w
      · cases w
      · split at w
        · cases w
        · split at w <;> cases w
theorem lcell_list {A : Nat → Nat} {x : Nat} {r : Int} {c : mS} {q : Nat → Int32} {p : Nat → List Nat} {k : Nat} (hk : lList k) : lcell A x r c q p k = c_ls (q k) (p k) := by
  unfold lcell
  unfold lList at hk
  rw [if_neg (by omega), if_neg (by omega), if_neg (by omega), if_neg (by omega), if_neg (by omega)]
theorem lcell_other {A : Nat → Nat} {x : Nat} {r : Int} {c : mS} {q q' : Nat → Int32} {p p' : Nat → List Nat} {j k : Nat} (hk : lList k) (hj : j ≠ k) (hq : ∀ i, i ≠ k → q' i = q i) (hp : ∀ i, i ≠ k → p' i = p i) : lcell A x r c q' p' j = lcell A x r c q p j := by
  unfold lcell
  unfold lList at hk
  rw [hq j hj, hp j hj, hq 1 (by omega)]
section LHM
variable {D : qD} {x : Nat} {r : Int} {g0 : qH} {W : mW} {v : lV} {h : qH} {X : String → qH → Prop}
theorem LH_add (hD : q_DK D) (hH : LH x r g0 W v h) {k : Nat} (hk : lList k) (hk2 : (k : Int) < 3 * v.1.1 14 + 5) {t : Int} (ht : bd t) {p0 : Int32} (hp0 : p0 = zI t) (hl : (v.2 k).length ≤ 64) (hcr : 26 ≤ h.1) {K : Int32 → qH → Prop} (k9 : ∀ h', LH x r g0 W (lAdd v k t) h' → h.1 ≤ h'.1 + 26 → K 1 h') : c_R D m_J18_valueOf [.int p0] h X (fun r3 h2 => (recv D h2 (some (W.1 k)) RJ2 ∧ c_I D m_J2_add_2 [va_rf (some (W.1 k)), va_rf r3] h2 X K)) := by
  obtain ⟨h0, q, p, g, h1, h2, h3, h4, h5⟩ := hH
  subst h1
  subst hp0
  have hcr : 26 ≤ g.1 := hcr
  refine j_valueOf hD ht.1 ht.2 (by show 1 ≤ g.1; omega) fun y hy => ⟨_, rfl, ?_⟩
  have hyW : W.2 y = none ∧ (g.2 y = none ∨ g.2 y = some (c_bx (zI t))) := by
    cases hx : W.2 y with
    | none => rw [ov_bg hx] at hy; exact ⟨rfl, hy⟩
    | some j =>
      rw [ov_in hx] at hy
      rcases hy with hy | hy
      · cases hy
      · exact absurd (Option.some.inj hy) lcell_bx
  have e1 : (((ov W (lcell W.1 x r v.1 q p) g).1 - 1, (q_put (ov W (lcell W.1 x r v.1 q p) g) y (c_bx (zI t))).2) : qH) = ov W (lcell W.1 x r v.1 q p) (g.1 - 1, (q_put g y (c_bx (zI t))).2) := by
    rw [ov_pbg hyW.1]
    rfl
  rw [e1]
  have hg1 : q_le g (g.1 - 1, (q_put g y (c_bx (zI t))).2) := fun b e hb => by
    show (if b = y then some (c_bx (zI t)) else g.2 b) = some e
    by_cases hby : b = y
    · rw [if_pos hby]
      rcases hyW.2 with w | w
      · rw [hby, w] at hb; cases hb
      · rw [hby, w] at hb; exact hb
    · rw [if_neg hby]; exact hb
  have hgy : ((g.1 - 1, (q_put g y (c_bx (zI t))).2) : qH).2 y = some (c_bx (zI t)) := if_pos rfl
  have hgW : ∀ b j, W.2 b = some j → ((g.1 - 1, (q_put g y (c_bx (zI t))).2) : qH).2 b = none := fun b j hb => by
    show (if b = y then some (c_bx (zI t)) else g.2 b) = none
    rw [if_neg (fun w => by rw [w, hyW.1] at hb; cases hb)]
    exact h4 b j hb
  have hc1 : ((g.1 - 1, (q_put g y (c_bx (zI t))).2) : qH).1 = g.1 - 1 := rfl
  generalize ((g.1 - 1, (q_put g y (c_bx (zI t))).2) : qH) = g1 at *
  have hkR : lR (v.1.1 14) k := hk2
  obtain ⟨b1, b2⟩ := h5 k hk hk2
  have hc : (ov W (lcell W.1 x r v.1 q p) g1).2 (W.1 k) = some (c_ls (q k) (p k)) := by rw [ov_at h2 hkR, lcell_list hk]
  have hgk : g1.2 (W.1 k) = none := hgW _ k (h2.1 k hkR)
  have hbox : ∀ z ∈ p k, ∃ u, g1.2 z = some (c_bx u) := fun z hz => by
    obtain ⟨i, hi, rfl⟩ := mem_getD hz
    exact ⟨_, hg1 _ _ (b2 i (by omega))⟩
  have hy1 : (ov W (lcell W.1 x r v.1 q p) g1).2 y = some (c_bx (zI t)) := by rw [ov_bg hyW.1]; exact hgy
  refine ⟨rls hc, j_add hD hc (fun w => ?_) (fun w => ?_) hy1 rfl q1562 (fun z hz => ?_) (by omega) (by show 25 ≤ g1.1; omega) (fun c' c1 c2 => ⟨_, rfl, k9 _ ⟨h0, fun j => if j = k then q k + 1 else q j, fun j => if j = k then p k ++ [y] else p j, (c', g1.2), ?_, h2, q_le.tr h3 hg1, hgW, ?_⟩ ?_⟩)⟩
  · obtain ⟨u, hu⟩ := hbox _ w
    rw [hgk] at hu
    cases hu
  · rw [w, h2.1 k hkR] at hyW
    cases hyW.1
  · obtain ⟨u, hu⟩ := hbox z hz
    exact ⟨_, _, ov_le hgW _ _ hu, rfl, q1562⟩
  · have e2 : (((c', (q_put (ov W (lcell W.1 x r v.1 q p) g1) (W.1 k) (c_ls (q k + 1) (p k ++ [y]))).2) : qH)) = ov W (fun j => if j = k then c_ls (q k + 1) (p k ++ [y]) else lcell W.1 x r v.1 q p j) (c', g1.2) := by
      rw [ov_put h2 hkR]
      rfl
    rw [e2]
    refine ov_congr fun b j hb => ?_
    by_cases hj : j = k
    · subst hj
      rw [if_pos rfl, lcell_list hk, if_pos rfl, if_pos rfl]
    · rw [if_neg hj]
      exact (lcell_other hk hj (fun i hi => if_neg hi) (fun i hi => if_neg hi)).symm
  · intro j hj hj2
    by_cases hjk : j = k
    · subst hjk
      show (if j = j then p j ++ [y] else p j).length = (if j = j then v.2 j ++ [t] else v.2 j).length ∧ ∀ i, i < (if j = j then v.2 j ++ [t] else v.2 j).length → g1.2 ((if j = j then p j ++ [y] else p j).getD i 0) = some (c_bx (zI ((if j = j then v.2 j ++ [t] else v.2 j).getD i 0)))
      simp only [if_true]
      refine ⟨by rw [List.length_append, List.length_append, b1]; rfl, fun i hi => ?_⟩
      rw [List.length_append] at hi
      have hi : i < (v.2 j).length + 1 := hi
      rw [getDA, getDA, b1]
      by_cases hil : i < (v.2 j).length
      · rw [if_pos hil, if_pos hil]
        exact hg1 _ _ (b2 i hil)
      · rw [if_neg hil, if_neg hil, if_pos (by omega), if_pos (by omega)]
        exact hgy
    · obtain ⟨d1, d2⟩ := h5 j hj hj2
      show (if j = k then p k ++ [y] else p j).length = (if j = k then v.2 j ++ [t] else v.2 j).length ∧ ∀ i, i < (if j = k then v.2 j ++ [t] else v.2 j).length → g1.2 ((if j = k then p k ++ [y] else p j).getD i 0) = some (c_bx (zI ((if j = k then v.2 j ++ [t] else v.2 j).getD i 0)))
      simp only [if_neg hjk]
      exact ⟨d1, fun i hi => hg1 _ _ (d2 i hi)⟩
  · have c1 : g1.1 ≤ c' + 25 := c1
    show g.1 ≤ c' + 26
    omega
/-- the first that waits, taken -/
theorem LH_rem (hD : q_DK D) (hH : LH x r g0 W v h) {t : Int} {T : List Int} (hT : v.2 4 = t :: T) {K : Int32 → qH → Prop} (k9 : ∀ h', LH x r g0 W (lSet v 4 T) h' → h'.1 = h.1 → K (zI t) h') : recv D h (some (W.1 4)) RJ2 ∧ c_R D m_J2_remove [va_rf (some (W.1 4)), .int 0] h X (fun r3 h2 => (q_cast D h2 r3 "java/lang/Integer" ∧ (recv D h2 r3 RJ18 ∧ c_I D m_J18_intValue [va_rf r3] h2 X K))) := by
  obtain ⟨h0, q, p, g, h1, h2, h3, h4, h5⟩ := hH
  subst h1
  have hk : lList 4 := ⟨by omega, by omega⟩
  have hkR : lR (v.1.1 14) 4 := by show ((4 : Nat) : Int) < _; omega
  obtain ⟨b1, b2⟩ := h5 4 hk hkR
  rw [hT] at b1 b2
  obtain ⟨y, ys, hp⟩ : ∃ y ys, p 4 = y :: ys := by
    cases hpp : p 4 with
    | nil => rw [hpp] at b1; cases b1
    | cons y ys => exact ⟨y, ys, rfl⟩
  rw [hp] at b1 b2
  have b1 : ys.length = T.length := Nat.succ.inj b1
  have hc : (ov W (lcell W.1 x r v.1 q p) g).2 (W.1 4) = some (c_ls (q 4) (y :: ys)) := by rw [ov_at h2 hkR, lcell_list hk, hp]
  have hgk : g.2 (W.1 4) = none := h4 _ 4 (h2.1 4 hkR)
  have hbox : ∀ z ∈ y :: ys, ∃ u, g.2 z = some (c_bx u) := fun z hz => by
    obtain ⟨i, hi, rfl⟩ := mem_getD hz
    exact ⟨_, b2 i (by show i < T.length + 1; have : (y :: ys).length = ys.length + 1 := rfl; omega)⟩
  have hy0 : g.2 y = some (c_bx (zI t)) := b2 0 (Nat.succ_pos _)
  have hyk : y ≠ W.1 4 := fun w => by rw [w, hgk] at hy0; cases hy0
  have hyW : W.2 y = none := by
    cases hx : W.2 y with
    | none => rfl
    | some j => rw [h4 y j hx] at hy0; cases hy0
  have hbx : (q_put (ov W (lcell W.1 x r v.1 q p) g) (W.1 4) (c_ls (q 4 + 1) ((y :: ys).eraseIdx 0))).2 y = some (c_bx (zI t)) := (put_ne hyk).trans (ov_le h4 _ _ hy0)
  refine ⟨rls hc, (show MW D m_J2_remove [va_rf (some (W.1 4)), .int (nI 0)] _ _ X from j_remove hD hc (fun w => ?_) (fun z hz => ?_) (by show 0 < ys.length + 1; omega) ⟨_, rfl, Or.inr ⟨_, _, "java/lang/Integer", rfl, Or.inl hbx, rfl, Or.inl rfl⟩, rcv hbx rfl, j_intValue hbx ⟨_, rfl, k9 _ ⟨h0, fun j => if j = 4 then q 4 + 1 else q j, fun j => if j = 4 then ys else p j, g, ?_, h2, h3, h4, ?_⟩ rfl⟩⟩)⟩
  · obtain ⟨u, hu⟩ := hbox _ w
    rw [hgk] at hu
    cases hu
  · obtain ⟨u, hu⟩ := hbox z hz
    exact ⟨_, _, ov_le h4 _ _ hu, rfl, q1562⟩
  · rw [ov_put h2 hkR]
    refine ov_congr fun b j hb => ?_
    by_cases hj : j = 4
    · subst hj
      rw [if_pos rfl, lcell_list hk, if_pos rfl, if_pos rfl]
      rfl
    · rw [if_neg hj]
      exact (lcell_other hk hj (fun i hi => if_neg hi) (fun i hi => if_neg hi)).symm
  · intro j hj hj2
    by_cases hjk : j = 4
    · subst hjk
      show ys.length = T.length ∧ ∀ i, i < T.length → g.2 (ys.getD i 0) = some (c_bx (zI (T.getD i 0)))
      exact ⟨b1, fun i hi => b2 (i + 1) (Nat.succ_lt_succ hi)⟩
    · obtain ⟨d1, d2⟩ := h5 j hj hj2
      show (if j = 4 then ys else p j).length = (if j = 4 then T else v.2 j).length ∧ ∀ i, i < (if j = 4 then T else v.2 j).length → g.2 ((if j = 4 then ys else p j).getD i 0) = some (c_bx (zI ((if j = 4 then T else v.2 j).getD i 0)))
      simp only [if_neg hjk]
      exact ⟨d1, d2⟩
end LHM
