set_option maxRecDepth 100000
/-! the component's calls: lines that are new -/
def rbd (R : List mR3) : Prop := ∀ i, i < R.length → bd (R.getD i (0, 0, 0)).1 ∧ bd (R.getD i (0, 0, 0)).2.1 ∧ bd (R.getD i (0, 0, 0)).2.2
section CRP
variable {D : qD} {C : Nat → Nat} {xs : List Nat} {s : mS} {h : qH} {X : String → qH → Prop} {r : Int} {A : Nat → Nat} {v : lV}
theorem lRows_at {z : Int} {i : Nat} (hi : i < (lRows s r z).length) : (lRows s r z).getD i (0, 0, 0) = mRow s r (((lLay s r).2 (6 + 3 * z.toNat)).getD i 0) := by
  have hlen : (lRows s r z).length = ((lLay s r).2 (6 + 3 * z.toNat)).length := by unfold lRows; rw [List.length_map]
  unfold lRows
  rw [List.getD_eq_getElem?_getD, List.getElem?_map, List.getD_eq_getElem?_getD, List.getElem?_eq_getElem (by omega)]
  rfl
theorem getD_inL {l : List Int} {i : Nat} (hi : i < l.length) : l.getD i 0 ∈ l := by
  rw [List.getD_eq_getElem?_getD, List.getElem?_eq_getElem hi]
  exact List.getElem_mem hi
theorem lRows_rbd (hT : TI s) (hB : MB s) (hr : 0 ≤ r ∧ r < 4) {z : Int} (h0 : 0 ≤ z) (h1 : z < (mLay s r).1 14) : rbd (lRows s r z) := by
  intro i hi
  have hlen : (lRows s r z).length = ((lLay s r).2 (6 + 3 * z.toNat)).length := by unfold lRows; rw [List.length_map]
  rw [lRows_at hi]
  have hpr := prn_line hT hB hr (i := z.toNat) (by omega) (getD_inL (l := (lLay s r).2 (6 + 3 * z.toNat)) (i := i) (by omega))
  have hb := mRow_bd hT hr hpr.1 hpr.2.1
  exact ⟨⟨by omega, by omega⟩, ⟨by omega, by omega⟩, ⟨by omega, by omega⟩⟩
theorem list_ext3 {R R2 : List mR3} (hl : R.length = R2.length) (h : ∀ i, i < R.length → R.getD i (0, 0, 0) = R2.getD i (0, 0, 0)) : R = R2 := by
  apply List.ext_getElem hl
  intro i h1 h2
  have := h i h1
  rw [List.getD_eq_getElem?_getD, List.getElem?_eq_getElem h1, List.getD_eq_getElem?_getD, List.getElem?_eq_getElem h2] at this
  exact this
theorem x_isLike (hD : q_DK D) (hT : TI s) (hB : MB s) (hP : CP C xs s h) (hX : LX A (C 0) r (lLay s r) h) (hr : 0 ≤ r ∧ r < 4) {z : Int} (h0 : 0 ≤ z) (h1 : z < (mLay s r).1 14) {p : Int32} (hpz : p = zI z) {p1 : Nat} {R2 : List mR3} (hR2 : RW h p1 R2) (hb2 : rbd R2) (h64R : R2.length ≤ 64) (hcr : 64 ≤ h.1) {K : Int32 → qH → Prop} (k9 : ∀ h', q_le h h' → h.1 ≤ h'.1 + 64 → K (zI (if lRows s r z = R2 then 1 else 0)) h') : recv D h (some (A 0)) RX5 ∧ c_I D m_X5_isLike [va_rf (some (A 0)), .int p, va_rf (some p1)] h X K := by
  subst hpz
  have e14 := (RF_lay hT hB hr).1
  have hll := (lRows_len hT hB hr h0 h1).1
  have hlen : (lRows s r z).length = ((lLay s r).2 (6 + 3 * z.toNat)).length := by unfold lRows; rw [List.length_map]
  have hlz1 : z < (lLay s r).1.1 14 := by rw [e14]; exact h1
  have hrb := lRows_rbd hT hB hr h0 h1
  obtain ⟨k2, zs, w1, w2, w3⟩ := hR2
  refine ⟨hX.rc, ?_⟩
  have hLp : ∀ (j n : Nat) (b : Int) (h3 : qH), n + j = (lRows s r z).length → q_le h h3 → h.1 ≤ h3.1 + n → ((b = 1 ∧ (lRows s r z).length = R2.length ∧ ∀ i, i < n → (lRows s r z).getD i (0, 0, 0) = R2.getD i (0, 0, 0)) ∨ (b = 0 ∧ lRows s r z ≠ R2)) → L_X5_isLike_42 D (fun v h1 => ∃ r : Int32, v = some (.int r) ∧ K r h1) X (A 0) p1 (some (A (6 + 3 * z.toNat))) (zI b) (zI n) h3 := by
    intro j
    induction j with
    | zero =>
      intro n b h3 hn q3 c3 hb
      have hX3 := hX.le q3
      have hfin : zI b = zI (if lRows s r z = R2 then 1 else 0) := by
        rcases hb with ⟨rfl, q, q2⟩ | ⟨rfl, q⟩
        · rw [if_pos (list_ext3 q (fun i hi => q2 i (by omega)))]
        · rw [if_neg q]
      have k9 := k9 h3 q3 (by omega)
      rw [← hfin] at k9
      refine f_X5_isLike_42 _ _ _ _ _ h3 (lb_size hD hX3 (k := 6 + 3 * z.toNat) ⟨by omega, by omega⟩ (by omega) ⟨fun _ => ⟨?_, _, rfl, k9⟩, fun w => ?_⟩)
      · rcases hb with ⟨rfl, -⟩ | ⟨rfl, -⟩
        · exact Or.inr rfl
        · exact Or.inl rfl
      · rw [← hlen, zI_le (by omega) (by omega) (by omega) (by omega)] at w
        omega
    | succ j ih =>
      intro n b h3 hn q3 c3 hb
      have hX3 := hX.le q3
      have hP3 := hP.le q3
      have hbb : b = 0 ∨ b = 1 := by rcases hb with ⟨q, -⟩ | ⟨q, -⟩ <;> simp [q]
      have hpr := prn_line hT hB hr (i := z.toNat) (by omega) (getD_inL (l := (lLay s r).2 (6 + 3 * z.toNat)) (i := n) (by omega))
      refine f_X5_isLike_42 _ _ _ _ _ h3 (lb_size hD hX3 (k := 6 + 3 * z.toNat) ⟨by omega, by omega⟩ (by omega) ⟨fun w => ?_, fun _ => ⟨fun w => ?_, fun w => lb_get hD hX3 (k := 6 + 3 * z.toNat) ⟨by omega, by omega⟩ (by omega) rfl (by omega) (by omega) ?_⟩⟩)
      · rw [← hlen, zI_le (by omega) (by omega) (by omega) (by omega)] at w
        omega
      · rw [zl_0, zI_eq (by omega) (by omega) (by omega) (by omega)] at w
        have hne : lRows s r z ≠ R2 := by
          rcases hb with ⟨q, -⟩ | ⟨-, q⟩
          · omega
          · exact q
        have k9 := k9 h3 q3 (by omega)
        rw [if_neg hne] at k9
        rw [w]
        exact ⟨Or.inl rfl, _, rfl, k9⟩
      · rw [zl_0, zI_eq (by omega) (by omega) (by omega) (by omega)] at w
        obtain ⟨-, hlR, hpre⟩ := hb.resolve_right (fun q => w q.1)
        rw [Int.toNat_natCast]
        refine x_rowOf hD hT hP3 hX3 hr hpr.1 hpr.2.1 hpr.2.2 rfl (by omega) (fun ar h5 har q5 c5 hrow => ?_)
        have q35 := q3.tr q5
        obtain ⟨f2, g0, g1, g2, g3⟩ := w3 n (by omega)
        have hz2 := q35 _ _ g0
        obtain ⟨f1, e0, e1, e2, e3⟩ := hrow
        have eR := lRows_at (s := s) (r := r) (z := z) (i := n) (by omega)
        rw [← eR] at e1 e2 e3
        have b1 := hrb n (by omega)
        have b2 := hb2 n (by omega)
        have hno : (lRows s r z).getD n (0, 0, 0) ≠ R2.getD n (0, 0, 0) → L_X5_isLike_128 D (fun v h1 => ∃ r : Int32, v = some (.int r) ∧ K r h1) X (A 0) p1 (some (A (6 + 3 * z.toNat))) (zI n) h5 := fun q => f_X5_isLike_128 _ _ _ _ h5 (f_X5_isLike_129 _ _ _ _ _ h5 (by
          rw [zl_1, zI_add, zl_0]
          exact ih (n + 1) 0 h5 (by omega) q35 (by omega) (Or.inr ⟨rfl, fun u => q (by rw [u])⟩)))
        refine ls_get hD (q35 _ _ w1) rfl (by omega) (by omega) ?_
        rw [Int.toNat_natCast]
        refine ⟨Or.inr ⟨_, _, "[I", rfl, Or.inl hz2, rfl, Or.inl rfl⟩, aI e0 (zI_in (z := 0) (by omega) (by omega) (by omega)) (aI hz2 (zI_in (z := 0) (by omega) (by omega) (by omega)) ⟨fun u => hno (fun u2 => u ?_), fun u => aI e0 (zI_in (z := 1) (by omega) (by omega) (by omega)) (aI hz2 (zI_in (z := 1) (by omega) (by omega) (by omega)) ⟨fun u3 => hno (fun u2 => u3 ?_), fun u3 => aI e0 (zI_in (z := 2) (by omega) (by omega) (by omega)) (aI hz2 (zI_in (z := 2) (by omega) (by omega) (by omega)) ⟨fun u4 => hno (fun u2 => u4 ?_), fun u4 => ?_⟩)⟩)⟩)⟩
        · exact e1.trans ((congrArg (fun y => zI y.1) u2).trans g1.symm)
        · exact e2.trans ((congrArg (fun y => zI y.2.1) u2).trans g2.symm)
        · exact e3.trans ((congrArg (fun y => zI y.2.2) u2).trans g3.symm)
        · have u1 : zI ((lRows s r z).getD n (0, 0, 0)).1 = zI (R2.getD n (0, 0, 0)).1 := e1.symm.trans (u.trans g1)
          have u3' : zI ((lRows s r z).getD n (0, 0, 0)).2.1 = zI (R2.getD n (0, 0, 0)).2.1 := e2.symm.trans (u3.trans g2)
          have u4' : zI ((lRows s r z).getD n (0, 0, 0)).2.2 = zI (R2.getD n (0, 0, 0)).2.2 := e3.symm.trans (u4.trans g3)
          rw [zI_eq b1.1.1 b1.1.2 b2.1.1 b2.1.2] at u1
          rw [zI_eq b1.2.1.1 b1.2.1.2 b2.2.1.1 b2.2.1.2] at u3'
          rw [zI_eq b1.2.2.1 b1.2.2.2 b2.2.2.1 b2.2.2.2] at u4'
          have heq : (lRows s r z).getD n (0, 0, 0) = R2.getD n (0, 0, 0) := Prod.ext u1 (Prod.ext u3' u4')
          refine f_X5_isLike_129 _ _ _ _ _ h5 ?_
          rw [zl_1, zI_add]
          refine ih (n + 1) 1 h5 (by omega) q35 (by omega) (Or.inl ⟨rfl, hlR, fun i hi => ?_⟩)
          by_cases hin : i < n
          · exact hpre i hin
          · rw [show i = n by omega]
            exact heq
  refine f_X5_isLike _ _ _ h (lf_lines hX (ln_get hD hX rfl h0 hlz1 (li1 hX h0 hlz1 (lb_size hD hX (k := 6 + 3 * z.toNat) ⟨by omega, by omega⟩ (by omega) (ls_size hD w1 ⟨fun w => f_X5_isLike_37 _ _ _ _ h ?_, fun w => f_X5_isLike_37 _ _ _ _ h ?_⟩)))))
  · rw [← hlen, w2, zI_eq (by omega) (by omega) (by omega) (by omega)] at w
    rw [zl_0]
    exact hLp (lRows s r z).length 0 0 h (by omega) q_le.rf (by omega) (Or.inr ⟨rfl, fun q => w (by rw [q])⟩)
  · rw [← hlen, w2, zI_eq (by omega) (by omega) (by omega) (by omega)] at w
    rw [zl_0, zl_1]
    exact hLp (lRows s r z).length 0 1 h (by omega) q_le.rf (by omega) (Or.inl ⟨rfl, by omega, fun i hi => absurd hi (Nat.not_lt_zero _)⟩)
end CRP
