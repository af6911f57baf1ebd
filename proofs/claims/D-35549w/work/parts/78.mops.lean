set_option maxRecDepth 100000
/-! the model's calls: style, see -/
section MP9
variable {D : qD} {W : mW} {X : String → qH → Prop} {s : mS}
theorem TI.seen (h : TI s) {v : Int} (h0 : 0 ≤ v) (h1 : v < 10) : -1 ≤ s.2 11 v ∧ s.2 11 v < 10 := by
  have := h.2.2.2.2.2.2.2.1 v h0 h1
  omega
theorem q_see (hW : mOK D W) (hB : MB s) (hT : TI s) {K : Int → mS → Prop} {a b : Int} (ba : bd a) (bb : bd b) (hok : (0 ≤ a ∧ a ≤ 9) → (-1 ≤ b ∧ b ≤ 9) → mChase s 11 a 10 b = -1 → K (s.2 11 a) (mA (mF s 37 0) 11 a b)) (hno1 : ¬ ((0 ≤ a ∧ a ≤ 9) ∧ (-1 ≤ b ∧ b ≤ 9)) → K 0 (mF s 37 1)) (hno2 : (0 ≤ a ∧ a ≤ 9) → (-1 ≤ b ∧ b ≤ 9) → mChase s 11 a 10 b ≠ -1 → K 0 (mF s 37 2)) : pI D W X m_X3_see [a, b] s K := by
  have h26 : ¬ ((0 ≤ a ∧ a ≤ 9) ∧ (-1 ≤ b ∧ b ≤ 9)) → PL_X3_see_26 D W X K s := fun q => p_X3_see_26 hW fun hB => q_fails hW hB (bdl rfl) (hno1 q)
  refine p_X3_see hW hB ba bb ⟨fun w => h26 (fun q => mIn_no.mp w q.1), fun w => ⟨fun w2 => ?_, fun w2 => h26 (fun q => mIn_no.mp w2 q.2)⟩⟩
  have e1 := mIn_yes.mp w
  have e2 := mIn_yes.mp w2
  obtain ⟨rk, r1, r2⟩ := hT.2.2.2.2.2.2.2.2.2.2.2
  generalize hcc : mChase s 11 a 10 b = c at hok hno2
  have hL : ∀ (f : Nat) (v : Int), (v = -1 ∨ (0 ≤ v ∧ v < 10 ∧ rk v < f)) → mChase s 11 a f v = c → PL_X3_see_34 D W X K s a b v := by
    intro f
    induction f with
    | zero =>
      intro v hv hc
      have hv : v = -1 := by
        rcases hv with h | h
        · exact h
        · omega
      subst hv
      refine p_X3_see_34 hW fun _ _ _ _ => ⟨fun _ => p_X3_see_54 hW fun _ _ _ _ => ⟨fun _ => ⟨⟨by omega, by omega⟩, ⟨by omega, by omega⟩, hok e1 e2 hc.symm⟩, fun q => absurd rfl q⟩, fun q => absurd rfl q⟩
    | succ f ih =>
      intro v hv hc
      unfold mChase at hc
      refine p_X3_see_34 hW fun _ _ _ _ => ⟨fun q => ?_, fun q => ⟨fun q2 => ?_, fun q2 => ?_⟩⟩
      · rw [if_pos (Or.inl q)] at hc
        exact p_X3_see_54 hW fun _ _ _ _ => ⟨fun _ => ⟨⟨by omega, by omega⟩, ⟨by omega, by omega⟩, hok e1 e2 (hc.symm.trans q)⟩, fun z => absurd q z⟩
      · rw [if_pos (Or.inr q2)] at hc
        exact p_X3_see_54 hW fun hB _ _ _ => ⟨fun z => absurd z q, fun _ => q_fails hW hB (bdl rfl) (hno2 e1 e2 (by rw [← hc]; exact q))⟩
      · rw [if_neg (fun z => z.elim q q2)] at hc
        have hv : 0 ≤ v ∧ v < 10 ∧ rk v < f + 1 := by
          rcases hv with h | h
          · exact absurd h q
          · exact h
        have h9 := hT.seen hv.1 hv.2.1
        refine ⟨⟨hv.1, hv.2.1⟩, ih _ ?_ hc⟩
        by_cases hn : s.2 11 v = -1
        · exact Or.inl hn
        · have := r2 v hv.1 hv.2.1 hn
          exact Or.inr ⟨by omega, h9.2, by omega⟩
  exact hL 10 b (by
    by_cases hb : b = -1
    · exact Or.inl hb
    · exact Or.inr ⟨by omega, by omega, by have := r1 b (by omega) (by omega); omega⟩) hcc
theorem TI_see (hT : TI s) {a b : Int} (ha : 0 ≤ a ∧ a ≤ 9) (hb : -1 ≤ b ∧ b ≤ 9) (hc : mChase s 11 a 10 b = -1) : TI (mA s 11 a b) := by
  have h12 := acyc_set (F := 10) (m := 10) rfl hT.2.2.2.2.2.2.2.2.2.2.2 (fun i h0 h1 => hT.seen h0 h1) (g := a) ⟨ha.1, by omega⟩ (o := b) ⟨hb.1, by omega⟩ hc
  obtain ⟨t1, t2, t3, t4, t5, t6, t7, t8, t9, t10, t11, t12⟩ := hT
  refine ⟨t1, t2, t3, t4, t5, t6, t7, fun i h0 h1 => ?_, t9, t10, t11, h12⟩
  show -1 ≤ (if 11 = 11 ∧ i = a then b else s.2 11 i) ∧ (if 11 = 11 ∧ i = a then b else s.2 11 i) ≤ 9
  by_cases hi : i = a
  · rw [if_pos ⟨rfl, hi⟩]; exact hb
  · rw [if_neg (fun w => hi w.2)]; exact t8 i h0 h1
end MP9
