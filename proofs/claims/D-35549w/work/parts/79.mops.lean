set_option maxRecDepth 100000
/-! the model's calls: style -/
section MPA
variable {D : qD} {W : mW} {X : String → qH → Prop} {s : mS}
theorem q_style (hW : mOK D W) (hB : MB s) (hT : TI s) {K : mS → Prop} {a b e c : Int} (ba : bd a) (bb : bd b) (be : bd e) (bc : bd c) (hok : (0 ≤ a ∧ a ≤ 5) → (-1 ≤ b ∧ b ≤ 5) → (-1 ≤ e ∧ e ≤ 3) → (-1 ≤ c ∧ c ≤ 3) → mChase s 4 a 6 b = -1 → K (mA (mA (mA (mF s 37 0) 4 a b) 5 a e) 6 a c)) (hno1 : ¬ ((0 ≤ a ∧ a ≤ 5) ∧ (-1 ≤ b ∧ b ≤ 5)) → K (mF s 37 1)) (hno2 : (0 ≤ a ∧ a ≤ 5) → (-1 ≤ b ∧ b ≤ 5) → ¬ ((-1 ≤ e ∧ e ≤ 3) ∧ (-1 ≤ c ∧ c ≤ 3)) → K (mF s 37 2)) (hno3 : (0 ≤ a ∧ a ≤ 5) → (-1 ≤ b ∧ b ≤ 5) → (-1 ≤ e ∧ e ≤ 3) → (-1 ≤ c ∧ c ≤ 3) → mChase s 4 a 6 b ≠ -1 → K (mF s 37 3)) : pV D W X m_X3_style [a, b, e, c] s K := by
  have h26 : ¬ ((0 ≤ a ∧ a ≤ 5) ∧ (-1 ≤ b ∧ b ≤ 5)) → PL_X3_style_26 D W X K s := fun q => p_X3_style_26 hW fun _ => hno1 q
  refine p_X3_style hW hB ba bb be bc ⟨fun w => h26 (fun q => mIn_no.mp w q.1), fun w => ⟨fun w2 => ?_, fun w2 => h26 (fun q => mIn_no.mp w2 q.2)⟩⟩
  have e1 := mIn_yes.mp w
  have e2 := mIn_yes.mp w2
  have h61 : ¬ ((-1 ≤ e ∧ e ≤ 3) ∧ (-1 ≤ c ∧ c ≤ 3)) → PL_X3_style_61 D W X K s := fun q => p_X3_style_61 hW fun _ => hno2 e1 e2 q
  refine ⟨fun w3 => h61 (fun q => mIn_no.mp w3 q.1), fun w3 => ⟨fun w4 => ?_, fun w4 => h61 (fun q => mIn_no.mp w4 q.2)⟩⟩
  have hok := hok e1 e2 (mIn_yes.mp w3) (mIn_yes.mp w4)
  have hno3 := hno3 e1 e2 (mIn_yes.mp w3) (mIn_yes.mp w4)
  obtain ⟨rk, r1, r2⟩ := hT.2.2.2.2.2.2.2.2.2.2.1
  generalize hcc : mChase s 4 a 6 b = r at hok hno3
  have hL : ∀ (f : Nat) (v : Int), (v = -1 ∨ (0 ≤ v ∧ v < 6 ∧ rk v < f)) → mChase s 4 a f v = r → PL_X3_style_70 D W X K s a b e c v := by
    intro f
    induction f with
    | zero =>
      intro v hv hc
      have hv : v = -1 := by
        rcases hv with h | h
        · exact h
        · omega
      subst hv
      exact p_X3_style_70 hW fun _ _ _ _ _ _ => ⟨fun _ => p_X3_style_94 hW fun _ _ _ _ _ _ => ⟨fun _ => ⟨⟨by omega, by omega⟩, ⟨by omega, by omega⟩, ⟨by omega, by omega⟩, hok hc.symm⟩, fun q => absurd rfl q⟩, fun q => absurd rfl q⟩
    | succ f ih =>
      intro v hv hc
      unfold mChase at hc
      refine p_X3_style_70 hW fun _ _ _ _ _ _ => ⟨fun q => ?_, fun q => ⟨fun q2 => ?_, fun q2 => ?_⟩⟩
      · rw [if_pos (Or.inl q)] at hc
        exact p_X3_style_94 hW fun _ _ _ _ _ _ => ⟨fun _ => ⟨⟨by omega, by omega⟩, ⟨by omega, by omega⟩, ⟨by omega, by omega⟩, hok (hc.symm.trans q)⟩, fun z => absurd q z⟩
      · rw [if_pos (Or.inr q2)] at hc
        exact p_X3_style_94 hW fun _ _ _ _ _ _ => ⟨fun z => absurd z q, fun _ => hno3 (by rw [← hc]; exact q)⟩
      · rw [if_neg (fun z => z.elim q q2)] at hc
        have hv : 0 ≤ v ∧ v < 6 ∧ rk v < f + 1 := by
          rcases hv with h | h
          · exact absurd h q
          · exact h
        have h9 := (hT.base hv.1 hv.2.1).1
        refine ⟨⟨hv.1, hv.2.1⟩, ih _ ?_ hc⟩
        by_cases hn : s.2 4 v = -1
        · exact Or.inl hn
        · have := r2 v hv.1 hv.2.1 hn
          exact Or.inr ⟨by omega, by omega, by omega⟩
  exact hL 6 b (by
    by_cases hb : b = -1
    · exact Or.inl hb
    · exact Or.inr ⟨by omega, by omega, by have := r1 b (by omega) (by omega); omega⟩) hcc
theorem TI_style (hT : TI s) {a b e c : Int} (ha : 0 ≤ a ∧ a ≤ 5) (hb : -1 ≤ b ∧ b ≤ 5) (he : -1 ≤ e ∧ e ≤ 3) (hc : -1 ≤ c ∧ c ≤ 3) (hch : mChase s 4 a 6 b = -1) : TI (mA (mA (mA s 4 a b) 5 a e) 6 a c) := by
  have h11 := acyc_set (F := 6) (m := 6) rfl hT.2.2.2.2.2.2.2.2.2.2.1 (fun i h0 h1 => by have := (hT.base h0 h1).1; omega) (g := a) ⟨ha.1, by omega⟩ (o := b) ⟨hb.1, by omega⟩ hch
  obtain ⟨t1, t2, t3, t4, t5, t6, t7, t8, t9, t10, t11, t12⟩ := hT
  refine ⟨t1, t2, t3, fun i h0 h1 => ?_, t5, t6, t7, t8, t9, t10, h11, t12⟩
  have h4 := t4 i h0 h1
  by_cases hi : i = a
  · subst hi
    simp [mA]
    omega
  · simp [mA, hi]
    omega
end MPA
