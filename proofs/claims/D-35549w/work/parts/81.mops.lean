set_option maxRecDepth 100000
/-! the model's calls: marks -/
def mMk (s : mS) (m : Int) (x t : Int) : Int := if x = 0 then (if mCounts s t m then 1 else 0) else x
def mMarked (s : mS) (m : Int) : Int := iter (mMk s m) (s.1 0).toNat 0
section MPC
variable {D : qD} {W : mW} {X : String → qH → Prop} {s : mS}
theorem mMk_01 {m : Int} : ∀ n : Nat, iter (mMk s m) n 0 = 0 ∨ iter (mMk s m) n 0 = 1
  | 0 => Or.inl rfl
  | n + 1 => by
    have ih := mMk_01 (m := m) n
    show mMk s m (iter (mMk s m) n 0) n = 0 ∨ mMk s m (iter (mMk s m) n 0) n = 1
    generalize iter (mMk s m) n 0 = x at *
    unfold mMk
    split
    · split <;> simp
    · exact ih
theorem q_isMarked (hW : mOK D W) (hB : MB s) (hT : TI s) {K : Int → mS → Prop} {m : Int} (hm : bd m) (hK : K (mMarked s m) s) : pI D W X m_X3_isMarked [m] s K := by
  have h64 := hT.1
  have hL : ∀ j n : Nat, n + j = (s.1 0).toNat → PL_X3_isMarked_4 D W X K s m (iter (mMk s m) n 0) n := by
    intro j
    induction j with
    | zero =>
      intro n hn
      refine p_X3_isMarked_4 hW fun _ _ _ _ => ⟨fun _ => ⟨mMk_01 n, ?_⟩, fun w => absurd (by omega) w⟩
      rw [show n = (s.1 0).toNat by omega]
      exact hK
    | succ j ih =>
      intro n hn
      have hx := mMk_01 (s := s) (m := m) n
      have ih : PL_X3_isMarked_4 D W X K s m (mMk s m (iter (mMk s m) n 0) n) ((n : Int) + 1) := ih (n + 1) (by omega)
      generalize iter (mMk s m) n 0 = x at *
      unfold mMk at ih
      refine p_X3_isMarked_4 hW fun hB _ _ _ => ⟨fun w => by omega, fun _ => q_counts hW hB hT ⟨by omega, by omega⟩ hm (fun c => ⟨⟨hx, Or.inr rfl⟩, ⟨by omega, by omega⟩, ?_⟩) (fun c => ⟨⟨hx, Or.inl rfl⟩, ⟨by omega, by omega⟩, ?_⟩)⟩
      · rw [if_pos c] at ih
        exact ih
      · rw [if_neg c] at ih
        exact ih
  exact p_X3_isMarked hW hB hm (hL (s.1 0).toNat 0 (by omega))
end MPC
