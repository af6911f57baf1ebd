set_option maxRecDepth 100000
/-! the model's calls: entry -/
def mEn (s : mS) (e : Int) (x : Int × Int) (i : Int) : Int × Int := if s.2 19 i = 0 then x else (x.1 + 1, if x.1 = e then mPage s i else x.2)
def mEntry (s : mS) (e : Int) : Int := (iter (mEn s e) (s.1 14).toNat (0, -1)).2
section MPB
variable {D : qD} {W : mW} {X : String → qH → Prop} {s : mS}
theorem mPage_bd (h : CG s) {i : Int} (hi : 0 ≤ i ∧ i < s.1 14) : -1 ≤ mPage s i ∧ mPage s i ≤ 195 := by
  have := mPageBy_bd h.1 hi (a := s.1 23) h.2.1
  unfold mPage
  split <;> omega
theorem mEn_bd (h : CG s) {e : Int} : ∀ n : Nat, (n : Int) ≤ s.1 14 → (0 ≤ (iter (mEn s e) n (0, -1)).1 ∧ (iter (mEn s e) n (0, -1)).1 ≤ n) ∧ (-1 ≤ (iter (mEn s e) n (0, -1)).2 ∧ (iter (mEn s e) n (0, -1)).2 ≤ 195)
  | 0, _ => ⟨⟨by show (0 : Int) ≤ 0; omega, by show (0 : Int) ≤ 0; omega⟩, by show (-1 : Int) ≤ -1; omega, by show (-1 : Int) ≤ 195; omega⟩
  | n + 1, hn => by
    have ih := mEn_bd h (e := e) n (by omega)
    have hp := mPage_bd h (i := n) ⟨by omega, by omega⟩
    show (0 ≤ (mEn s e (iter (mEn s e) n (0, -1)) n).1 ∧ (mEn s e (iter (mEn s e) n (0, -1)) n).1 ≤ ((n + 1 : Nat) : Int)) ∧ (-1 ≤ (mEn s e (iter (mEn s e) n (0, -1)) n).2 ∧ (mEn s e (iter (mEn s e) n (0, -1)) n).2 ≤ 195)
    generalize iter (mEn s e) n (0, -1) = x at *
    unfold mEn
    split
    · omega
    · dsimp only
      split <;> omega
theorem q_entry40 (hW : mOK D W) (h : CG s) {K : Int → mS → Prop} {e : Int} (he : bd e) (hK : K (mEntry s e) s) : PL_X3_entry_40 D W X K s e 0 (-1) 0 := by
  have hl := h.1.2.2.1.1
  have hL : ∀ m n : Nat, n + m = (s.1 14).toNat → PL_X3_entry_40 D W X K s e (iter (mEn s e) n (0, -1)).1 (iter (mEn s e) n (0, -1)).2 n := by
    intro m
    induction m with
    | zero =>
      intro n hn
      refine p_X3_entry_40 hW fun _ _ _ _ _ => ⟨fun _ => ?_, fun w => absurd (by omega) w⟩
      unfold mEntry at hK
      rw [show n = (s.1 14).toNat by omega]
      exact hK
    | succ m ih =>
      intro n hn
      have hx := mEn_bd h (e := e) n (by omega)
      have ih : PL_X3_entry_40 D W X K s e (mEn s e (iter (mEn s e) n (0, -1)) n).1 (mEn s e (iter (mEn s e) n (0, -1)) n).2 ((n : Int) + 1) := ih (n + 1) (by omega)
      generalize iter (mEn s e) n (0, -1) = x at *
      have h80 : ∀ {c f : Int}, PL_X3_entry_40 D W X K s e c f ((n : Int) + 1) → PL_X3_entry_80 D W X K s e c f n := fun G => p_X3_entry_80 hW fun _ _ _ _ _ => ⟨⟨by omega, by omega⟩, G⟩
      unfold mEn at ih
      refine p_X3_entry_40 hW fun _ _ _ _ _ => ⟨fun w => by omega, fun _ => ⟨⟨by omega, by omega⟩, fun w => h80 ?_, fun w => ⟨fun w2 => ?_, fun w2 => ?_⟩⟩⟩
      · rw [if_pos w] at ih
        exact ih
      · rw [if_neg w, if_neg w2] at ih
        exact p_X3_entry_75 hW fun _ _ _ _ _ => ⟨⟨by omega, by omega⟩, h80 ih⟩
      · rw [if_neg w, if_pos w2] at ih
        exact q_page hW h ⟨by omega, by omega⟩ (p_X3_entry_75 hW fun _ _ _ _ _ => ⟨⟨by omega, by omega⟩, h80 ih⟩)
  exact hL (s.1 14).toNat 0 (by omega)
theorem q_entry (hW : mOK D W) (hB : MB s) (hT : TI s) {K : Int → mS → Prop} {r e : Int} (br : bd r) (be : bd e) (hok : (0 ≤ r ∧ r ≤ 3) → 0 ≤ e → K (mEntry (mLay (mF s 37 0) r) e) (mLay (mF s 37 0) r)) (hno : ¬ ((0 ≤ r ∧ r ≤ 3) ∧ 0 ≤ e) → K 0 (mF s 37 1)) : pI D W X m_X3_entry [r, e] s K := by
  have h16 : ¬ ((0 ≤ r ∧ r ≤ 3) ∧ 0 ≤ e) → PL_X3_entry_16 D W X K s := fun q => p_X3_entry_16 hW fun hB => q_fails hW hB (bdl rfl) (hno q)
  refine p_X3_entry hW hB br be ⟨fun w => h16 (fun q => mIn_no.mp w q.1), fun w => ⟨fun w2 => ?_, fun w2 => h16 (fun q => w2 q.2)⟩⟩
  have e1 := mIn_yes.mp w
  have hB2 : MB (mF s 37 0) := hB.F (bdl rfl)
  exact q_lay hW hB2 hT.f37 ⟨e1.1, by omega⟩ (q_entry40 hW (CG_lay hB2 hT.f37 ⟨e1.1, by omega⟩) be (hok e1 w2))
end MPB
