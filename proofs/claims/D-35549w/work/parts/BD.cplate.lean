set_option maxRecDepth 100000
/-! the component's calls: plate -/
def lCol (s : mS) (c : Int) (l : List Int) : Int → Bool := fun k => decide (mEff 6 s (s.2 3 (l.getD k.toNat 0)) = c)
def lPl (s : mS) (r sh sd c x i : Int) : Int := if mSheetOf s (lPage s r i) = sh ∧ mSideOf s (lPage s r i) = sd then x + (cnt (lCol s c ((lLay s r).2 (6 + 3 * i.toNat))) ((lLay s r).2 (6 + 3 * i.toNat)).length : Nat) else x
def lPlate (s : mS) (r sh sd c : Int) : Int := if (lLay s r).1.1 23 = -1 then 0 else iter (lPl s r sh sd c) ((lLay s r).1.1 14).toNat 0
section CPL
variable {D : qD} {C : mW} {xs : List Nat} {s : mS} {ks : List (List mR3)} {h : qH} {X : String → qH → Prop} {r : Int}
theorem mSheetOf_bd (hT : TI s) {p : Int} (hp : 1 ≤ p ∧ p ≤ 999) : 0 ≤ mSheetOf s p ∧ mSheetOf s p ≤ 1008 := by
  have h3 := mWithin_bd hT (p := p)
  have h4 := mDivs hT hp
  unfold mSheetOf
  omega
theorem mSideOf_bd {p : Int} : 0 ≤ mSideOf s p ∧ mSideOf s p ≤ 1 := by
  unfold mSideOf
  split <;> omega
theorem lPage_bd (hT : TI s) (hB : MB s) (hr : 0 ≤ r ∧ r < 4) {i : Int} (h0 : 0 ≤ i) (h1 : i < (lLay s r).1.1 14) (h23 : (lLay s r).1.1 23 ≠ -1) : 1 ≤ lPage s r i ∧ lPage s r i ≤ 999 ∧ lPage s r i = lPg s (lLay s r).1 i ((lLay s r).1.1 23) := by
  obtain ⟨-, -, -, -, -, -, -, hZ, hC, h22, h23b⟩ := RF_lay hT hB hr
  have hc := hC i h0 h1
  have h10 : 1 ≤ s.1 10 ∧ s.1 10 ≤ 2 := hT.2.2.2.2.2.2.1
  have e : lPage s r i = lPg s (lLay s r).1 i ((lLay s r).1.1 23) := if_neg h23
  rw [e]
  unfold lPg
  have : s.1 10 = 1 ∨ s.1 10 = 2 := by omega
  rcases this with q | q <;> rw [q] <;> omega
theorem x_plate (hD : q_DK D) (hT : TI s) (hB : MB s) (hS : SC C xs s ks h) {sh sd c : Int} (br : bd r) (b1 : bd sh) (b2 : bd sd) (b3 : bd c) (hcr : 18000 ≤ h.1) {K : Int32 → qH → Prop} (hok : (0 ≤ r ∧ r ≤ 3) → (0 ≤ sh ∧ sh ≤ 249) → (0 ≤ sd ∧ sd ≤ 1) → (0 ≤ c ∧ c ≤ 3) → ∀ h', ST C xs s ks h 18000 h' → K (zI (lPlate s r sh sd c)) h') (hno : ¬ ((0 ≤ r ∧ r ≤ 3) ∧ (0 ≤ sh ∧ sh ≤ 249) ∧ (0 ≤ sd ∧ sd ≤ 1) ∧ (0 ≤ c ∧ c ≤ 3)) → ∀ h', ST C xs s ks h 18000 h' → X "java/lang/IndexOutOfBoundsException" h') : c_I D m_X1_plate [va_rf (some (C.1 0)), .int (zI r), .int (zI sh), .int (zI sd), .int (zI c)] h X K := by
  have h64 := hT.1
  refine f_X1_plate _ _ _ _ _ h (x_layout hD hT hB hS rfl br (by omega) (fun hr A h1 S1 hX => ?_) (fun w h1 S1 => hno (fun q => w q.1) h1 (S1.wk (by omega))))
  have hr4 : 0 ≤ r ∧ r < 4 := ⟨hr.1, by omega⟩
  have e14 := (RF_lay hT hB hr4).1
  obtain ⟨-, -, -, hpr, -, -, -, hZ, hC, h22, h23⟩ := RF_lay hT hB hr4
  have hc := S1.2.2
  have hn := hZ.1
  have hno' : ∀ {q : Prop}, ¬ q → ((0 ≤ r ∧ r ≤ 3) ∧ (0 ≤ sh ∧ sh ≤ 249) ∧ (0 ≤ sd ∧ sd ≤ 1) ∧ (0 ≤ c ∧ c ≤ 3) → q) → ∀ h', q_le h1 h' → h1.1 ≤ h'.1 + 2000 → X "java/lang/IndexOutOfBoundsException" h' := fun q q2 h' hl hc => hno (fun z => q (q2 z)) h' ((S1.le hl hc).wk (by omega))
  refine x_place hD rfl zl_250 b1 (bdl rfl) ⟨21, by omega, rfl⟩ (by omega) (fun s0 s1 => ?_) (fun w => hno' w (fun q => by omega))
  refine x_place hD rfl zl_2 b2 (bdl rfl) ⟨22, by omega, rfl⟩ (by omega) (fun d0 d1 => ?_) (fun w => hno' w (fun q => by omega))
  refine x_place hD rfl zl_4 b3 (bdl rfl) ⟨23, by omega, rfl⟩ (by omega) (fun c0 c1 => ?_) (fun w => hno' w (fun q => by omega))
  have hok := hok hr ⟨s0, by omega⟩ ⟨d0, by omega⟩ ⟨c0, by omega⟩
  unfold lPlate at hok
  have hPn : ∀ i : Nat, (i : Int) < (lLay s r).1.1 14 → ((lLay s r).2 (6 + 3 * i)).length ≤ 64 := fun i hi => by
    rw [hpr i (by omega)]
    unfold mOn
    rw [List.length_map]
    refine Nat.le_trans (List.length_filter_le _ _) ?_
    rw [List.length_range]
    omega
  have hxb : ∀ n : Nat, (n : Int) ≤ (lLay s r).1.1 14 → 0 ≤ iter (lPl s r sh sd c) n 0 ∧ iter (lPl s r sh sd c) n 0 ≤ 64 * n := by
    intro n
    induction n with
    | zero => intro _; exact ⟨Int.le_refl _, Int.le_refl _⟩
    | succ n ih =>
      intro hn9
      have ih := ih (by omega)
      have := cnt_le (lCol s c ((lLay s r).2 (6 + 3 * n))) ((lLay s r).2 (6 + 3 * n)).length
      have := hPn n (by omega)
      show 0 ≤ lPl s r sh sd c (iter (lPl s r sh sd c) n 0) (n : Int) ∧ lPl s r sh sd c (iter (lPl s r sh sd c) n 0) (n : Int) ≤ 64 * ((n + 1 : Nat) : Int)
      generalize iter (lPl s r sh sd c) n 0 = x at *
      unfold lPl
      rw [Int.toNat_natCast]
      split <;> omega
  by_cases h24 : (lLay s r).1.1 23 = -1
  · rw [if_pos h24] at hok
    have hok := hok h1 (S1.wk (by omega))
    refine f_X1_plate_42 _ _ _ _ _ _ _ h1 (lf_lines hX (ln_size hD hX ⟨fun _ => ⟨_, rfl, hok⟩, fun _ => lf_front hX ⟨fun _ => ⟨_, rfl, hok⟩, fun w => ?_⟩⟩))
    rw [zl_m1, zI_eq (by omega) (by omega) (by omega) (by omega)] at w
    exact absurd h24 w
  rw [if_neg h24] at hok
  have hLp : ∀ (j n : Nat) (h3 : qH), n + j = ((lLay s r).1.1 14).toNat → q_le h1 h3 → h1.1 ≤ h3.1 + 2 * n → L_X1_plate_42 D (fun v h1 => ∃ r : Int32, v = some (.int r) ∧ K r h1) X (C.1 0) (zI sh) (zI sd) (zI c) (some (A 0)) (zI (iter (lPl s r sh sd c) n 0)) (zI n) h3 := by
    intro j
    induction j with
    | zero =>
      intro n h3 hn3 q3 c3
      have hX3 := hX.le q3
      have hok := hok h3 ((S1.le q3 (d := 200) (by omega)).wk (by omega))
      refine f_X1_plate_42 _ _ _ _ _ _ _ h3 (lf_lines hX3 (ln_size hD hX3 ⟨fun _ => ⟨_, rfl, ?_⟩, fun w => ?_⟩))
      · rw [show n = ((lLay s r).1.1 14).toNat by omega]
        exact hok
      · rw [zI_le (by omega) (by omega) (by omega) (by omega)] at w
        omega
    | succ j ih =>
      intro n h3 hn3 q3 c3
      have hX3 := hX.le q3
      have S3 := S1.le q3 (d := 2 * n) (by omega)
      have hP3 := S3.1.P
      have hx := hxb n (by omega)
      have hpg := lPage_bd hT hB hr4 (i := (n : Int)) (by omega) (by omega) h24
      have hsb := mSheetOf_bd hT (p := lPage s r n) ⟨hpg.1, hpg.2.1⟩
      have hdb := mSideOf_bd (s := s) (p := lPage s r n)
      have hl64 := hPn n (by omega)
      have hst : iter (lPl s r sh sd c) (n + 1) 0 = lPl s r sh sd c (iter (lPl s r sh sd c) n 0) (n : Int) := rfl
      have h190 : ∀ h4, q_le h1 h4 → h1.1 ≤ h4.1 + 2 * (n + 1) → ∀ y, y = iter (lPl s r sh sd c) (n + 1) 0 → L_X1_plate_190 D (fun v h1 => ∃ r : Int32, v = some (.int r) ∧ K r h1) X (C.1 0) (zI sh) (zI sd) (zI c) (some (A 0)) (zI y) (zI n) h4 := fun h4 q4 c4 y hy => f_X1_plate_190 _ _ _ _ _ _ _ h4 (by
        rw [hy, zl_1, zI_add]
        exact ih (n + 1) h4 (by omega) q4 (by omega))
      have hk1 : (if (lLay s r).1.1 23 = -1 then -1 else lPg s (lLay s r).1 n ((lLay s r).1.1 23)) = lPage s r n := rfl
      refine f_X1_plate_42 _ _ _ _ _ _ _ h3 (lf_lines hX3 (ln_size hD hX3 ⟨fun w => ?_, fun _ => lf_front hX3 ⟨fun w => ?_, fun _ => x_page hD hT hP3 hC hn.2 hX3 ⟨h23.1, by omega⟩ (z := (n : Int)) (by omega) (by omega) rfl ?_⟩⟩))
      · rw [zI_le (by omega) (by omega) (by omega) (by omega)] at w
        omega
      · rw [zl_m1, zI_eq (by omega) (by omega) (by omega) (by omega)] at w
        exact absurd w h24
      rw [hk1]
      refine x_sheetOf hT hP3 ⟨hpg.1, hpg.2.1⟩ (w := 0) ⟨by omega, by omega⟩ rfl zl_0 ?_
      rw [show mSheet s (lPage s r n) 0 = mSheetOf s (lPage s r n) from rfl]
      refine ⟨fun w => h190 h3 q3 (by omega) _ ?_, fun e1 => ?_⟩
      · rw [zI_eq (by omega) (by omega) (by omega) (by omega)] at w
        rw [hst]
        exact (if_neg (fun z => w z.1)).symm
      rw [zI_eq (by omega) (by omega) (by omega) (by omega)] at e1
      refine x_sheetOf hT hP3 ⟨hpg.1, hpg.2.1⟩ (w := 1) ⟨by omega, by omega⟩ rfl zl_1 ?_
      rw [show mSheet s (lPage s r n) 1 = mSideOf s (lPage s r n) from rfl]
      refine ⟨fun w => h190 h3 q3 (by omega) _ ?_, fun e2 => ?_⟩
      · rw [zI_eq (by omega) (by omega) (by omega) (by omega)] at w
        rw [hst]
        exact (if_neg (fun z => w z.2)).symm
      rw [zI_eq (by omega) (by omega) (by omega) (by omega)] at e2
      obtain ⟨m, ys, y1, y2, y3⟩ := hX3.list (k := 6 + 3 * n) ⟨by omega, by omega⟩ (by omega)
      refine lf_lines hX3 (ln_get hD hX3 (z := (n : Int)) rfl (by omega) (by omega) (li1 hX3 (by omega) (by omega) ?_))
      rw [Int.toNat_natCast]
      refine it_new hD y1 (by omega) (fun a h4 I4 => ?_)
      have hin : iter (lPl s r sh sd c) (n + 1) 0 = iter (lPl s r sh sd c) n 0 + (cnt (lCol s c ((lLay s r).2 (6 + 3 * n))) ((lLay s r).2 (6 + 3 * n)).length : Nat) := by
        rw [hst]
        unfold lPl
        rw [if_pos ⟨e1, e2⟩, Int.toNat_natCast]
      have hL2 : ∀ (j2 n2 : Nat) (h5 : qH), n2 + j2 = ((lLay s r).2 (6 + 3 * n)).length → IT h3 a (A (6 + 3 * n)) m n2 h5 → L_X1_plate_122 D (fun v h1 => ∃ r : Int32, v = some (.int r) ∧ K r h1) X (C.1 0) (zI sh) (zI sd) (zI c) (some (A 0)) (zI (iter (lPl s r sh sd c) n 0 + (cnt (lCol s c ((lLay s r).2 (6 + 3 * n))) n2 : Nat))) (zI n) (some a) h5 := by
        intro j2
        induction j2 with
        | zero =>
          intro n2 h5 hn5 I5
          have I5' := I5
          obtain ⟨i1, i2, i3, -⟩ := I5'
          refine f_X1_plate_122 _ _ _ _ _ _ _ _ h5 (it_has hD I5 y1 (by omega) (by omega) ⟨fun _ => h190 h5 (q3.tr i1) (by omega) _ ?_, fun w => ?_⟩)
          · rw [hin, show n2 = ((lLay s r).2 (6 + 3 * n)).length by omega]
          · rw [if_neg (by omega)] at w
            exact absurd rfl w
        | succ j2 ih2 =>
          intro n2 h5 hn5 I5
          refine f_X1_plate_122 _ _ _ _ _ _ _ _ h5 (it_has hD I5 y1 (by omega) (by omega) ⟨fun w => ?_, fun _ => it_next hD I5 y1 (by omega) (by omega) (fun h6 I6 => ?_)⟩)
          · rw [if_pos (by omega)] at w
            exact absurd w (by decide)
          have I6' := I6
          obtain ⟨i1, i2, i3, -⟩ := I6'
          have q6 := q3.tr i1
          have hP6 := (S1.1.le q6).P
          have hbx := i1 _ _ (y3 n2 (by omega))
          have hpu := prn_line (u := ((lLay s r).2 (6 + 3 * n)).getD n2 0) hT hB hr4 (i := n) (by omega) (getD_inL (by omega))
          have hk := (hT.tok hpu.1 hpu.2.1).2.1
          have hcb := (mEff_bd hT (k := 6) (Or.inr rfl) (v := s.2 3 (((lLay s r).2 (6 + 3 * n)).getD n2 0)) hk.1 (by have := hk.2; omega)).2.2
          have ih2 := ih2 (n2 + 1) h6 (by omega) I6
          rw [cnt_s] at ih2
          have hcc := cnt_le (lCol s c ((lLay s r).2 (6 + 3 * n))) n2
          generalize (cnt (lCol s c ((lLay s r).2 (6 + 3 * n))) n2 : Int) = cc at *
          have h184 : ∀ y : Int, y = (if lCol s c ((lLay s r).2 (6 + 3 * n)) n2 = true then 1 else 0) → L_X1_plate_184 D (fun v h1 => ∃ r : Int32, v = some (.int r) ∧ K r h1) X (C.1 0) (zI sh) (zI sd) (zI c) (some (A 0)) (zI n) (some a) (zI y) (zI (iter (lPl s r sh sd c) n 0 + cc)) h6 := fun y hy => f_X1_plate_184 _ _ _ _ _ _ _ _ _ h6 (by
            rw [zI_add, hy, Int.add_assoc]
            exact ih2)
          refine ⟨Or.inr ⟨_, _, "java/lang/Integer", rfl, Or.inl hbx, rfl, Or.inl rfl⟩, rcv hbx rfl, j_intValue hbx ⟨_, rfl, cp_styles hP6 (cp_story hP6 (st_get hD hP6 rfl hpu.1 hpu.2.1 (tk2 hP6 hpu.1 hpu.2.1 (cp_style hP6 rfl hk.1 (by omega) (x_colour hT hP6 hk.1 (by omega) ⟨fun w => h184 0 ?_, fun w => h184 1 ?_⟩)))))⟩⟩
          · rw [zI_eq (by omega) (by omega) (by omega) (by omega)] at w
            refine (if_neg (fun z => w ?_)).symm
            have := of_decide_eq_true z
            rw [Int.toNat_natCast] at this
            exact this
          · rw [zI_eq (by omega) (by omega) (by omega) (by omega)] at w
            refine (if_pos (decide_eq_true ?_)).symm
            rw [Int.toNat_natCast]
            exact w
      have h9 := hL2 ((lLay s r).2 (6 + 3 * n)).length 0 h4 (by omega) I4
      rw [show iter (lPl s r sh sd c) n 0 + (cnt (lCol s c ((lLay s r).2 (6 + 3 * n))) 0 : Nat) = iter (lPl s r sh sd c) n 0 from Int.add_zero _] at h9
      exact h9
  exact hLp ((lLay s r).1.1 14).toNat 0 h1 (by omega) q_le.rf (by omega)
end CPL
