set_option maxRecDepth 100000
/-! the component's calls: sheet, entry, faults -/
def lEn (s : mS) (r e : Int) (x : Int × Int) (i : Int) : Int × Int := if (lLay s r).1.2 19 i = 0 then x else (x.1 + 1, if x.1 = e then lPage s r i else x.2)
def lMk (s : mS) (r m : Int) : Int → Bool := fun t => decide (s.2 1 t = 6 ∧ (lLay s r).1.2 15 t ≠ -1 ∧ mLast s (s.2 2 t) = m)
def lFaults (s : mS) (r w : Int) : Int := if w = 1 then (cnt (fun i => decide (s.1 9 < lNeeds (lLay s r).1 i 0)) ((lLay s r).1.1 14).toNat : Nat) else if w = 3 then (if (lLay s r).1.1 23 = -1 then 1 else 0) else if w = 4 then (cnt (fun m => decide (s.2 11 m ≠ -1 ∧ cnt (lMk s r (mLast s m)) (s.1 0).toNat = 0)) 10 : Nat) else if w = 0 then (cnt (fun t => decide (mPrn s r t ∧ s.1 8 < mWide s r t)) (s.1 0).toNat : Nat) else (cnt (fun t => decide (s.2 1 t = 4 ∧ s.1 9 < s.2 2 t)) (s.1 0).toNat : Nat)
section CO7
variable {D : qD} {C : mW} {xs : List Nat} {s : mS} {ks : List (List mR3)} {h : qH} {X : String → qH → Prop} {r : Int}
theorem x_sheet (hD : q_DK D) (hT : TI s) (hS : SC C xs s ks h) {p w : Int} (bp : bd p) (bw : bd w) (hcr : 18000 ≤ h.1) {K : Int32 → qH → Prop} (hok : (1 ≤ p ∧ p ≤ 999) → (0 ≤ w ∧ w ≤ 3) → ∀ h', ST C xs s ks h 18000 h' → K (zI (mSheet s p w)) h') (hno : ¬ ((1 ≤ p ∧ p ≤ 999) ∧ (0 ≤ w ∧ w ≤ 3)) → ∀ h', ST C xs s ks h 18000 h' → X "java/lang/IndexOutOfBoundsException" h') : c_I D m_X1_sheet [va_rf (some (C.1 0)), .int (zI p), .int (zI w)] h X K := by
  have hx : ¬ ((1 ≤ p ∧ p ≤ 999) ∧ (0 ≤ w ∧ w ≤ 3)) → ∀ h', q_le h h' → h.1 ≤ h'.1 + 2000 → X "java/lang/IndexOutOfBoundsException" h' := fun w h' hl hc => hno w h' ((hS.st hl hc).wk (by omega))
  obtain ⟨z, bz, ez, hz⟩ : ∃ z, bd z ∧ zI p - 1 = zI z ∧ ((0 ≤ z ∧ z < 999) ↔ (1 ≤ p ∧ p ≤ 999)) := by
    by_cases hp : p = -2147483648
    · exact ⟨2147483647, ⟨by omega, by omega⟩, by rw [hp]; decide +kernel, by omega⟩
    · exact ⟨p - 1, ⟨by have := bp.1; omega, by have := bp.2; omega⟩, by rw [zl_1, zI_sub], by omega⟩
  refine f_X1_sheet _ _ _ h (x_place hD ez zl_999 bz (bdl rfl) ⟨19, by omega, rfl⟩ (by omega) (fun a1 a2 => x_place hD rfl zl_4 bw (bdl rfl) ⟨20, by omega, rfl⟩ (by omega) (fun w1 w2 => x_sheetOf hT hS.P (hz.mp ⟨a1, a2⟩) ⟨w1, by omega⟩ rfl rfl ⟨_, rfl, hok (hz.mp ⟨a1, a2⟩) ⟨w1, by omega⟩ h ⟨hS, q_fr.rf, by omega⟩⟩) (fun q => hx (fun q2 => q (by omega)))) (fun q => hx (fun q2 => q (hz.mpr q2.1))))
theorem lEn_head {e i : Int} {x : Int × Int} (h : (lLay s r).1.2 19 i ≠ 0) : lEn s r e x i = (x.1 + 1, if x.1 = e then lPage s r i else x.2) := if_neg h
theorem lEn_stay {e : Int} : ∀ (j n : Nat) (x0 : Int × Int), e < (iter (lEn s r e) n x0).1 → (iter (lEn s r e) (n + j) x0).2 = (iter (lEn s r e) n x0).2 ∧ e < (iter (lEn s r e) (n + j) x0).1
  | 0, n, x0, h => ⟨rfl, h⟩
  | j + 1, n, x0, h => by
    obtain ⟨a, b⟩ := lEn_stay j n x0 h
    show (lEn s r e (iter (lEn s r e) (n + j) x0) ((n + j : Nat) : Int)).2 = _ ∧ e < (lEn s r e (iter (lEn s r e) (n + j) x0) ((n + j : Nat) : Int)).1
    unfold lEn
    split
    · exact ⟨a, b⟩
    · refine ⟨?_, ?_⟩
      · show (if (iter (lEn s r e) (n + j) x0).1 = e then _ else (iter (lEn s r e) (n + j) x0).2) = _
        rw [if_neg (by omega)]
        exact a
      · show e < (iter (lEn s r e) (n + j) x0).1 + 1
        omega
theorem x_entry (hD : q_DK D) (hT : TI s) (hB : MB s) (hS : SC C xs s ks h) {e : Int} (br : bd r) (be : bd e) (hcr : 18000 ≤ h.1) {K : Int32 → qH → Prop} (hok : (0 ≤ r ∧ r ≤ 3) → 0 ≤ e → ∀ h', ST C xs s ks h 18000 h' → K (zI (iter (lEn s r e) ((lLay s r).1.1 14).toNat (0, -1)).2) h') (hno : ¬ ((0 ≤ r ∧ r ≤ 3) ∧ 0 ≤ e) → ∀ h', ST C xs s ks h 18000 h' → X "java/lang/IndexOutOfBoundsException" h') : c_I D m_X1_entry [va_rf (some (C.1 0)), .int (zI r), .int (zI e)] h X K := by
  refine f_X1_entry _ _ _ h (x_layout hD hT hB hS rfl br (by omega) (fun hr A h1 S1 hX => ?_) (fun w h1 S1 => hno (fun q => w q.1) h1 (S1.wk (by omega))))
  obtain ⟨-, -, -, -, -, -, -, hZ, hC, h22, h23⟩ := RF_lay hT hB (r := r) ⟨hr.1, by omega⟩
  have hc := S1.2.2
  have hn := hZ.1
  refine ⟨fun w => ?_, fun w => ?_⟩
  · rw [zl_0, zI_le (by omega) (by omega) be.1 be.2] at w
    have hok := hok hr w h1 (S1.wk (by omega))
    have hLp : ∀ (j n : Nat), n + j = ((lLay s r).1.1 14).toNat → (iter (lEn s r e) n (0, -1)).1 ≤ e → (iter (lEn s r e) n (0, -1)).2 = -1 → 0 ≤ (iter (lEn s r e) n (0, -1)).1 → L_X1_entry_43 D (fun v h1 => ∃ r : Int32, v = some (.int r) ∧ K r h1) X (some (A 0)) (zI (e - (iter (lEn s r e) n (0, -1)).1)) (zI n) h1 := by
      intro j
      induction j with
      | zero =>
        intro n hn9 hle h2 h0
        refine f_X1_entry_43 _ _ _ h1 (lf_lines hX (ln_size hD hX ⟨fun _ => ⟨_, rfl, ?_⟩, fun w2 => ?_⟩))
        · rw [show ((lLay s r).1.1 14).toNat = n by omega, h2] at hok
          exact hok
        · rw [zI_le (by omega) (by omega) (by omega) (by omega)] at w2
          omega
      | succ j ih =>
        intro n hn9 hle h2 h0
        have h19 := (hZ.2 n (by omega) (by omega)).2.1
        have he : (iter (lEn s r e) (n + 1) (0, -1)) = lEn s r e (iter (lEn s r e) n (0, -1)) n := rfl
        have ih := ih (n + 1) (by omega)
        refine f_X1_entry_43 _ _ _ h1 (lf_lines hX (ln_size hD hX ⟨fun w2 => ?_, fun _ => lf_lines hX (ln_get hD hX rfl (by omega) (by omega) (li0 hX (by omega) (by omega) ⟨fun w2 => f_X1_entry_92 _ _ _ h1 ?_, fun w2 => ⟨fun w3 => f_X1_entry_92 _ _ _ h1 ?_, fun w3 => ?_⟩⟩))⟩))
        · rw [zI_le (by omega) (by omega) (by omega) (by omega)] at w2
          omega
        · rw [zl_0, zI_eq (by omega) (by omega) (by omega) (by omega)] at w2
          have e1 : lEn s r e (iter (lEn s r e) n (0, -1)) n = iter (lEn s r e) n (0, -1) := if_pos w2
          rw [he, e1] at ih
          rw [zl_1, zI_add]
          exact ih hle h2 h0
        · rw [zl_0, zI_eq (by omega) (by omega) (by omega) (by omega)] at w2
          rw [zl_0, zI_eq (by have := be.1; omega) (by have := be.2; omega) (by omega) (by omega)] at w3
          have e1 : lEn s r e (iter (lEn s r e) n (0, -1)) n = ((iter (lEn s r e) n (0, -1)).1 + 1, (iter (lEn s r e) n (0, -1)).2) := by
            rw [lEn_head w2, if_neg (by omega)]
          rw [he, e1] at ih
          rw [zl_m1, zI_add, zl_1, zI_add]
          rw [show e - (iter (lEn s r e) n (0, -1)).1 + -1 = e - ((iter (lEn s r e) n (0, -1)).1 + 1) by omega]
          exact ih (by omega) h2 (by show 0 ≤ (iter (lEn s r e) n (0, -1)).1 + 1; omega)
        · rw [zl_0, zI_eq (by omega) (by omega) (by omega) (by omega)] at w2
          rw [zl_0, zI_eq (by have := be.1; omega) (by have := be.2; omega) (by omega) (by omega)] at w3
          have e1 : iter (lEn s r e) (n + 1) (0, -1) = ((iter (lEn s r e) n (0, -1)).1 + 1, lPage s r n) := by
            rw [he, lEn_head w2, if_pos (show (iter (lEn s r e) n (0, -1)).1 = e by omega)]
          obtain ⟨q1, -⟩ := lEn_stay (s := s) (r := r) (e := e) j (n + 1) (0, -1) (by rw [e1]; show e < (iter (lEn s r e) n (0, -1)).1 + 1; omega)
          rw [show n + 1 + j = ((lLay s r).1.1 14).toNat by omega, e1] at q1
          rw [q1] at hok
          exact x_page hD hT S1.1.P hC hn.2 hX ⟨h23.1, by omega⟩ (by omega) (by omega) rfl ⟨_, rfl, hok⟩
    have h9 := hLp ((lLay s r).1.1 14).toNat 0 (by omega) (by show (0 : Int) ≤ e; omega) rfl (Int.le_refl _)
    have e0 : e - (iter (lEn s r e) 0 (0, -1)).1 = e := by show e - 0 = e; omega
    rw [e0] at h9
    exact h9
  · rw [zl_0, zI_le (by omega) (by omega) be.1 be.2] at w
    exact x_throw1 hD (i := 17) rfl (by omega) rfl be (by simp [qXN]) (by omega) (fun h2 hl hc => hno (fun q => w q.2) h2 ((S1.le hl hc).wk (by omega)))
theorem x_marksOf (hD : q_DK D) (hT : TI s) {C : Nat → Nat} (hP : CP C xs s h) {A : Nat → Nat} (hX : LX A (C 0) r (lLay s r) h) (hb15 : ∀ u : Int, 0 ≤ u → u < s.1 0 → -1 ≤ (lLay s r).1.2 15 u ∧ (lLay s r).1.2 15 u ≤ 64) {m : Int} (hm : 0 ≤ m ∧ m < 10) {p : Int32} (hp : p = zI m) {K : Int32 → qH → Prop} (k9 : K (zI (cnt (lMk s r m) (s.1 0).toNat : Nat)) h) : recv D h (some (C 0)) RX1 ∧ c_I D m_X1_marksOf [va_rf (some (C 0)), va_rf (some (A 0)), .int p] h X K := by
  subst hp
  have h64 := hT.1
  have hrc : recv D h (some (C 0)) RX1 := by
    obtain ⟨⟨V, a, -⟩, -⟩ := hP
    exact rcv a rfl
  refine ⟨hrc, f_X1_marksOf _ _ _ h ?_⟩
  have hLp : ∀ j n : Nat, n + j = (s.1 0).toNat → L_X1_marksOf_5 D (fun v h1 => ∃ r : Int32, v = some (.int r) ∧ K r h1) X (C 0) (A 0) (zI m) (zI (cnt (lMk s r m) n : Nat)) (zI n) h := by
    intro j
    induction j with
    | zero =>
      intro n hn
      refine f_X1_marksOf_5 _ _ _ _ _ h (cp_story hP (st_size hD hP ⟨fun _ => ⟨_, rfl, ?_⟩, fun w => ?_⟩))
      · rw [show n = (s.1 0).toNat by omega]
        exact k9
      · rw [zI_le (by omega) (by omega) (by omega) (by omega)] at w
        omega
    | succ j ih =>
      intro n hn
      have ih := ih (n + 1) (by omega)
      rw [cnt_s] at ih
      have hb := cnt_le (lMk s r m) n
      generalize cnt (lMk s r m) n = c at *
      have hk := hT.tok (t := (n : Int)) (by omega) (by omega)
      have hk1 := hk.1
      have hk2 := hk.2.2.1
      have h15 := hb15 n (by omega) (by omega)
      have hlb := mRootS_bd hT 10 (s.2 2 n) ⟨hk2.1, by omega⟩
      have hlb : 0 ≤ mLast s (s.2 2 n) ∧ mLast s (s.2 2 n) < 10 := hlb
      have h83 : ∀ y : Int, y = (if lMk s r m n = true then 1 else 0) → L_X1_marksOf_83 D (fun v h1 => ∃ r : Int32, v = some (.int r) ∧ K r h1) X (C 0) (A 0) (zI m) (zI n) (zI y) (zI c) h := by
        intro y hy
        refine f_X1_marksOf_83 _ _ _ _ _ _ h ?_
        rw [zl_1, zI_add, zI_add, hy]
        exact ih
      have h82 : ¬ (s.2 1 n = 6 ∧ (lLay s r).1.2 15 n ≠ -1 ∧ mLast s (s.2 2 n) = m) → L_X1_marksOf_82 D (fun v h1 => ∃ r : Int32, v = some (.int r) ∧ K r h1) X (C 0) (A 0) (zI m) (zI n) (zI c) h := fun q => f_X1_marksOf_82 _ _ _ _ _ h (h83 0 (if_neg (fun z => q (of_decide_eq_true z))).symm)
      refine f_X1_marksOf_5 _ _ _ _ _ h (cp_story hP (st_size hD hP ⟨fun w => ?_, fun _ => cp_story hP (st_get hD hP rfl (by omega) (by omega) (tk0 hP (by omega) (by omega) ⟨fun w => h82 ?_, fun w => lf_lineOf hX (la15 hX rfl (by omega) (by omega) ⟨fun w2 => h82 ?_, fun w2 => cp_story hP (st_get hD hP rfl (by omega) (by omega) (tk1 hP (by omega) (by omega) (x_rootOf hT hP ⟨hk2.1, by omega⟩ rfl ⟨fun w3 => h82 ?_, fun w3 => h83 1 ?_⟩)))⟩)⟩))⟩))
      · rw [zI_le (by omega) (by omega) (by omega) (by omega)] at w
        omega
      · rw [zl_6, zI_eq (by omega) (by omega) (by omega) (by omega)] at w
        exact fun q => w q.1
      · rw [zl_m1, zI_eq (by omega) (by omega) (by omega) (by omega)] at w2
        exact fun q => q.2.1 w2
      · rw [zI_eq (by omega) (by omega) (by omega) (by omega)] at w3
        exact fun q => w3 q.2.2
      · rw [zl_6, zI_eq (by omega) (by omega) (by omega) (by omega)] at w
        rw [zl_m1, zI_eq (by omega) (by omega) (by omega) (by omega)] at w2
        rw [zI_eq (by omega) (by omega) (by omega) (by omega)] at w3
        exact (if_pos (decide_eq_true ⟨w, w2, w3⟩)).symm
  exact hLp (s.1 0).toNat 0 (by omega)
end CO7
