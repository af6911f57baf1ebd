set_option maxRecDepth 100000
/-! the component: lines are made -/
def lPut (v : lV) (o t : Int) : lV := lA (lAdd v (6 + 3 * o.toNat) t) 15 t (v.1.1 14 - 1)
/-- the lines so far, the open one or -1, how many the paragraph has -/
def lLn (k : mS) (y : lV × Int × Int) (t : Int) : lV × Int × Int :=
  if k.2 1 t = 2 then (y.1, -1, 0)
  else if k.2 1 t = 3 then (lPut (lNew y.1 1 (mWide k 0 t)) (y.1.1.1 14) t, -1, 0)
  else if mPrn k 0 t then
    (if y.2.1 = -1 then (lPut (lNew y.1 0 (mWide k 0 t)) (y.1.1.1 14) t, y.1.1.1 14, 1)
     else if y.1.1.2 38 y.2.1 + 1 + mWide k 0 t ≤ k.1 8 then (lPut (lA y.1 38 y.2.1 (y.1.1.2 38 y.2.1 + (1 + mWide k 0 t))) y.2.1 t, y.2.1, y.2.2)
     else (lPut (lNew (if y.2.2 = 1 then lA y.1 21 y.2.1 1 else y.1) 0 (mWide k 0 t)) (y.1.1.1 14) t, y.1.1.1 14, y.2.2 + 1))
  else y
def lInv (t : Int) (y : lV × Int × Int) : Prop := (0 ≤ y.1.1.1 14 ∧ y.1.1.1 14 ≤ t) ∧ ((y.2.1 = -1 ∧ y.2.2 = 0) ∨ (0 ≤ y.2.1 ∧ y.2.1 < y.1.1.1 14 ∧ 1 ≤ y.2.2)) ∧ (0 ≤ y.2.2 ∧ y.2.2 ≤ t) ∧ (∀ i, 0 ≤ i → i < y.1.1.1 14 → 0 ≤ y.1.1.2 38 i ∧ y.1.1.2 38 i ≤ 40) ∧ ∀ j, ((y.1.2 j).length : Int) ≤ t
def oref (W : mW) (o : Int) : Option Nat := if o = -1 then none else some (W.1 (5 + 3 * o.toNat))
theorem lLn_2 {k : mS} {y : lV × Int × Int} {t : Int} (h : k.2 1 t = 2) : lLn k y t = (y.1, -1, 0) := if_pos h
theorem lLn_3 {k : mS} {y : lV × Int × Int} {t : Int} (h2 : k.2 1 t ≠ 2) (h : k.2 1 t = 3) : lLn k y t = (lPut (lNew y.1 1 (mWide k 0 t)) (y.1.1.1 14) t, -1, 0) := by
  unfold lLn
  rw [if_neg h2, if_pos h]
theorem lLn_p0 {k : mS} {y : lV × Int × Int} {t : Int} (h2 : k.2 1 t ≠ 2) (h3 : k.2 1 t ≠ 3) (hp : mPrn k 0 t) (ho : y.2.1 = -1) : lLn k y t = (lPut (lNew y.1 0 (mWide k 0 t)) (y.1.1.1 14) t, y.1.1.1 14, 1) := by
  unfold lLn
  rw [if_neg h2, if_neg h3, if_pos hp, if_pos ho]
theorem lLn_fit {k : mS} {y : lV × Int × Int} {t : Int} (h2 : k.2 1 t ≠ 2) (h3 : k.2 1 t ≠ 3) (hp : mPrn k 0 t) (ho : y.2.1 ≠ -1) (hf : y.1.1.2 38 y.2.1 + 1 + mWide k 0 t ≤ k.1 8) : lLn k y t = (lPut (lA y.1 38 y.2.1 (y.1.1.2 38 y.2.1 + (1 + mWide k 0 t))) y.2.1 t, y.2.1, y.2.2) := by
  unfold lLn
  rw [if_neg h2, if_neg h3, if_pos hp, if_neg ho, if_pos hf]
theorem lLn_new {k : mS} {y : lV × Int × Int} {t : Int} (h2 : k.2 1 t ≠ 2) (h3 : k.2 1 t ≠ 3) (hp : mPrn k 0 t) (ho : y.2.1 ≠ -1) (hf : ¬ y.1.1.2 38 y.2.1 + 1 + mWide k 0 t ≤ k.1 8) : lLn k y t = (lPut (lNew (if y.2.2 = 1 then lA y.1 21 y.2.1 1 else y.1) 0 (mWide k 0 t)) (y.1.1.1 14) t, y.1.1.1 14, y.2.2 + 1) := by
  unfold lLn
  rw [if_neg h2, if_neg h3, if_pos hp, if_neg ho, if_neg hf]
theorem lLn_no {k : mS} {y : lV × Int × Int} {t : Int} (h2 : k.2 1 t ≠ 2) (h3 : k.2 1 t ≠ 3) (hp : ¬ mPrn k 0 t) : lLn k y t = y := by
  unfold lLn
  rw [if_neg h2, if_neg h3, if_neg hp]
section MKL
variable {D : qD} {C : Nat → Nat} {xs : List Nat} {s : mS} {g0 : qH} {W : mW} {v : lV} {h : qH} {r : Int} {Q : Option Value → qH → Prop} {X : String → qH → Prop}
theorem lPut_14 {v : lV} {o t : Int} : (lPut v o t).1.1 14 = v.1.1 14 := rfl
theorem lNew_14 {v : lV} {a b : Int} : (lNew v a b).1.1 14 = v.1.1 14 + 1 := rfl
theorem lNew_38 {v : lV} {a b : Int} {i : Int} : (lNew v a b).1.2 38 i = if i = v.1.1 14 then b else v.1.2 38 i := by
  unfold lNew
  simp [mF, mA]
theorem lPut_38 {v : lV} {o t i : Int} : (lPut v o t).1.2 38 i = v.1.2 38 i := rfl
theorem lPut_len {v : lV} {o t : Int} {j : Nat} : (((lPut v o t).2 j).length : Int) ≤ (v.2 j).length + 1 := by
  show (((if j = 6 + 3 * o.toNat then v.2 j ++ [t] else v.2 j).length : Nat) : Int) ≤ _
  split
  · rw [List.length_append]
    show (((v.2 j).length + 1 : Nat) : Int) ≤ _
    omega
  · omega
theorem lNew_len {v : lV} {a b : Int} {j : Nat} : ((lNew v a b).2 j).length ≤ (v.2 j).length := by
  show (if j = _ ∨ j = _ then [] else v.2 j).length ≤ _
  split
  · exact Nat.zero_le _
  · exact Nat.le_refl _
theorem lInv_step (hT : TI s) (hr : 0 ≤ r ∧ r < 4) {t : Int} (h0 : 0 ≤ t) (h1 : t < s.1 0) {y : lV × Int × Int} (hI : lInv t y) : lInv (t + 1) (lLn (canon s r) y t) := by
  obtain ⟨i1, i2, i3, i4, i5⟩ := hI
  have hw := mWide_bd hT hr h0 h1
  rw [← canon_wide (r := r) hT h0 h1] at hw
  have h8 := hT.2.2.2.2.1
  have hmono : lInv (t + 1) y := ⟨by omega, i2, by omega, i4, fun j => by have := i5 j; omega⟩
  have hnew : ∀ (v : lV) (hd o f : Int), v.1.1 14 = y.1.1.1 14 → (∀ i, 0 ≤ i → i < v.1.1 14 → 0 ≤ v.1.2 38 i ∧ v.1.2 38 i ≤ 40) → (∀ j, ((v.2 j).length : Int) ≤ t) → ((o = -1 ∧ f = 0) ∨ (0 ≤ o ∧ o < y.1.1.1 14 + 1 ∧ 1 ≤ f)) → (0 ≤ f ∧ f ≤ t + 1) → lInv (t + 1) (lPut (lNew v hd (mWide (canon s r) 0 t)) (y.1.1.1 14) t, o, f) := by
    intro v hd o f e14 v38 vl ho hf
    refine ⟨?_, ?_, hf, fun i a b => ?_, fun j => ?_⟩
    · show 0 ≤ (lPut (lNew v hd (mWide (canon s r) 0 t)) (y.1.1.1 14) t).1.1 14 ∧ (lPut (lNew v hd (mWide (canon s r) 0 t)) (y.1.1.1 14) t).1.1 14 ≤ t + 1
      rw [lPut_14, lNew_14]
      omega
    · show (o = -1 ∧ f = 0) ∨ (0 ≤ o ∧ o < (lPut (lNew v hd (mWide (canon s r) 0 t)) (y.1.1.1 14) t).1.1 14 ∧ 1 ≤ f)
      rw [lPut_14, lNew_14]
      omega
    · rw [lPut_14, lNew_14] at b
      rw [lPut_38, lNew_38]
      split
      · omega
      · exact v38 i a (by omega)
    · have a1 := lPut_len (v := lNew v hd (mWide (canon s r) 0 t)) (o := y.1.1.1 14) (t := t) (j := j)
      have a2 := lNew_len (v := v) (a := hd) (b := mWide (canon s r) 0 t) (j := j)
      have a3 := vl j
      show (((lPut (lNew v hd (mWide (canon s r) 0 t)) (y.1.1.1 14) t).2 j).length : Int) ≤ t + 1
      omega
  unfold lLn
  split
  · exact ⟨hmono.1, Or.inl ⟨rfl, rfl⟩, ⟨by show (0 : Int) ≤ 0; omega, by show (0 : Int) ≤ t + 1; omega⟩, i4, hmono.2.2.2.2⟩
  split
  · exact hnew y.1 1 (-1) 0 rfl i4 i5 (Or.inl ⟨rfl, rfl⟩) ⟨by omega, by omega⟩
  split
  · split
    · exact hnew y.1 0 (y.1.1.1 14) 1 rfl i4 i5 (Or.inr ⟨by omega, by omega, by omega⟩) ⟨by omega, by omega⟩
    · next hno =>
      have i2 := i2.resolve_left (fun q => hno q.1)
      split
      · next hfit =>
        have hfit : y.1.1.2 38 y.2.1 + 1 + mWide (canon s r) 0 t ≤ s.1 8 := hfit
        refine ⟨hmono.1, hmono.2.1, hmono.2.2.1, fun i a b => ?_, fun j => ?_⟩
        · show 0 ≤ (if 38 = 38 ∧ i = y.2.1 then y.1.1.2 38 y.2.1 + (1 + mWide (canon s r) 0 t) else y.1.1.2 38 i) ∧ (if 38 = 38 ∧ i = y.2.1 then y.1.1.2 38 y.2.1 + (1 + mWide (canon s r) 0 t) else y.1.1.2 38 i) ≤ 40
          split
          · have := i4 y.2.1 i2.1 i2.2.1
            omega
          · exact i4 i a b
        · have a1 := lPut_len (v := lA y.1 38 y.2.1 (y.1.1.2 38 y.2.1 + (1 + mWide (canon s r) 0 t))) (o := y.2.1) (t := t) (j := j)
          have a3 := i5 j
          show (((lPut (lA y.1 38 y.2.1 (y.1.1.2 38 y.2.1 + (1 + mWide (canon s r) 0 t))) y.2.1 t).2 j).length : Int) ≤ t + 1
          have a4 : ((lA y.1 38 y.2.1 (y.1.1.2 38 y.2.1 + (1 + mWide (canon s r) 0 t))).2 j).length = (y.1.2 j).length := rfl
          omega
      · refine hnew (if y.2.2 = 1 then lA y.1 21 y.2.1 1 else y.1) 0 (y.1.1.1 14) (y.2.2 + 1) ?_ ?_ ?_ (Or.inr ⟨by omega, by omega, by omega⟩) ⟨by omega, by omega⟩
        · split <;> rfl
        · split
          · exact i4
          · exact i4
        · split
          · exact i5
          · exact i5
  · exact hmono
theorem mk_6 (hP : CP C xs s g0) (hH : LH (C 0) r g0 W v h) {t : Int} (h0 : 0 ≤ t) (h1 : t < s.1 0) (hT : TI s) {o : Option Nat} {f : Int} (G : L_X5_makesLines_6 D Q X (W.1 0) (if s.2 1 t = 3 then none else o) (zI (if s.2 1 t = 3 then 0 else f)) (zI (t + 1)) h) : L_X5_makesLines_210 D Q X (W.1 0) o (zI f) (zI t) (some (xs.getD t.toNat 0)) h := by
  have hP := hP.le hH.le
  have hk := (hT.tok h0 h1).1
  have h64 := hT.1
  refine f_X5_makesLines_210 _ _ _ _ _ h (tk0 hP h0 h1 ⟨fun w => f_X5_makesLines_223 _ _ _ _ h ?_, fun w => f_X5_makesLines_223 _ _ _ _ h ?_⟩)
  · rw [zl_3, zI_eq (by omega) (by omega) (by omega) (by omega)] at w
    rw [if_neg w, if_neg w] at G
    rw [zl_1, zI_add]
    exact G
  · rw [zl_3, zI_eq (by omega) (by omega) (by omega) (by omega)] at w
    rw [if_pos w, if_pos w] at G
    rw [zl_1, zI_add]
    exact G
theorem mk_179 (hD : q_DK D) (hP : CP C xs s g0) (hT : TI s) (hH : LH (C 0) r g0 W v h) {o t f : Int} (ho : 0 ≤ o ∧ o < v.1.1 14) (h0 : 0 ≤ t) (h1 : t < s.1 0) (hl : (v.2 (6 + 3 * o.toNat)).length ≤ 64) (hcr : 26 ≤ h.1) (G : ∀ h', LH (C 0) r g0 W (lPut v o t) h' → h.1 ≤ h'.1 + 26 → L_X5_makesLines_6 D Q X (W.1 0) (if s.2 1 t = 3 then none else some (W.1 (5 + 3 * o.toNat))) (zI (if s.2 1 t = 3 then 0 else f)) (zI (t + 1)) h') : L_X5_makesLines_179 D Q X (W.1 0) (some (W.1 (5 + 3 * o.toNat))) (zI f) (zI t) (some (xs.getD t.toNat 0)) h := by
  have h64 := hT.1
  refine f_X5_makesLines_179 _ _ _ _ _ h (li1 hH.lx ho.1 ho.2 (LH_add hD hH ⟨by omega, by omega⟩ (by omega) ⟨by omega, by omega⟩ rfl hl hcr (fun h4 H4 c4 => lf_lineOf H4.lx (lf_lines H4.lx (ln_size hD H4.lx (LH_S H4 (Or.inl ⟨rfl, rfl⟩) rfl h0 (by omega) (by rw [zl_1, zI_sub]; rfl) (fun h5 H5 c5 => mk_6 hP H5 h0 h1 hT (G h5 H5 (by omega)))))))))
theorem mk_121 (hD : q_DK D) (hP : CP C xs s g0) (hT : TI s) (hH : LH (C 0) r g0 W v h) {t f w : Int} (hn : v.1.1 14 ≤ 63) (h0 : 0 ≤ t) (h1 : t < s.1 0) (hl : ∀ j, (v.2 j).length ≤ 64) (hcr : 70 ≤ h.1) (G : ∀ W' h', LH (C 0) r g0 W' (lPut (lNew v (if s.2 1 t = 3 then 1 else 0) w) (v.1.1 14) t) h' → (∀ k : Nat, (k : Int) < 3 * v.1.1 14 + 5 → W'.1 k = W.1 k) → h.1 ≤ h'.1 + 70 → L_X5_makesLines_6 D Q X (W'.1 0) (if s.2 1 t = 3 then none else some (W'.1 (5 + 3 * (v.1.1 14).toNat))) (zI (if s.2 1 t = 3 then 0 else f + 1)) (zI (t + 1)) h') : L_X5_makesLines_121 D Q X (W.1 0) (zI f) (zI t) (some (xs.getD t.toNat 0)) (zI w) h := by
  have hk := (hT.tok h0 h1).1
  have h14 := hH.1
  have h64 := hT.1
  refine f_X5_makesLines_121 _ _ _ _ _ h ⟨by show 2 ≤ h.1; omega, fun a1 ha1 => ?_⟩
  have hP1 : CP C xs s (q_new h 2 a1 (c_ob 5 (fun k => defaultValue (tyX6 k)))) := hP.le (hH.le.new (hH.le.no ha1))
  have h139 : ∀ hd : Int, hd = (if s.2 1 t = 3 then 1 else 0) → L_X5_makesLines_139 D Q X (W.1 0) (zI f) (zI t) (some (xs.getD t.toNat 0)) (zI w) (zI hd) a1 a1 (q_new h 2 a1 (c_ob 5 (fun k => defaultValue (tyX6 k)))) := by
    intro hd hhd
    refine f_X5_makesLines_139 _ _ _ _ _ _ _ _ _ (LH_new hD hH hn (by omega) ha1 (hd := hd) (w := w) (by rw [hhd]; split <;> simp) rfl rfl (fun W' h' H' e1 e2 c' => ?_))
    subst hhd
    rw [← e1 0 (by omega), ← e2, zl_1, zI_add]
    have e14 : (lNew v (if s.2 1 t = 3 then 1 else 0) w).1.1 14 = v.1.1 14 + 1 := rfl
    refine mk_179 hD hP hT H' ⟨h14, by omega⟩ h0 h1 (Nat.le_trans lNew_len (hl _)) (by omega) (fun h5 H5 c5 => G W' h5 H5 e1 (by omega))
  refine tk0 hP1 h0 h1 ⟨fun w => h139 0 ?_, fun w => h139 1 ?_⟩
  · rw [zl_3, zI_eq (by omega) (by omega) (by omega) (by omega)] at w
    rw [if_neg w]
  · rw [zl_3, zI_eq (by omega) (by omega) (by omega) (by omega)] at w
    rw [if_pos w]
theorem x_makes (hD : q_DK D) (hP : CP C xs s g0) (hT : TI s) (hr : 0 ≤ r ∧ r < 4) {y0 : lV × Int × Int} (hI0 : lInv 0 y0) (ho : y0.2.1 = -1) (hf : y0.2.2 = 0) (hH : LH (C 0) r g0 W y0.1 h) (hcr : 70 * 64 + 10 ≤ h.1) {K : qH → Prop} (k9 : ∀ W' h', LH (C 0) r g0 W' (iter (lLn (canon s r)) (s.1 0).toNat y0).1 h' → W'.1 0 = W.1 0 → h.1 ≤ h'.1 + 70 * 64 → K h') : recv D h (some (W.1 0)) RX5 ∧ c_V D m_X5_makesLines [va_rf (some (W.1 0))] h X K := by
  have h64 := hT.1
  refine ⟨hH.lx.rc, ?_⟩
  have hIn : ∀ n : Nat, (n : Int) ≤ s.1 0 → lInv n (iter (lLn (canon s r)) n y0) := by
    intro n
    induction n with
    | zero => intro _; exact hI0
    | succ n ih => intro hn; exact lInv_step hT hr (by omega) (by omega) (ih (by omega))
  have hLp : ∀ (j n : Nat) (W' : mW) (h' : qH), n + j = (s.1 0).toNat → LH (C 0) r g0 W' (iter (lLn (canon s r)) n y0).1 h' → W'.1 0 = W.1 0 → 70 * j ≤ h'.1 → h.1 + 70 * j ≤ h'.1 + 70 * 64 → L_X5_makesLines_6 D (fun v h1 => v = none ∧ K h1) X (W'.1 0) (oref W' (iter (lLn (canon s r)) n y0).2.1) (zI (iter (lLn (canon s r)) n y0).2.2) (zI n) h' := by
    intro j
    induction j with
    | zero =>
      intro n W' h' hn H' e0 c0 c1
      have hP' := hP.le H'.le
      refine f_X5_makesLines_6 _ _ _ _ h' (lf_this H'.lx (cp_story hP' (st_size hD hP' ⟨fun w => ⟨rfl, k9 W' h' ?_ e0 (by omega)⟩, fun w => ?_⟩)))
      · rw [show (s.1 0).toNat = n by omega]
        exact H'
      · rw [zI_le (by omega) (by omega) (by omega) (by omega)] at w
        omega
    | succ j ih =>
      intro n W' h' hn H' e0 c0 c1
      have hP' := hP.le H'.le
      have ih : ∀ (W' : mW) (h' : qH), LH (C 0) r g0 W' (lLn (canon s r) (iter (lLn (canon s r)) n y0) n).1 h' → W'.1 0 = W.1 0 → 70 * j ≤ h'.1 → h.1 + 70 * j ≤ h'.1 + 70 * 64 → L_X5_makesLines_6 D (fun v h1 => v = none ∧ K h1) X (W'.1 0) (oref W' (lLn (canon s r) (iter (lLn (canon s r)) n y0) n).2.1) (zI (lLn (canon s r) (iter (lLn (canon s r)) n y0) n).2.2) (zI ((n : Int) + 1)) h' := fun W' h' => ih (n + 1) W' h' (by omega)
      have hI := hIn n (by omega)
      generalize iter (lLn (canon s r)) n y0 = y at *
      obtain ⟨i1, i2, i3, i4, i5⟩ := hI
      have hk := (hT.tok (t := (n : Int)) (by omega) (by omega)).1
      have hw := mWide_bd hT hr (t := (n : Int)) (by omega) (by omega)
      have h8 := hT.2.2.2.2.1
      have hprn := canon_prn (r := r) hT (t := (n : Int)) (by omega) (by omega)
      have hwid := canon_wide (r := r) hT (t := (n : Int)) (by omega) (by omega)
      have hPr : ∀ {K : Int32 → qH → Prop}, K (zI (if mPrn s r n then 1 else 0)) h' → recv D h' (some (W'.1 0)) RX5 ∧ c_I D m_X5_isPrinted [va_rf (some (W'.1 0)), va_rf (some (xs.getD (n : Int).toNat 0))] h' X K := fun k9 => x_isPrinted hT hP' H'.lx.B hr (by omega) (by omega) k9
      have hWd : mPrn s r n → ∀ {K : Int32 → qH → Prop}, K (zI (mWide s r n)) h' → recv D h' (some (W'.1 0)) RX5 ∧ c_I D m_X5_widthOf [va_rf (some (W'.1 0)), va_rf (some (xs.getD (n : Int).toNat 0))] h' X K := fun hp _ k9 => x_widthOf hT hP' H'.lx.B hr (by omega) (by omega) hp k9
      have hno : ∀ {o : Option Nat} {f : Int}, ¬ mPrn s r n → L_X5_makesLines_210 D (fun v h1 => v = none ∧ K h1) X (W'.1 0) o (zI f) (zI n) (some (xs.getD (n : Int).toNat 0)) h' → L_X5_makesLines_62 D (fun v h1 => v = none ∧ K h1) X (W'.1 0) o (zI f) (zI n) (some (xs.getD (n : Int).toNat 0)) h' := by
        intro o f hp G
        refine f_X5_makesLines_62 _ _ _ _ _ h' (hPr ⟨fun _ => G, fun w => ?_⟩)
        rw [if_neg hp] at w
        exact absurd zl_0.symm w
      by_cases k2 : s.2 1 n = 2
      · have hp : ¬ mPrn s r n := by unfold mPrn; omega
        rw [lLn_2 (show (canon s r).2 1 n = 2 from k2)] at ih
        refine f_X5_makesLines_6 _ _ _ _ h' (lf_this H'.lx (cp_story hP' (st_size hD hP' ⟨fun w => ?_, fun w => lf_this H'.lx (cp_story hP' (st_get hD hP' rfl (by omega) (by omega) (tk0 hP' (by omega) (by omega) ⟨fun w2 => f_X5_makesLines_58 _ _ _ h' (hno (f := 0) hp (mk_6 hP H' (by omega) (by omega) hT ?_)), fun w2 => ?_⟩)))⟩)))
        · rw [zI_le (by omega) (by omega) (by omega) (by omega)] at w
          omega
        · rw [if_neg (by omega), if_neg (by omega)]
          exact ih W' h' H' e0 (by omega) (by omega)
        · rw [zl_2, zI_eq (by omega) (by omega) (by omega) (by omega)] at w2
          exact absurd k2 w2
      by_cases k3 : s.2 1 n = 3
      · have hp : mPrn s r n := Or.inr (Or.inl k3)
        rw [lLn_3 (show (canon s r).2 1 n ≠ 2 from k2) (show (canon s r).2 1 n = 3 from k3), hwid] at ih
        have h62 : L_X5_makesLines_62 D (fun v h1 => v = none ∧ K h1) X (W'.1 0) none (zI 0) (zI n) (some (xs.getD (n : Int).toNat 0)) h' := by
          refine f_X5_makesLines_62 _ _ _ _ _ h' (hPr ⟨fun w => ?_, fun _ => hWd hp (tk0 hP' (by omega) (by omega) ⟨fun w3 => f_X5_makesLines_111 _ _ _ _ _ _ h' ⟨fun _ => mk_121 hD hP hT H' (by omega) (by omega) (by omega) (fun j => by have := i5 j; omega) (by omega) (fun W2 h2 H2 q1 q2 => ?_), fun w4 => absurd w4 (by decide)⟩, fun w3 => ?_⟩)⟩)
          · rw [if_pos hp] at w
            exact absurd w (by decide)
          · rw [if_pos k3] at H2
            rw [if_pos k3, if_pos k3]
            exact ih W2 h2 H2 ((q1 0 (by omega)).trans e0) (by omega) (by omega)
          · rw [zl_3, zI_eq (by omega) (by omega) (by omega) (by omega)] at w3
            exact absurd k3 w3
        refine f_X5_makesLines_6 _ _ _ _ h' (lf_this H'.lx (cp_story hP' (st_size hD hP' ⟨fun w => ?_, fun w => lf_this H'.lx (cp_story hP' (st_get hD hP' rfl (by omega) (by omega) (tk0 hP' (by omega) (by omega) ⟨fun w2 => f_X5_makesLines_58 _ _ _ h' h62, fun w2 => tk0 hP' (by omega) (by omega) ⟨fun w3 => ?_, fun w3 => f_X5_makesLines_58 _ _ _ h' h62⟩⟩)))⟩)))
        · rw [zI_le (by omega) (by omega) (by omega) (by omega)] at w
          omega
        · rw [zl_3, zI_eq (by omega) (by omega) (by omega) (by omega)] at w3
          exact absurd k3 w3
      have h62 : L_X5_makesLines_62 D (fun v h1 => v = none ∧ K h1) X (W'.1 0) (oref W' y.2.1) (zI y.2.2) (zI n) (some (xs.getD (n : Int).toNat 0)) h' := by
        by_cases hp : mPrn s r n
        · refine f_X5_makesLines_62 _ _ _ _ _ h' (hPr ⟨fun w => ?_, fun _ => hWd hp (tk0 hP' (by omega) (by omega) ⟨fun w3 => ?_, fun _ => ?_⟩)⟩)
          · rw [if_pos hp] at w
            exact absurd w (by decide)
          · rw [zl_3, zI_eq (by omega) (by omega) (by omega) (by omega)] at w3
            exact absurd w3 k3
          · by_cases ho : y.2.1 = -1
            · have hf : y.2.2 = 0 := by omega
              rw [lLn_p0 (show (canon s r).2 1 n ≠ 2 from k2) (show (canon s r).2 1 n ≠ 3 from k3) (hprn.mpr hp) ho, hwid] at ih
              have er : oref W' y.2.1 = none := if_pos ho
              rw [er, hf]
              refine ⟨fun _ => f_X5_makesLines_111 _ _ _ _ _ _ h' ⟨fun _ => mk_121 hD hP hT H' (by omega) (by omega) (by omega) (fun j => by have := i5 j; omega) (by omega) (fun W2 h2 H2 q1 q2 => ?_), fun w4 => absurd w4 (by decide)⟩, fun w => absurd rfl w⟩
              rw [if_neg k3] at H2
              rw [if_neg k3, if_neg k3]
              have er2 : oref W2 (y.1.1.1 14) = some (W2.1 (5 + 3 * (y.1.1.1 14).toNat)) := if_neg (by omega)
              rw [← er2]
              exact ih W2 h2 H2 ((q1 0 (by omega)).trans e0) (by omega) (by omega)
            · have hov := i2.resolve_left (fun q => ho q.1)
              have er : oref W' y.2.1 = some (W'.1 (5 + 3 * y.2.1.toNat)) := if_neg ho
              have hwo := i4 y.2.1 hov.1 hov.2.1
              rw [er]
              refine ⟨fun w => (by cases w), fun _ => li3 H'.lx hov.1 hov.2.1 (lf_this H'.lx (cp_w hP' ⟨fun w => ?_, fun w => ?_⟩))⟩
              · rw [zl_1, zI_add, zI_add, zI_le (by omega) (by omega) (by omega) (by omega)] at w
                rw [lLn_fit (show (canon s r).2 1 n ≠ 2 from k2) (show (canon s r).2 1 n ≠ 3 from k3) (hprn.mpr hp) ho (by rw [hwid]; exact w), hwid] at ih
                refine li3 H'.lx hov.1 hov.2.1 (LH_L H' (Or.inl ⟨rfl, rfl⟩) hov.1 hov.2.1 (by rw [zl_1, zI_add, zI_add]) (fun h2 H2 c2 => mk_179 hD hP hT H2 ⟨hov.1, hov.2.1⟩ (by omega) (by omega) (by have := i5 (6 + 3 * y.2.1.toNat); show (y.1.2 (6 + 3 * y.2.1.toNat)).length ≤ 64; omega) (by omega) (fun h3 H3 c3 => ?_)))
                rw [if_neg k3, if_neg k3, ← er]
                exact ih W' h3 H3 e0 (by omega) (by omega)
              · rw [zl_1, zI_add, zI_add, zI_le (by omega) (by omega) (by omega) (by omega)] at w
                have ih := fun (hz : ∀ a b : Int, a = b → a = b) => ih
                have hnew : ∀ (v2 : lV) (h2 : qH), v2 = (if y.2.2 = 1 then lA y.1 21 y.2.1 1 else y.1) → LH (C 0) r g0 W' v2 h2 → h2.1 = h'.1 → L_X5_makesLines_121 D (fun v h1 => v = none ∧ K h1) X (W'.1 0) (zI y.2.2) (zI n) (some (xs.getD (n : Int).toNat 0)) (zI (mWide s r n)) h2 := by
                  intro v2 h2 hv H2 c2
                  have ih := ih (fun _ _ q => q)
                  rw [lLn_new (show (canon s r).2 1 n ≠ 2 from k2) (show (canon s r).2 1 n ≠ 3 from k3) (hprn.mpr hp) ho (by rw [hwid]; exact w), hwid, ← hv] at ih
                  have e14 : v2.1.1 14 = y.1.1.1 14 := by rw [hv]; split <;> rfl
                  have e2l : ∀ j, v2.2 j = y.1.2 j := by intro j; rw [hv]; split <;> rfl
                  rw [← e14] at ih
                  refine mk_121 hD hP hT H2 (by omega) (by omega) (by omega) (fun j => by have := i5 j; rw [e2l]; omega) (by omega) (fun W2 h3 H3 q1 q2 => ?_)
                  rw [if_neg k3] at H3
                  rw [if_neg k3, if_neg k3]
                  have er2 : oref W2 (v2.1.1 14) = some (W2.1 (5 + 3 * (v2.1.1 14).toNat)) := if_neg (by omega)
                  rw [← er2]
                  exact ih W2 h3 H3 ((q1 0 (by omega)).trans e0) (by omega) (by omega)
                refine f_X5_makesLines_111 _ _ _ _ _ _ h' ⟨fun w4 => hnew y.1 h' ?_ H' rfl, fun w4 => LH_L H' (Or.inr (Or.inr (Or.inl ⟨rfl, rfl⟩))) hov.1 hov.2.1 zl_1 (fun h2 H2 c2 => hnew _ h2 ?_ H2 c2)⟩
                · rw [zl_1, zI_eq (by omega) (by omega) (by omega) (by omega)] at w4
                  rw [if_neg w4]
                · rw [zl_1, zI_eq (by omega) (by omega) (by omega) (by omega)] at w4
                  rw [if_pos w4]
        · rw [lLn_no (show (canon s r).2 1 n ≠ 2 from k2) (show (canon s r).2 1 n ≠ 3 from k3) (fun q => hp (hprn.mp q))] at ih
          refine hno hp (mk_6 hP H' (by omega) (by omega) hT ?_)
          rw [if_neg k3, if_neg k3]
          exact ih W' h' H' e0 (by omega) (by omega)
      refine f_X5_makesLines_6 _ _ _ _ h' (lf_this H'.lx (cp_story hP' (st_size hD hP' ⟨fun w => ?_, fun w => lf_this H'.lx (cp_story hP' (st_get hD hP' rfl (by omega) (by omega) (tk0 hP' (by omega) (by omega) ⟨fun w2 => ?_, fun w2 => tk0 hP' (by omega) (by omega) ⟨fun w3 => h62, fun w3 => ?_⟩⟩)))⟩)))
      · rw [zI_le (by omega) (by omega) (by omega) (by omega)] at w
        omega
      · rw [zl_2, zI_eq (by omega) (by omega) (by omega) (by omega)] at w2
        exact absurd w2 k2
      · rw [zl_3, zI_eq (by omega) (by omega) (by omega) (by omega)] at w3
        exact absurd w3 k3
  have h9 := hLp (s.1 0).toNat 0 W h (by omega) hH rfl (by omega) (by omega)
  have e1 : (iter (lLn (canon s r)) 0 y0).2.1 = -1 := ho
  have e2 : (iter (lLn (canon s r)) 0 y0).2.2 = 0 := hf
  rw [e1, e2] at h9
  exact f_X5_makesLines _ h h9
end MKL
