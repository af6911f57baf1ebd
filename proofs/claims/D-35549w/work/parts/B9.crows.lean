set_option maxRecDepth 100000
/-! the component: rows of a line -/
/-- a row in the heap -/
def rowAt (h : qH) (a : Nat) (R : mR3) : Prop := ∃ f, h.2 a = some (c_ia 0 3 f) ∧ f 0 = zI R.1 ∧ f 1 = zI R.2.1 ∧ f 2 = zI R.2.2
section CRO
variable {D : qD} {C : Nat → Nat} {xs : List Nat} {s : mS} {h : qH} {X : String → qH → Prop} {r : Int} {A : Nat → Nat} {v : lV}
theorem rowAt.le {h' : qH} {a : Nat} {R : mR3} (hR : rowAt h a R) (hl : q_le h h') : rowAt h' a R := by
  obtain ⟨f, f1, f2⟩ := hR
  exact ⟨f, hl _ _ f1, f2⟩
theorem mRow_bd (hT : TI s) (hr : 0 ≤ r ∧ r < 4) {t : Int} (h0 : 0 ≤ t) (h1 : t < s.1 0) : (0 ≤ (mRow s r t).1 ∧ (mRow s r t).1 ≤ 6) ∧ (0 ≤ (mRow s r t).2.1 ∧ (mRow s r t).2.1 ≤ 12) ∧ (0 ≤ (mRow s r t).2.2 ∧ (mRow s r t).2.2 ≤ 3) := by
  have hk := hT.tok h0 h1
  exact ⟨hk.1, mWide_bd hT hr h0 h1, (mEff_bd hT (k := 6) (Or.inr rfl) (v := s.2 3 t) hk.2.1.1 (by have := hk.2.1.2; omega)).2.2⟩
theorem x_rowOf (hD : q_DK D) (hT : TI s) (hP : CP C xs s h) (hX : LX A (C 0) r v h) (hr : 0 ≤ r ∧ r < 4) {t : Int} (h0 : 0 ≤ t) (h1 : t < s.1 0) (hp : mPrn s r t) {p : Int32} (hpt : p = zI t) (hcr : 1 ≤ h.1) {K : Option Nat → qH → Prop} (k9 : ∀ a h', h.2 a = none → q_le h h' → h.1 = h'.1 + 1 → rowAt h' a (mRow s r t) → K (some a) h') : recv D h (some (A 0)) RX5 ∧ c_R D m_X5_rowOf [va_rf (some (A 0)), .int p] h X K := by
  subst hpt
  have hk := hT.tok h0 h1
  have hk2 := hk.2.1
  refine ⟨hX.rc, f_X5_rowOf _ _ h (lf_this hX (cp_story hP (st_get hD hP rfl h0 h1 ⟨3, rfl, by omega, by show 1 + 3 / 4 ≤ h.1; omega, fun a ha => ?_⟩)))⟩
  have l1 : q_le h (q_new h (1 + 3 / 4) a (c_ia 0 3 (fun _ => 0))) := q_le.rf.new ha
  refine tk0 (hP.le l1) h0 h1 ⟨a, 3, _, rfl, new_self, zI_in (z := 0) (by omega) (by omega) (by omega), ?_⟩
  have l2 := l1.put (e := c_ia 0 3 (upd (fun _ => 0) (0 : Int32).toNatClampNeg (zI (s.2 1 t)))) ha
  refine x_widthOf hT (hP.le l2) (hX.le l2).B hr h0 h1 hp ⟨a, 3, _, rfl, put_self, zI_in (z := 1) (by omega) (by omega) (by omega), ?_⟩
  have l3 := l2.put (e := c_ia 0 3 (upd (upd (fun _ => 0) (0 : Int32).toNatClampNeg (zI (s.2 1 t))) (1 : Int32).toNatClampNeg (zI (mWide s r t)))) ha
  have hP3 := hP.le l3
  refine lf_this (hX.le l3) (cp_styles hP3 (tk2 hP3 h0 h1 (cp_style hP3 rfl hk2.1 (by omega) (x_colour hT hP3 hk2.1 (by omega) ⟨a, 3, _, rfl, put_self, zI_in (z := 2) (by omega) (by omega) (by omega), _, rfl, ?_⟩))))
  refine k9 a _ ha (l3.put ha) ?_ ⟨_, put_self, rfl, rfl, rfl⟩
  show h.1 = h.1 - 1 + 1
  omega
/-- tokens printed on lines -/
theorem prn_of (hT : TI s) (hB : MB s) (hr : 0 ≤ r ∧ r < 4) {u : Int} (h0 : 0 ≤ u) (h1 : u < s.1 0) (h15 : (mLay s r).2 15 u ≠ -1) (hg : ¬ mHg s u) : mPrn s r u := by
  have h64 := hT.1
  obtain ⟨i1, i2, i3, -, -, -, i7⟩ := LI_all hT hB hr (s.1 0).toNat (by omega)
  obtain ⟨j1, -⟩ := LI2_all hT hB hr (s.1 0).toNat (by omega)
  have hng := LI3_all hT hB hr (s.1 0).toNat (by omega) u h0
  have hM : (((s.1 0).toNat : Nat) : Int) = s.1 0 := Int.toNat_of_nonneg h64.1
  rw [hM] at i3 i7 hng
  have hT1 := hT.of i2.symm
  have e0 : (mLines0 s r (s.1 0).toNat).1.1 0 = s.1 0 := told_f i2 0 (by simp)
  have hk := (hT.tok h0 h1).1
  have hk4 : s.2 1 u < 4 := by
    unfold mHg at hg
    omega
  have hkp := HG_keep hT1 i1 (by omega) (fun t a b => i7 t a (by omega)) (fun i a b => (j1 i a b).1) (s.1 0).toNat (by omega) u h0 (by omega) (by rw [told_a i2 1 (by omega)]; exact hk4)
  have e15 : (mLay s r).2 15 u = (mLay1 s r).2 15 u := congrFun ((lay_same hB hT hr).2 15 (by omega)) u
  apply Classical.byContradiction
  intro hp
  have := hng h1 hp
  apply h15
  rw [e15]
  show (mHang0 (mLines0 s r (s.1 0).toNat).1 (s.1 0).toNat).1.2 15 u = -1
  rw [hkp, this]
theorem prn_line (hT : TI s) (hB : MB s) (hr : 0 ≤ r ∧ r < 4) {i : Nat} (hi : (i : Int) < (mLay s r).1 14) {u : Int} (hu : u ∈ (lLay s r).2 (6 + 3 * i)) : 0 ≤ u ∧ u < s.1 0 ∧ mPrn s r u := by
  have h64 := hT.1
  rw [(RF_lay hT hB hr).2.2.2.1 i hi] at hu
  obtain ⟨w, hw, rfl⟩ := List.mem_map.mp hu
  unfold mOn at hw
  obtain ⟨w1, w2⟩ := List.mem_filter.mp hw
  have w1 := List.mem_range.mp w1
  have w2 := of_decide_eq_true w2
  have k1 : (mLay s r).2 1 = s.2 1 := told_a (told_lay hB hT hr) 1 (by omega)
  have hg : ¬ mHg s w := by
    have := w2.2
    unfold mHg at this ⊢
    rw [k1] at this
    exact this
  exact ⟨by omega, by omega, prn_of hT hB hr (by omega) (by omega) (by rw [w2.1]; omega) hg⟩
/-- the rows of a line -/
def lRows (s : mS) (r : Int) (i : Int) : List mR3 := ((lLay s r).2 (6 + 3 * i.toNat)).map fun (t : Int) => mRow s r t
theorem lRows_len (hT : TI s) (hB : MB s) (hr : 0 ≤ r ∧ r < 4) {i : Int} (h0 : 0 ≤ i) (h1 : i < (mLay s r).1 14) : (lRows s r i).length ≤ 64 ∧ lRows s r i = mRows (mLay s r) r i (s.1 0).toNat := by
  have h64 := hT.1
  have ht := told_lay hB hT hr
  have e := (RF_lay hT hB hr).2.2.2.1 i.toNat (by omega)
  have e2 : lRows s r i = mRows (mLay s r) r i (s.1 0).toNat := by
    unfold lRows mRows
    rw [e, List.map_map, Int.toNat_of_nonneg h0]
    refine List.map_congr_left fun u hu => ?_
    exact (mRow_tq (tq_told ht) r (u : Int)).symm
  refine ⟨?_, e2⟩
  rw [e2]
  unfold mRows mOn
  rw [List.length_map]
  refine Nat.le_trans (List.length_filter_le _ _) ?_
  rw [List.length_range]
  omega
/-- an iterator -/
def ITV (h : qH) (a t : Nat) (k : Int32) (n : Nat) : Prop := ∃ V : Nat → Value, h.2 a = some (c_ob 7 V) ∧ V 0 = .int (nI n) ∧ V 2 = .int k ∧ V 3 = .ref t
theorem x_rowsOf (hD : q_DK D) (hT : TI s) (hB : MB s) (hP : CP C xs s h) (hX : LX A (C 0) r (lLay s r) h) (hr : 0 ≤ r ∧ r < 4) {z : Int} (h0 : 0 ≤ z) (h1 : z < (mLay s r).1 14) {p : Int32} (hpz : p = zI z) (hcr : 26 * (lRows s r z).length + 3 ≤ h.1) {K : Option Nat → qH → Prop} (k9 : ∀ a h', h.2 a = none → q_le h h' → h.1 ≤ h'.1 + 26 * (lRows s r z).length + 3 → RW h' a (lRows s r z) → K (some a) h') : recv D h (some (A 0)) RX5 ∧ c_R D m_X5_rowsOf [va_rf (some (A 0)), .int p] h X K := by
  subst hpz
  have e14 := (RF_lay hT hB hr).1
  have h64 := hT.1
  have hlz : (z.toNat : Int) = z := Int.toNat_of_nonneg h0
  have hll := (lRows_len hT hB hr h0 h1).1
  have hlen : (lRows s r z).length = ((lLay s r).2 (6 + 3 * z.toNat)).length := by unfold lRows; rw [List.length_map]
  have hlz1 : z < (lLay s r).1.1 14 := by rw [e14]; exact h1
  refine ⟨hX.rc, f_X5_rowsOf _ _ h ⟨by show 1 ≤ h.1; omega, fun a1 ha1 => j_init new_self rfl ⟨rfl, ?_⟩⟩⟩
  have l1 : q_le h (q_put (q_new h (1 + 3 / 4) a1 (c_ob 6 (fun k => defaultValue (tyJ2 k)))) a1 (c_ls 0 [])) := (q_le.rf.new ha1).put ha1
  have hX1 := hX.le l1
  obtain ⟨m, ys, y1, y2, y3⟩ := hX.list (k := 6 + 3 * z.toNat) ⟨by omega, by omega⟩ (by omega)
  refine lf_lines hX1 (ln_get hD hX1 rfl h0 hlz1 (li1 hX1 h0 hlz1 ⟨rls (l1 _ _ y1), j_iterator hD (l1 _ _ y1) (by show 2 ≤ h.1 - 1; omega) (fun b V hb v0 v2 v3 => ⟨_, rfl, ?_⟩)⟩))
  have hab : b ≠ a1 := fun w => by rw [w, put_self] at hb; cases hb
  rw [put_ne hab, new_ne hab] at hb
  have hLp : ∀ (j n : Nat) (h3 : qH), n + j = ys.length → q_le h h3 → h.1 ≤ h3.1 + 26 * n + 3 → ITV h3 b (A (6 + 3 * z.toNat)) m n → (∃ (k : Int32) (zs : List Nat), h3.2 a1 = some (c_ls k zs) ∧ zs.length = n ∧ ∀ i, i < n → rowAt h3 (zs.getD i 0) ((lRows s r z).getD i (0, 0, 0))) → L_X5_rowsOf_30 D (fun v h1 => ∃ r : Option Nat, v = some (va_rf r) ∧ K r h1) X (A 0) (some a1) (some b) h3 := by
    intro j
    induction j with
    | zero =>
      intro n h3 hn q3 c3 ⟨V, i4, v0, v2, v3⟩ ⟨k, zs, z1, z2, z3⟩
      refine f_X5_rowsOf_30 _ _ _ h3 ⟨rcv i4 rfl, j_hasNext hD (q3 _ _ y1) i4 v0 v3 (by omega) (by omega) ⟨_, rfl, fun _ => ⟨_, rfl, ?_⟩, fun q => ?_⟩⟩
      · exact k9 a1 h3 ha1 q3 (by omega) ⟨k, zs, z1, by omega, fun i hi => z3 i (by omega)⟩
      · rw [if_neg (by omega)] at q
        exact absurd rfl q
    | succ j ih =>
      intro n h3 hn q3 c3 ⟨V, i4, v0, v2, v3⟩ ⟨k, zs, z1, z2, z3⟩
      have hpr := prn_line (u := ((lLay s r).2 (6 + 3 * z.toNat)).getD n 0) hT hB hr (i := z.toNat) (by omega) (by
        rw [List.getD_eq_getElem?_getD, List.getElem?_eq_getElem (by omega)]
        exact List.getElem_mem _)
      refine f_X5_rowsOf_30 _ _ _ h3 ⟨rcv i4 rfl, j_hasNext hD (q3 _ _ y1) i4 v0 v3 (by omega) (by omega) ⟨_, rfl, fun q => ?_, fun _ => ⟨rcv i4 rfl, j_next hD (q3 _ _ y1) i4 v0 v2 v3 (by omega) (by omega) (fun V' w0 w2 w3 => ⟨_, rfl, ?_⟩)⟩⟩⟩
      · rw [if_pos (by omega)] at q
        exact absurd q (by decide)
      have q4 : q_le h (q_put h3 b (c_ob 7 V')) := q3.put hb
      have hbx := q4 _ _ (y3 n (by omega))
      have hX4 := hX.le q4
      have hP4 := hP.le q4
      refine ⟨Or.inr ⟨_, _, "java/lang/Integer", rfl, Or.inl hbx, rfl, Or.inl rfl⟩, rcv hbx rfl, j_intValue hbx ⟨_, rfl, x_rowOf hD hT hP4 hX4 hr hpr.1 hpr.2.1 hpr.2.2 rfl (by show 1 ≤ h3.1; omega) (fun ar h5 har q5 c5 hrow => ?_)⟩⟩
      have c5 : h3.1 = h5.1 + 1 := c5
      have z1' : (q_put h3 b (c_ob 7 V')).2 a1 = some (c_ls k zs) := (put_ne (Ne.symm hab)).trans z1
      have z15 := q5 _ _ z1'
      have hrows : ∀ i, i < n → rowAt h5 (zs.getD i 0) ((lRows s r z).getD i (0, 0, 0)) := fun i hi => by
        obtain ⟨f, f1, f2⟩ := z3 i hi
        have hne : zs.getD i 0 ≠ b := fun w => by rw [w, i4] at f1; cases f1
        exact ⟨f, q5 _ _ ((put_ne hne).trans f1), f2⟩
      obtain ⟨fr, fr1, fr2⟩ := hrow
      have harb : ar ≠ a1 := fun w => by rw [w, z1'] at har; cases har
      have hzs : ∀ y ∈ zs, ∃ f, h5.2 y = some (c_ia 0 3 f) := fun y hy => by
        obtain ⟨i, hi, rfl⟩ := mem_getD hy
        obtain ⟨f, f1, -⟩ := hrows i (by omega)
        exact ⟨f, f1⟩
      refine ⟨rls z15, j_add hD z15 (fun w => ?_) harb fr1 rfl q1571 (fun y hy => ?_) (by omega) (by omega) (fun c' d1 d2 => ⟨_, rfl, ?_⟩)⟩
      · obtain ⟨f, hf⟩ := hzs _ w
        rw [z15] at hf
        cases hf
      · obtain ⟨f, hf⟩ := hzs y hy
        exact ⟨_, _, hf, rfl, q1571⟩
      · have q6 : q_le h (c', (q_put h5 a1 (c_ls (k + 1) (zs ++ [ar]))).2) := (q4.tr q5).put ha1
        refine ih (n + 1) _ (by omega) q6 (by show h.1 ≤ c' + 26 * (n + 1) + 3; omega) ⟨V', (put_ne hab).trans (q5 _ _ put_self), w0, w2, w3⟩ ⟨k + 1, zs ++ [ar], put_self, by rw [List.length_append, z2]; rfl, fun i hi => ?_⟩
        rw [getDA]
        by_cases hin : i < n
        · rw [if_pos (by omega)]
          obtain ⟨f, f1, f2⟩ := hrows i hin
          have hne : zs.getD i 0 ≠ a1 := fun w => by rw [w, z15] at f1; cases f1
          exact ⟨f, (put_ne hne).trans f1, f2⟩
        · rw [if_neg (by omega), if_pos (by omega)]
          have hin : i = n := by omega
          subst hin
          have eR : (lRows s r z).getD i (0, 0, 0) = mRow s r (((lLay s r).2 (6 + 3 * z.toNat)).getD i 0) := by
            unfold lRows
            rw [List.getD_eq_getElem?_getD, List.getElem?_map, List.getD_eq_getElem?_getD, List.getElem?_eq_getElem (by omega)]
            rfl
          rw [eR]
          exact ⟨fr, (put_ne harb).trans fr1, fr2⟩
  refine hLp ys.length 0 _ (by omega) (l1.new hb) ?_ ⟨V, new_self, v0, v2, v3⟩ ⟨0, [], (new_ne (Ne.symm hab)).trans put_self, rfl, fun i hi => absurd hi (Nat.not_lt_zero _)⟩
  show h.1 ≤ h.1 - 1 - 2 + 26 * 0 + 3
  omega
end CRO
