set_option maxRecDepth 100000
/-! the component's calls: isNew -/
/-- the lists kept -/
def KL (ks : List (List mR3)) : Prop := ks.length ≤ 64 ∧ ∀ i, i < ks.length → rbd (ks.getD i []) ∧ (ks.getD i []).length ≤ 64
def lThere (s : mS) (r z : Int) : Nat := cnt (fun k => decide (lRows s r k = lRows s r z)) (z + 1).toNat
def lHad (s : mS) (r z : Int) (ks : List (List mR3)) : Nat := cnt (fun k => decide (lRows s r z = ks.getD k.toNat [])) ks.length
section CNW
variable {D : qD} {C : mW} {xs : List Nat} {s : mS} {ks : List (List mR3)} {h : qH} {X : String → qH → Prop} {r : Int}
theorem SC.K (hS : SC C xs s ks h) : ∃ (k : Int32) (ys : List Nat), h.2 (C.1 5) = some (c_ls k ys) ∧ ys.length = ks.length ∧ ∀ i, i < ks.length → RW h (ys.getD i 0) (ks.getD i []) := by
  obtain ⟨cc, g, h1, h2, h3, h4, h5, ⟨k, ys, k1, k2, k3⟩⟩ := hS
  have hr5 : cRole 5 := by unfold cRole; omega
  refine ⟨k, ys, by rw [h1, cov_at h2 hr5, k1], k2, fun i hi => (k3 i hi).le ?_⟩
  rw [h1]
  exact ov_le h3
theorem x_isNew (hD : q_DK D) (hT : TI s) (hB : MB s) (hS : SC C xs s ks h) (hKL : KL ks) {z : Int} (br : bd r) (bz : bd z) (hcr : 18000 ≤ h.1) {K : Int32 → qH → Prop} (hok : (0 ≤ r ∧ r ≤ 3) → 0 ≤ z → z < (lLay s r).1.1 14 → ∀ h', ST C xs s ks h 18000 h' → K (zI (if lHad s r z ks < lThere s r z then 1 else 0)) h') (hno : ¬ ((0 ≤ r ∧ r ≤ 3) ∧ 0 ≤ z ∧ z < (lLay s r).1.1 14) → ∀ h', ST C xs s ks h 18000 h' → X "java/lang/IndexOutOfBoundsException" h') : c_I D m_X1_isNew [va_rf (some (C.1 0)), .int (zI r), .int (zI z)] h X K := by
  refine f_X1_isNew _ _ _ h (x_layout2 hD hT hB hS rfl rfl br bz (by omega) (fun hr a b A h1 S1 hX => ?_) (fun w h1 S1 => hno w h1 (S1.wk (by omega))))
  have hr4 : 0 ≤ r ∧ r < 4 := ⟨hr.1, by omega⟩
  have e14 := (RF_lay hT hB hr4).1
  have hn := (RF_lay hT hB hr4).2.2.2.2.2.2.2.1.1
  have hc1 := S1.2.2
  have b' : z < (mLay s r).1 14 := by omega
  have hlz := (lRows_len hT hB hr4 a b').1
  refine x_rowsOf hD hT hB S1.1.P hX hr4 a b' rfl (by omega) (fun a4 h2 ha4 q2 c2 hRW => ?_)
  have S2 := S1.le q2 (d := 26 * (lRows s r z).length + 3) (by omega)
  have hX2 := hX.le q2
  have hc2 := S2.2.2
  obtain ⟨hk64, hkl⟩ := hKL
  obtain ⟨kk, ys, y1, y2, y3⟩ := S2.1.K
  have hfin : ∀ h3, q_le h2 h3 → h2.1 ≤ h3.1 + 8192 → ST C xs s ks h 18000 h3 := fun h3 q3 c3 => (S2.le q3 c3).wk (by omega)
  -- the lists kept
  have hL2 : ∀ (j n : Nat) (h3 : qH), n + j = ks.length → q_le h2 h3 → h2.1 ≤ h3.1 + 4096 + 64 * n → L_X1_isNew_56 D (fun v h1 => ∃ r : Int32, v = some (.int r) ∧ K r h1) X (C.1 0) (zI z) (some (A 0)) (zI ((lThere s r z : Int) - (cnt (fun k => decide (lRows s r z = ks.getD k.toNat [])) n : Nat))) (zI n) h3 := by
    intro j
    induction j with
    | zero =>
      intro n h3 hn3 q3 c3
      have hn3 : n = ks.length := by omega
      subst hn3
      have S3 := hfin h3 q3 (by omega)
      have ht := cnt_le (fun k => decide (lRows s r k = lRows s r z)) (z + 1).toNat
      have hh := cnt_le (fun k : Int => decide (lRows s r z = ks.getD k.toNat [])) ks.length
      have hok := hok hr a b h3 S3
      unfold lHad lThere at hok
      unfold lThere
      refine f_X1_isNew_56 _ _ _ _ _ h3 (cp_kept S3.1.P (ls_size hD (q3 _ _ y1) ⟨fun _ => ⟨fun w => ⟨_, rfl, ?_⟩, fun w => ⟨_, rfl, ?_⟩⟩, fun w => ?_⟩))
      · rw [zl_0, zI_le (by omega) (by omega) (by omega) (by omega)] at w
        rw [if_neg (by omega)] at hok
        exact hok
      · rw [zl_0, zI_le (by omega) (by omega) (by omega) (by omega)] at w
        rw [if_pos (by omega)] at hok
        exact hok
      · rw [y2, zI_le (by omega) (by omega) (by omega) (by omega)] at w
        omega
    | succ j ih =>
      intro n h3 hn3 q3 c3
      have S3 := hfin h3 q3 (by omega)
      have hP3 := S3.1.P
      have hRn := (y3 n (by omega)).le q3
      have ih := ih (n + 1)
      rw [cnt_s, Int.toNat_natCast] at ih
      generalize (cnt (fun k => decide (lRows s r z = ks.getD k.toNat [])) n : Int) = cc at *
      generalize (lThere s r z : Int) = tt at *
      refine f_X1_isNew_56 _ _ _ _ _ h3 (cp_kept hP3 (ls_size hD (q3 _ _ y1) ⟨fun w => ?_, fun _ => cp_kept hP3 (ls_get hD (q3 _ _ y1) rfl (by omega) (by omega) ?_)⟩))
      · rw [y2, zI_le (by omega) (by omega) (by omega) (by omega)] at w
        omega
      rw [Int.toNat_natCast]
      have hRn9 := hRn
      obtain ⟨k9, zs9, z91, -⟩ := hRn9
      refine ⟨Or.inr ⟨_, _, "java/util/ArrayList", rfl, Or.inl z91, rfl, Or.inr q195⟩, x_isLike hD hT hB hP3 (hX2.le q3) hr4 a b' rfl hRn (hkl n (by omega)).1 (hkl n (by omega)).2 (by omega) (fun h4 q4 c4 => ⟨fun w => ?_, fun w => ?_⟩)⟩
      · have he : ¬ lRows s r z = ks.getD n [] := fun q => by
          rw [if_pos q, zl_0, zI_eq (by omega) (by omega) (by omega) (by omega)] at w
          omega
        refine f_X1_isNew_99 _ _ _ _ _ _ h4 ?_
        rw [zl_0, zl_1, zI_sub, zI_add]
        have := ih h4 (by omega) (q3.tr q4) (by omega)
        rw [if_neg (fun q => he (of_decide_eq_true q))] at this
        rw [show tt - (cc + 0) = tt - cc - 0 by omega] at this
        exact this
      · have he : lRows s r z = ks.getD n [] := Classical.byContradiction fun q => w (by rw [if_neg q]; rfl)
        refine f_X1_isNew_99 _ _ _ _ _ _ h4 ?_
        rw [zl_1, zI_sub, zI_add]
        have := ih h4 (by omega) (q3.tr q4) (by omega)
        rw [if_pos (decide_eq_true he), show tt - (cc + 1) = tt - cc - 1 by omega] at this
        exact this
  have hL1 : ∀ (j n : Nat) (h3 : qH), n + j = (z + 1).toNat → q_le h2 h3 → h2.1 ≤ h3.1 + 64 * n → L_X1_isNew_20 D (fun v h1 => ∃ r : Int32, v = some (.int r) ∧ K r h1) X (C.1 0) (zI z) (some (A 0)) (some a4) (zI (cnt (fun k => decide (lRows s r k = lRows s r z)) n : Nat)) (zI n) h3 := by
    intro j
    induction j with
    | zero =>
      intro n h3 hn3 q3 c3
      refine f_X1_isNew_20 _ _ _ _ _ _ h3 ⟨fun _ => ?_, fun w => ?_⟩
      · have := hL2 ks.length 0 h3 (by omega) q3 (by omega)
        rw [show n = (z + 1).toNat by omega]
        exact this
      · rw [zI_lt (by omega) (by omega) (by omega) (by omega)] at w
        omega
    | succ j ih =>
      intro n h3 hn3 q3 c3
      have S3 := hfin h3 q3 (by omega)
      have hP3 := S3.1.P
      have ih := ih (n + 1)
      rw [cnt_s] at ih
      generalize (cnt (fun k => decide (lRows s r k = lRows s r z)) n : Int) = cc at *
      refine f_X1_isNew_20 _ _ _ _ _ _ h3 ⟨fun w => ?_, fun _ => x_isLike hD hT hB hP3 (hX2.le q3) hr4 (z := (n : Int)) (by omega) (by omega) rfl (hRW.le q3) (lRows_rbd hT hB hr4 a b') hlz (by omega) (fun h4 q4 c4 => ⟨fun w => ?_, fun w => ?_⟩)⟩
      · rw [zI_lt (by omega) (by omega) (by omega) (by omega)] at w
        omega
      · have he : ¬ lRows s r n = lRows s r z := fun q => by
          rw [if_pos q, zl_0, zI_eq (by omega) (by omega) (by omega) (by omega)] at w
          omega
        refine f_X1_isNew_44 _ _ _ _ _ _ _ h4 ?_
        rw [zl_0, zl_1, zI_add, zI_add]
        have := ih h4 (by omega) (q3.tr q4) (by omega)
        rw [if_neg (fun q => he (of_decide_eq_true q))] at this
        exact this
      · have he : lRows s r n = lRows s r z := Classical.byContradiction fun q => w (by rw [if_neg q]; rfl)
        refine f_X1_isNew_44 _ _ _ _ _ _ _ h4 ?_
        rw [zl_1, zI_add, zI_add]
        have := ih h4 (by omega) (q3.tr q4) (by omega)
        rw [if_pos (decide_eq_true he)] at this
        exact this
  exact hL1 (z + 1).toNat 0 h2 (by omega) q_le.rf (by omega)
end CNW
