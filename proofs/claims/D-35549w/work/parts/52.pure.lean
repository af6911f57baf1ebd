set_option maxRecDepth 100000
theorem p_X3_thrown {D : qD} {W : mW} {X : String → qH → Prop} {K : Int → mS → Prop} (hW : mOK D W) {s : mS} (hB : MB s) (G : K (s.1 37) s) : pI D W X m_X3_thrown [] s K := by
  intro h
  refine f_X3_thrown _ _ ?_
  refine mgI hW rfl ?_
  exact mretI rfl (hB.1 37) hB G
theorem p_X3_fails {D : qD} {W : mW} {X : String → qH → Prop} {K : Int → mS → Prop} (hW : mOK D W) {s : mS} (hB : MB s) {p0 : Int} (bp0 : bd p0) (G : K 0 (mF s 37 p0)) : pI D W X m_X3_fails [p0] s K := by
  intro h
  refine f_X3_fails _ _ _ ?_
  refine mpF hW rfl rfl ?_
  exact mretI zl_0 (bdl rfl) (MB.F hB bp0) G
theorem p_X3_newLine {D : qD} {W : mW} {X : String → qH → Prop} {K : mS → Prop} (hW : mOK D W) {s : mS} (hB : MB s) {p0 : Int} (bp0 : bd p0) {p1 : Int} (bp1 : bd p1) (G : ((p0 = 0 ∨ p0 = 1) ∧ ((0 ≤ (s.1 14) ∧ (s.1 14) < 120) ∧ ((p1 = 0 ∨ p1 = 1) ∧ ((0 ≤ (s.1 14) ∧ (s.1 14) < 120) ∧ ((0 ≤ (s.1 14) ∧ (s.1 14) < 120) ∧ ((0 ≤ (s.1 14) ∧ (s.1 14) < 120) ∧ (bd ((s.1 14) + 1) ∧ K (mF (mA (mA (mA (mA s 19 (s.1 14) p0) 20 (s.1 14) p1) 21 (s.1 14) 0) 18 (s.1 14) 0) 14 ((s.1 14) + 1)))))))))) : pV D W X m_X3_newLine [p0, p1] s K := by
  intro h
  refine f_X3_newLine _ _ _ _ ?_
  refine mgR hW rfl ?_
  refine mgI hW rfl ?_
  have c1 := G.1
  have G := G.2
  have c7 := G.1
  have G := G.2
  refine ⟨mz_01 rfl c1, msI hW rfl rfl rfl rfl rfl c7 ?_⟩
  refine mgR hW rfl ?_
  refine mgI hW rfl ?_
  have c2 := G.1
  have G := G.2
  have c6 := G.1
  have G := G.2
  refine ⟨mz_01 rfl c2, msI hW rfl rfl rfl rfl rfl c6 ?_⟩
  refine mgR hW rfl ?_
  refine mgI hW rfl ?_
  have c5 := G.1
  have G := G.2
  refine msI hW rfl rfl rfl zl_0 rfl c5 ?_
  refine mgR hW rfl ?_
  refine mgI hW rfl ?_
  have c4 := G.1
  have G := G.2
  refine msI hW rfl rfl rfl zl_0 rfl c4 ?_
  refine mgI hW rfl ?_
  have b3 := G.1
  have G := G.2
  refine mpF hW rfl (mz_add rfl zl_1) ?_
  exact mretV (MB.F (MB.A (MB.A (MB.A (MB.A hB (bd01 c1)) (bd01 c2)) (bdl rfl)) (bdl rfl)) b3) G
def PL_X3_isPrinted_47 (D : qD) (W : mW) (X : String → qH → Prop) (K : Int → mS → Prop) (s : mS) : Prop := MB s → ∀ h, L_X3_isPrinted_47 D (pQI W h K) X  (mh W s h)
theorem PLu_X3_isPrinted_47 {D : qD} {W : mW} {X : String → qH → Prop} {K : Int → mS → Prop} {s : mS} (G : PL_X3_isPrinted_47 D W X K s) (hB : MB s) (h : qH) : L_X3_isPrinted_47 D (pQI W h K) X  (mh W s h) := by
  exact G hB h
theorem p_X3_isPrinted {D : qD} {W : mW} {X : String → qH → Prop} {K : Int → mS → Prop} (hW : mOK D W) {s : mS} (hB : MB s) {p0 : Int} (bp0 : bd p0) {p1 : Int} (bp1 : bd p1) (G : ((0 ≤ p1 ∧ p1 < 120) ∧ (((s.2 1 p1) = 0 → PL_X3_isPrinted_47 D W X K s) ∧ (¬ (s.2 1 p1) = 0 → ((0 ≤ p1 ∧ p1 < 120) ∧ (((s.2 1 p1) = 3 → PL_X3_isPrinted_47 D W X K s) ∧ (¬ (s.2 1 p1) = 3 → ((0 ≤ p1 ∧ p1 < 120) ∧ ((¬ (s.2 1 p1) = 1 → K 0 s) ∧ ((s.2 1 p1) = 1 → ((0 ≤ p1 ∧ p1 < 120) ∧ ((0 ≤ ((4 * p0) + (s.2 2 p1)) ∧ ((4 * p0) + (s.2 2 p1)) < 16) ∧ (((s.2 7 ((4 * p0) + (s.2 2 p1))) ≤ 0 → K 0 s) ∧ (¬ (s.2 7 ((4 * p0) + (s.2 2 p1))) ≤ 0 → PL_X3_isPrinted_47 D W X K s)))))))))))))) : pI D W X m_X3_isPrinted [p0, p1] s K := by
  intro h
  refine f_X3_isPrinted _ _ _ _ ?_
  refine mgR hW rfl ?_
  have c9 := G.1
  have G := G.2
  refine maI hW rfl rfl rfl rfl c9 ?_
  refine ⟨fun w8 => ?_, fun w8 => ?_⟩
  · have G := G.1 ((mz_eq rfl zl_0 (hB.2 1 p1) (bdl rfl)).mp w8)
    exact PLu_X3_isPrinted_47 G hB h
  · have G := G.2 (fun u => w8 ((mz_eq rfl zl_0 (hB.2 1 p1) (bdl rfl)).mpr u))
    refine mgR hW rfl ?_
    have c7 := G.1
    have G := G.2
    refine maI hW rfl rfl rfl rfl c7 ?_
    refine ⟨fun w6 => ?_, fun w6 => ?_⟩
    · have G := G.1 ((mz_eq rfl zl_3 (hB.2 1 p1) (bdl rfl)).mp w6)
      exact PLu_X3_isPrinted_47 G hB h
    · have G := G.2 (fun u => w6 ((mz_eq rfl zl_3 (hB.2 1 p1) (bdl rfl)).mpr u))
      refine mgR hW rfl ?_
      have c5 := G.1
      have G := G.2
      refine maI hW rfl rfl rfl rfl c5 ?_
      refine ⟨fun w4 => ?_, fun w4 => ?_⟩
      · have G := G.1 (fun u => w4 ((mz_eq rfl zl_1 (hB.2 1 p1) (bdl rfl)).mpr u))
        exact mretI zl_0 (bdl rfl) hB G
      · have G := G.2 ((mz_eq rfl zl_1 (hB.2 1 p1) (bdl rfl)).mp w4)
        refine mgR hW rfl ?_
        refine mgR hW rfl ?_
        have c3 := G.1
        have G := G.2
        refine maI hW rfl rfl rfl rfl c3 ?_
        have c2 := G.1
        have G := G.2
        refine maI hW rfl rfl (mz_add (mz_mul zl_4 rfl) rfl) rfl c2 ?_
        refine ⟨fun w1 => ?_, fun w1 => ?_⟩
        · have G := G.1 ((mz_le rfl zl_0 (hB.2 7 ((4 * p0) + (s.2 2 p1))) (bdl rfl)).mp w1)
          exact mretI zl_0 (bdl rfl) hB G
        · have G := G.2 (fun u => w1 ((mz_le rfl zl_0 (hB.2 7 ((4 * p0) + (s.2 2 p1))) (bdl rfl)).mpr u))
          exact PLu_X3_isPrinted_47 G hB h
theorem p_X3_isPrinted_47 {D : qD} {W : mW} {X : String → qH → Prop} {K : Int → mS → Prop} (hW : mOK D W) {s : mS} (G : MB s → K 1 s) : PL_X3_isPrinted_47 D W X K s := by
  intro hB h
  have G := G hB
  refine f_X3_isPrinted_47  _ ?_
  exact mretI zl_1 (bdl rfl) hB G
def PL_X3_extraOf_2 (D : qD) (W : mW) (X : String → qH → Prop) (K : Int → mS → Prop) (s : mS) (v2 : Int) : Prop := MB s → bd v2 → ∀ h, L_X3_extraOf_2 D (pQI W h K) X (W.1 100) (zI v2) (mh W s h)
theorem PLu_X3_extraOf_2 {D : qD} {W : mW} {X : String → qH → Prop} {K : Int → mS → Prop} {s : mS} {v2 : Int} {xv2 : Int32} (G : PL_X3_extraOf_2 D W X K s v2) (hB : MB s) (ev2 : xv2 = zI v2) (bv2 : bd v2) (h : qH) : L_X3_extraOf_2 D (pQI W h K) X (W.1 100) xv2 (mh W s h) := by
  subst ev2
  exact G hB bv2 h
def PL_X3_extraOf_32 (D : qD) (W : mW) (X : String → qH → Prop) (K : Int → mS → Prop) (s : mS) (v2 : Int) : Prop := MB s → bd v2 → ∀ h, L_X3_extraOf_32 D (pQI W h K) X (W.1 100) (zI v2) (mh W s h)
theorem PLu_X3_extraOf_32 {D : qD} {W : mW} {X : String → qH → Prop} {K : Int → mS → Prop} {s : mS} {v2 : Int} {xv2 : Int32} (G : PL_X3_extraOf_32 D W X K s v2) (hB : MB s) (ev2 : xv2 = zI v2) (bv2 : bd v2) (h : qH) : L_X3_extraOf_32 D (pQI W h K) X (W.1 100) xv2 (mh W s h) := by
  subst ev2
  exact G hB bv2 h
theorem p_X3_extraOf {D : qD} {W : mW} {X : String → qH → Prop} {K : Int → mS → Prop} (hW : mOK D W) {s : mS} (hB : MB s) {p0 : Int} (bp0 : bd p0) (G : PL_X3_extraOf_2 D W X K s p0) : pI D W X m_X3_extraOf [p0] s K := by
  intro h
  refine f_X3_extraOf _ _ _ ?_
  exact PLu_X3_extraOf_2 G hB rfl bp0 h
theorem p_X3_extraOf_2 {D : qD} {W : mW} {X : String → qH → Prop} {K : Int → mS → Prop} (hW : mOK D W) {s : mS} {v2 : Int} (G : MB s → bd v2 → ((0 ≤ v2 ∧ v2 < 6) ∧ ((¬ (s.2 5 v2) = (-1) → PL_X3_extraOf_32 D W X K s v2) ∧ ((s.2 5 v2) = (-1) → ((0 ≤ v2 ∧ v2 < 6) ∧ (((s.2 4 v2) = (-1) → PL_X3_extraOf_32 D W X K s v2) ∧ (¬ (s.2 4 v2) = (-1) → ((0 ≤ v2 ∧ v2 < 6) ∧ PL_X3_extraOf_2 D W X K s (s.2 4 v2))))))))) : PL_X3_extraOf_2 D W X K s v2 := by
  intro hB bv2 h
  have G := G hB bv2
  refine f_X3_extraOf_2 _ _ _ ?_
  refine mgR hW rfl ?_
  have c5 := G.1
  have G := G.2
  refine maI hW rfl rfl rfl rfl c5 ?_
  refine ⟨fun w4 => ?_, fun w4 => ?_⟩
  · have G := G.1 (fun u => w4 ((mz_eq rfl zl_m1 (hB.2 5 v2) (bdl rfl)).mpr u))
    exact PLu_X3_extraOf_32 G hB rfl bv2 h
  · have G := G.2 ((mz_eq rfl zl_m1 (hB.2 5 v2) (bdl rfl)).mp w4)
    refine mgR hW rfl ?_
    have c3 := G.1
    have G := G.2
    refine maI hW rfl rfl rfl rfl c3 ?_
    refine ⟨fun w2 => ?_, fun w2 => ?_⟩
    · have G := G.1 ((mz_eq rfl zl_m1 (hB.2 4 v2) (bdl rfl)).mp w2)
      exact PLu_X3_extraOf_32 G hB rfl bv2 h
    · have G := G.2 (fun u => w2 ((mz_eq rfl zl_m1 (hB.2 4 v2) (bdl rfl)).mpr u))
      refine mgR hW rfl ?_
      have c1 := G.1
      have G := G.2
      refine maI hW rfl rfl rfl rfl c1 ?_
      exact PLu_X3_extraOf_2 G hB rfl (hB.2 4 v2) h
theorem p_X3_extraOf_32 {D : qD} {W : mW} {X : String → qH → Prop} {K : Int → mS → Prop} (hW : mOK D W) {s : mS} {v2 : Int} (G : MB s → bd v2 → ((0 ≤ v2 ∧ v2 < 6) ∧ ((¬ (s.2 5 v2) = (-1) → ((0 ≤ v2 ∧ v2 < 6) ∧ K (s.2 5 v2) s)) ∧ ((s.2 5 v2) = (-1) → K 0 s)))) : PL_X3_extraOf_32 D W X K s v2 := by
  intro hB bv2 h
  have G := G hB bv2
  refine f_X3_extraOf_32 _ _ _ ?_
  refine mgR hW rfl ?_
  have c8 := G.1
  have G := G.2
  refine maI hW rfl rfl rfl rfl c8 ?_
  refine ⟨fun w7 => ?_, fun w7 => ?_⟩
  · have G := G.1 (fun u => w7 ((mz_eq rfl zl_m1 (hB.2 5 v2) (bdl rfl)).mpr u))
    refine mgR hW rfl ?_
    have c6 := G.1
    have G := G.2
    refine maI hW rfl rfl rfl rfl c6 ?_
    exact mretI rfl (hB.2 5 v2) hB G
  · have G := G.2 ((mz_eq rfl zl_m1 (hB.2 5 v2) (bdl rfl)).mp w7)
    exact mretI zl_0 (bdl rfl) hB G
def PL_X3_hangs_31 (D : qD) (W : mW) (X : String → qH → Prop) (K : Int → mS → Prop) (s : mS) : Prop := MB s → ∀ h, L_X3_hangs_31 D (pQI W h K) X  (mh W s h)
theorem PLu_X3_hangs_31 {D : qD} {W : mW} {X : String → qH → Prop} {K : Int → mS → Prop} {s : mS} (G : PL_X3_hangs_31 D W X K s) (hB : MB s) (h : qH) : L_X3_hangs_31 D (pQI W h K) X  (mh W s h) := by
  exact G hB h
theorem p_X3_hangs {D : qD} {W : mW} {X : String → qH → Prop} {K : Int → mS → Prop} (hW : mOK D W) {s : mS} (hB : MB s) {p0 : Int} (bp0 : bd p0) (G : ((0 ≤ p0 ∧ p0 < 120) ∧ (((s.2 1 p0) = 4 → PL_X3_hangs_31 D W X K s) ∧ (¬ (s.2 1 p0) = 4 → ((0 ≤ p0 ∧ p0 < 120) ∧ (((s.2 1 p0) = 5 → PL_X3_hangs_31 D W X K s) ∧ (¬ (s.2 1 p0) = 5 → ((0 ≤ p0 ∧ p0 < 120) ∧ ((¬ (s.2 1 p0) = 6 → K 0 s) ∧ ((s.2 1 p0) = 6 → PL_X3_hangs_31 D W X K s)))))))))) : pI D W X m_X3_hangs [p0] s K := by
  intro h
  refine f_X3_hangs _ _ _ ?_
  refine mgR hW rfl ?_
  have c6 := G.1
  have G := G.2
  refine maI hW rfl rfl rfl rfl c6 ?_
  refine ⟨fun w5 => ?_, fun w5 => ?_⟩
  · have G := G.1 ((mz_eq rfl zl_4 (hB.2 1 p0) (bdl rfl)).mp w5)
    exact PLu_X3_hangs_31 G hB h
  · have G := G.2 (fun u => w5 ((mz_eq rfl zl_4 (hB.2 1 p0) (bdl rfl)).mpr u))
    refine mgR hW rfl ?_
    have c4 := G.1
    have G := G.2
    refine maI hW rfl rfl rfl rfl c4 ?_
    refine ⟨fun w3 => ?_, fun w3 => ?_⟩
    · have G := G.1 ((mz_eq rfl zl_5 (hB.2 1 p0) (bdl rfl)).mp w3)
      exact PLu_X3_hangs_31 G hB h
    · have G := G.2 (fun u => w3 ((mz_eq rfl zl_5 (hB.2 1 p0) (bdl rfl)).mpr u))
      refine mgR hW rfl ?_
      have c2 := G.1
      have G := G.2
      refine maI hW rfl rfl rfl rfl c2 ?_
      refine ⟨fun w1 => ?_, fun w1 => ?_⟩
      · have G := G.1 (fun u => w1 ((mz_eq rfl zl_6 (hB.2 1 p0) (bdl rfl)).mpr u))
        exact mretI zl_0 (bdl rfl) hB G
      · have G := G.2 ((mz_eq rfl zl_6 (hB.2 1 p0) (bdl rfl)).mp w1)
        exact PLu_X3_hangs_31 G hB h
theorem p_X3_hangs_31 {D : qD} {W : mW} {X : String → qH → Prop} {K : Int → mS → Prop} (hW : mOK D W) {s : mS} (G : MB s → K 1 s) : PL_X3_hangs_31 D W X K s := by
  intro hB h
  have G := G hB
  refine f_X3_hangs_31  _ ?_
  exact mretI zl_1 (bdl rfl) hB G
def PL_X3_colourOf_2 (D : qD) (W : mW) (X : String → qH → Prop) (K : Int → mS → Prop) (s : mS) (v2 : Int) : Prop := MB s → bd v2 → ∀ h, L_X3_colourOf_2 D (pQI W h K) X (W.1 100) (zI v2) (mh W s h)
theorem PLu_X3_colourOf_2 {D : qD} {W : mW} {X : String → qH → Prop} {K : Int → mS → Prop} {s : mS} {v2 : Int} {xv2 : Int32} (G : PL_X3_colourOf_2 D W X K s v2) (hB : MB s) (ev2 : xv2 = zI v2) (bv2 : bd v2) (h : qH) : L_X3_colourOf_2 D (pQI W h K) X (W.1 100) xv2 (mh W s h) := by
  subst ev2
  exact G hB bv2 h
def PL_X3_colourOf_32 (D : qD) (W : mW) (X : String → qH → Prop) (K : Int → mS → Prop) (s : mS) (v2 : Int) : Prop := MB s → bd v2 → ∀ h, L_X3_colourOf_32 D (pQI W h K) X (W.1 100) (zI v2) (mh W s h)
theorem PLu_X3_colourOf_32 {D : qD} {W : mW} {X : String → qH → Prop} {K : Int → mS → Prop} {s : mS} {v2 : Int} {xv2 : Int32} (G : PL_X3_colourOf_32 D W X K s v2) (hB : MB s) (ev2 : xv2 = zI v2) (bv2 : bd v2) (h : qH) : L_X3_colourOf_32 D (pQI W h K) X (W.1 100) xv2 (mh W s h) := by
  subst ev2
  exact G hB bv2 h
theorem p_X3_colourOf {D : qD} {W : mW} {X : String → qH → Prop} {K : Int → mS → Prop} (hW : mOK D W) {s : mS} (hB : MB s) {p0 : Int} (bp0 : bd p0) (G : PL_X3_colourOf_2 D W X K s p0) : pI D W X m_X3_colourOf [p0] s K := by
  intro h
  refine f_X3_colourOf _ _ _ ?_
  exact PLu_X3_colourOf_2 G hB rfl bp0 h
theorem p_X3_colourOf_2 {D : qD} {W : mW} {X : String → qH → Prop} {K : Int → mS → Prop} (hW : mOK D W) {s : mS} {v2 : Int} (G : MB s → bd v2 → ((0 ≤ v2 ∧ v2 < 6) ∧ ((¬ (s.2 6 v2) = (-1) → PL_X3_colourOf_32 D W X K s v2) ∧ ((s.2 6 v2) = (-1) → ((0 ≤ v2 ∧ v2 < 6) ∧ (((s.2 4 v2) = (-1) → PL_X3_colourOf_32 D W X K s v2) ∧ (¬ (s.2 4 v2) = (-1) → ((0 ≤ v2 ∧ v2 < 6) ∧ PL_X3_colourOf_2 D W X K s (s.2 4 v2))))))))) : PL_X3_colourOf_2 D W X K s v2 := by
  intro hB bv2 h
  have G := G hB bv2
  refine f_X3_colourOf_2 _ _ _ ?_
  refine mgR hW rfl ?_
  have c5 := G.1
  have G := G.2
  refine maI hW rfl rfl rfl rfl c5 ?_
  refine ⟨fun w4 => ?_, fun w4 => ?_⟩
  · have G := G.1 (fun u => w4 ((mz_eq rfl zl_m1 (hB.2 6 v2) (bdl rfl)).mpr u))
    exact PLu_X3_colourOf_32 G hB rfl bv2 h
  · have G := G.2 ((mz_eq rfl zl_m1 (hB.2 6 v2) (bdl rfl)).mp w4)
    refine mgR hW rfl ?_
    have c3 := G.1
    have G := G.2
    refine maI hW rfl rfl rfl rfl c3 ?_
    refine ⟨fun w2 => ?_, fun w2 => ?_⟩
    · have G := G.1 ((mz_eq rfl zl_m1 (hB.2 4 v2) (bdl rfl)).mp w2)
      exact PLu_X3_colourOf_32 G hB rfl bv2 h
    · have G := G.2 (fun u => w2 ((mz_eq rfl zl_m1 (hB.2 4 v2) (bdl rfl)).mpr u))
      refine mgR hW rfl ?_
      have c1 := G.1
      have G := G.2
      refine maI hW rfl rfl rfl rfl c1 ?_
      exact PLu_X3_colourOf_2 G hB rfl (hB.2 4 v2) h
theorem p_X3_colourOf_32 {D : qD} {W : mW} {X : String → qH → Prop} {K : Int → mS → Prop} (hW : mOK D W) {s : mS} {v2 : Int} (G : MB s → bd v2 → ((0 ≤ v2 ∧ v2 < 6) ∧ ((¬ (s.2 6 v2) = (-1) → ((0 ≤ v2 ∧ v2 < 6) ∧ K (s.2 6 v2) s)) ∧ ((s.2 6 v2) = (-1) → K 0 s)))) : PL_X3_colourOf_32 D W X K s v2 := by
  intro hB bv2 h
  have G := G hB bv2
  refine f_X3_colourOf_32 _ _ _ ?_
  refine mgR hW rfl ?_
  have c8 := G.1
  have G := G.2
  refine maI hW rfl rfl rfl rfl c8 ?_
  refine ⟨fun w7 => ?_, fun w7 => ?_⟩
  · have G := G.1 (fun u => w7 ((mz_eq rfl zl_m1 (hB.2 6 v2) (bdl rfl)).mpr u))
    refine mgR hW rfl ?_
    have c6 := G.1
    have G := G.2
    refine maI hW rfl rfl rfl rfl c6 ?_
    exact mretI rfl (hB.2 6 v2) hB G
  · have G := G.2 ((mz_eq rfl zl_m1 (hB.2 6 v2) (bdl rfl)).mp w7)
    exact mretI zl_0 (bdl rfl) hB G
theorem p_X3_tops {D : qD} {W : mW} {X : String → qH → Prop} {K : mS → Prop} (hW : mOK D W) {s : mS} (hB : MB s) {p0 : Int} (bp0 : bd p0) (G : (bd ((s.1 22) - 1) ∧ ((0 ≤ p0 ∧ p0 < 120) ∧ ((0 ≤ p0 ∧ p0 < 120) ∧ (bd ((s.1 28) - (s.2 2 p0)) ∧ K (mF (mF (mA s 16 p0 ((s.1 22) - 1)) 28 ((s.1 28) - (s.2 2 p0))) 30 1)))))) : pV D W X m_X3_tops [p0] s K := by
  intro h
  refine f_X3_tops _ _ _ ?_
  refine mgR hW rfl ?_
  refine mgI hW rfl ?_
  have b1 := G.1
  have G := G.2
  have c4 := G.1
  have G := G.2
  refine msI hW rfl rfl rfl (mz_sub rfl zl_1) rfl c4 ?_
  refine mgI hW rfl ?_
  refine mgR hW rfl ?_
  have c3 := G.1
  have G := G.2
  refine maI hW rfl rfl rfl rfl c3 ?_
  have b2 := G.1
  have G := G.2
  refine mpF hW rfl (mz_sub rfl rfl) ?_
  refine mpF hW rfl zl_1 ?_
  exact mretV (MB.F (MB.F (MB.A hB b1) b2) (bdl rfl)) G
theorem p_X3_takes {D : qD} {W : mW} {X : String → qH → Prop} {K : Int → mS → Prop} (hW : mOK D W) {s : mS} (hB : MB s) {p0 : Int} (bp0 : bd p0) {p1 : Int} (bp1 : bd p1) (G : ((0 ≤ p0 ∧ p0 < 120) ∧ ((0 ≤ p0 ∧ p0 < 120) ∧ (((s.2 19 p0) = 0 → (bd ((1 + (s.2 18 p0)) + 0) ∧ K ((1 + (s.2 18 p0)) + 0) s)) ∧ (¬ (s.2 19 p0) = 0 → ((p1 = 0 → (bd ((1 + (s.2 18 p0)) + 0) ∧ K ((1 + (s.2 18 p0)) + 0) s)) ∧ (¬ p1 = 0 → (bd ((1 + (s.2 18 p0)) + 1) ∧ K ((1 + (s.2 18 p0)) + 1) s)))))))) : pI D W X m_X3_takes [p0, p1] s K := by
  intro h
  refine f_X3_takes _ _ _ _ ?_
  refine mgR hW rfl ?_
  have c7 := G.1
  have G := G.2
  refine maI hW rfl rfl rfl rfl c7 ?_
  refine mgR hW rfl ?_
  have c6 := G.1
  have G := G.2
  refine maI hW rfl rfl rfl rfl c6 ?_
  refine ⟨fun w5 => ?_, fun w5 => ?_⟩
  · have G := G.1 ((mz_eq rfl zl_0 (hB.2 19 p0) (bdl rfl)).mp w5)
    have b1 := G.1
    have G := G.2
    exact mretI (mz_add (mz_add zl_1 rfl) zl_0) b1 hB G
  · have G := G.2 (fun u => w5 ((mz_eq rfl zl_0 (hB.2 19 p0) (bdl rfl)).mpr u))
    refine ⟨fun w4 => ?_, fun w4 => ?_⟩
    · have G := G.1 ((mz_eq rfl zl_0 bp1 (bdl rfl)).mp w4)
      have b2 := G.1
      have G := G.2
      exact mretI (mz_add (mz_add zl_1 rfl) zl_0) b2 hB G
    · have G := G.2 (fun u => w4 ((mz_eq rfl zl_0 bp1 (bdl rfl)).mpr u))
      have b3 := G.1
      have G := G.2
      exact mretI (mz_add (mz_add zl_1 rfl) zl_1) b3 hB G
theorem p_X3_pageBy {D : qD} {W : mW} {X : String → qH → Prop} {K : Int → mS → Prop} (hW : mOK D W) {s : mS} (hB : MB s) {p0 : Int} (bp0 : bd p0) {p1 : Int} (bp1 : bd p1) (G : ((0 ≤ p0 ∧ p0 < 120) ∧ ((0 ≤ (s.2 17 p0) ∧ (0 : Int) < (s.1 10)) ∧ (bd ((p1 + 1) + ((s.2 17 p0) / (s.1 10))) ∧ K ((p1 + 1) + ((s.2 17 p0) / (s.1 10))) s)))) : pI D W X m_X3_pageBy [p0, p1] s K := by
  intro h
  refine f_X3_pageBy _ _ _ _ ?_
  refine mgR hW rfl ?_
  have c3 := G.1
  have G := G.2
  refine maI hW rfl rfl rfl rfl c3 ?_
  refine mgI hW rfl ?_
  have c1 := G.1
  have G := G.2
  refine ⟨fun w => absurd ((mz_eq rfl zl_0 (hB.1 10) (bdl rfl)).mp w) (by omega), ?_⟩
  have b2 := G.1
  have G := G.2
  exact mretI (mz_add (mz_add rfl zl_1) (mz_div rfl rfl ⟨c1, (hB.2 17 p0), (hB.1 10)⟩)) b2 hB G
theorem p_X3_figures {D : qD} {W : mW} {X : String → qH → Prop} {K : Int → mS → Prop} (hW : mOK D W) {s : mS} (hB : MB s) {p0 : Int} (bp0 : bd p0) (G : ((10 ≤ p0 → ((100 ≤ p0 → ((1000 ≤ p0 → K 4 s) ∧ (¬ 1000 ≤ p0 → K 3 s))) ∧ (¬ 100 ≤ p0 → K 2 s))) ∧ (¬ 10 ≤ p0 → K 1 s))) : pIS D W X m_X3_figures [p0] s K := by
  intro h
  refine f_X3_figures _ _ ?_
  refine ⟨fun w3 => ?_, fun w3 => ?_⟩
  · have G := G.1 ((mz_le zl_10 rfl (bdl rfl) bp0).mp w3)
    refine ⟨fun w2 => ?_, fun w2 => ?_⟩
    · have G := G.1 ((mz_le zl_100 rfl (bdl rfl) bp0).mp w2)
      refine ⟨fun w1 => ?_, fun w1 => ?_⟩
      · have G := G.1 ((mz_le zl_1000 rfl (bdl rfl) bp0).mp w1)
        exact mretI zl_4 (bdl rfl) hB G
      · have G := G.2 (fun u => w1 ((mz_le zl_1000 rfl (bdl rfl) bp0).mpr u))
        exact mretI zl_3 (bdl rfl) hB G
    · have G := G.2 (fun u => w2 ((mz_le zl_100 rfl (bdl rfl) bp0).mpr u))
      exact mretI zl_2 (bdl rfl) hB G
  · have G := G.2 (fun u => w3 ((mz_le zl_10 rfl (bdl rfl) bp0).mpr u))
    exact mretI zl_1 (bdl rfl) hB G
theorem p_X3_pagesOf {D : qD} {W : mW} {X : String → qH → Prop} {K : Int → mS → Prop} (hW : mOK D W) {s : mS} (hB : MB s) {p0 : Int} (bp0 : bd p0) (G : (bd ((p0 + (s.1 10)) - 1) ∧ ((0 ≤ ((p0 + (s.1 10)) - 1) ∧ (0 : Int) < (s.1 10)) ∧ K (((p0 + (s.1 10)) - 1) / (s.1 10)) s))) : pI D W X m_X3_pagesOf [p0] s K := by
  intro h
  refine f_X3_pagesOf _ _ _ ?_
  refine mgI hW rfl ?_
  refine mgI hW rfl ?_
  have b1 := G.1
  have G := G.2
  have c2 := G.1
  have G := G.2
  refine ⟨fun w => absurd ((mz_eq rfl zl_0 (hB.1 10) (bdl rfl)).mp w) (by omega), ?_⟩
  exact mretI (mz_div (mz_sub (mz_add rfl rfl) zl_1) rfl ⟨c2, b1, (hB.1 10)⟩) (bdiv c2 b1) hB G
def PL_X3_lastOf_2 (D : qD) (W : mW) (X : String → qH → Prop) (K : Int → mS → Prop) (s : mS) (v2 : Int) : Prop := MB s → bd v2 → ∀ h, L_X3_lastOf_2 D (pQI W h K) X (W.1 100) (zI v2) (mh W s h)
theorem PLu_X3_lastOf_2 {D : qD} {W : mW} {X : String → qH → Prop} {K : Int → mS → Prop} {s : mS} {v2 : Int} {xv2 : Int32} (G : PL_X3_lastOf_2 D W X K s v2) (hB : MB s) (ev2 : xv2 = zI v2) (bv2 : bd v2) (h : qH) : L_X3_lastOf_2 D (pQI W h K) X (W.1 100) xv2 (mh W s h) := by
  subst ev2
  exact G hB bv2 h
theorem p_X3_lastOf {D : qD} {W : mW} {X : String → qH → Prop} {K : Int → mS → Prop} (hW : mOK D W) {s : mS} (hB : MB s) {p0 : Int} (bp0 : bd p0) (G : PL_X3_lastOf_2 D W X K s p0) : pI D W X m_X3_lastOf [p0] s K := by
  intro h
  refine f_X3_lastOf _ _ _ ?_
  exact PLu_X3_lastOf_2 G hB rfl bp0 h
theorem p_X3_lastOf_2 {D : qD} {W : mW} {X : String → qH → Prop} {K : Int → mS → Prop} (hW : mOK D W) {s : mS} {v2 : Int} (G : MB s → bd v2 → ((0 ≤ v2 ∧ v2 < 10) ∧ (((s.2 11 v2) = (-1) → K v2 s) ∧ (¬ (s.2 11 v2) = (-1) → ((0 ≤ v2 ∧ v2 < 10) ∧ PL_X3_lastOf_2 D W X K s (s.2 11 v2)))))) : PL_X3_lastOf_2 D W X K s v2 := by
  intro hB bv2 h
  have G := G hB bv2
  refine f_X3_lastOf_2 _ _ _ ?_
  refine mgR hW rfl ?_
  have c3 := G.1
  have G := G.2
  refine maI hW rfl rfl rfl rfl c3 ?_
  refine ⟨fun w2 => ?_, fun w2 => ?_⟩
  · have G := G.1 ((mz_eq rfl zl_m1 (hB.2 11 v2) (bdl rfl)).mp w2)
    exact mretI rfl bv2 hB G
  · have G := G.2 (fun u => w2 ((mz_eq rfl zl_m1 (hB.2 11 v2) (bdl rfl)).mpr u))
    refine mgR hW rfl ?_
    have c1 := G.1
    have G := G.2
    refine maI hW rfl rfl rfl rfl c1 ?_
    exact PLu_X3_lastOf_2 G hB rfl (hB.2 11 v2) h
theorem p_X3_within {D : qD} {W : mW} {X : String → qH → Prop} {K : Int → mS → Prop} (hW : mOK D W) {s : mS} (hB : MB s) {p0 : Int} (bp0 : bd p0) (G : (bd (p0 - 1) ∧ ((0 ≤ (p0 - 1) ∧ (0 : Int) < (s.1 12)) ∧ ((0 ≤ (s.1 12) ∧ (0 : Int) < 2) ∧ (bd (((p0 - 1) % (s.1 12)) + 1) ∧ ((((s.1 12) / 2) < (((p0 - 1) % (s.1 12)) + 1) → (bd ((s.1 12) - (((p0 - 1) % (s.1 12)) + 1)) ∧ ((0 ≤ ((s.1 12) - (((p0 - 1) % (s.1 12)) + 1)) ∧ (0 : Int) < 2) ∧ K (((s.1 12) - (((p0 - 1) % (s.1 12)) + 1)) / 2) s))) ∧ (¬ ((s.1 12) / 2) < (((p0 - 1) % (s.1 12)) + 1) → (bd ((((p0 - 1) % (s.1 12)) + 1) - 1) ∧ ((0 ≤ ((((p0 - 1) % (s.1 12)) + 1) - 1) ∧ (0 : Int) < 2) ∧ K (((((p0 - 1) % (s.1 12)) + 1) - 1) / 2) s))))))))) : pI D W X m_X3_within [p0] s K := by
  intro h
  refine f_X3_within _ _ _ ?_
  refine mgI hW rfl ?_
  have b1 := G.1
  have G := G.2
  have c2 := G.1
  have G := G.2
  refine ⟨fun w => absurd ((mz_eq rfl zl_0 (hB.1 12) (bdl rfl)).mp w) (by omega), ?_⟩
  refine mgI hW rfl ?_
  have c3 := G.1
  have G := G.2
  have b4 := G.1
  have G := G.2
  refine ⟨fun w9 => ?_, fun w9 => ?_⟩
  · have G := G.1 ((mz_lt (mz_div rfl zl_2 ⟨c3, (hB.1 12), (bdl rfl)⟩) (mz_add (mz_rem (mz_sub rfl zl_1) rfl ⟨c2, b1, (hB.1 12)⟩) zl_1) (bdiv c3 (hB.1 12)) b4).mp w9)
    refine mgI hW rfl ?_
    have b5 := G.1
    have G := G.2
    have c6 := G.1
    have G := G.2
    exact mretI (mz_div (mz_sub rfl (mz_add (mz_rem (mz_sub rfl zl_1) rfl ⟨c2, b1, (hB.1 12)⟩) zl_1)) zl_2 ⟨c6, b5, (bdl rfl)⟩) (bdiv c6 b5) hB G
  · have G := G.2 (fun u => w9 ((mz_lt (mz_div rfl zl_2 ⟨c3, (hB.1 12), (bdl rfl)⟩) (mz_add (mz_rem (mz_sub rfl zl_1) rfl ⟨c2, b1, (hB.1 12)⟩) zl_1) (bdiv c3 (hB.1 12)) b4).mpr u))
    have b7 := G.1
    have G := G.2
    have c8 := G.1
    have G := G.2
    exact mretI (mz_div (mz_sub (mz_add (mz_rem (mz_sub rfl zl_1) rfl ⟨c2, b1, (hB.1 12)⟩) zl_1) zl_1) zl_2 ⟨c8, b7, (bdl rfl)⟩) (bdiv c8 b7) hB G
theorem p_X3_tokens {D : qD} {W : mW} {X : String → qH → Prop} {K : Int → mS → Prop} (hW : mOK D W) {s : mS} (hB : MB s) (G : K (s.1 0) (mF s 37 0)) : pI D W X m_X3_tokens [] s K := by
  intro h
  refine f_X3_tokens _ _ ?_
  refine mpF hW rfl zl_0 ?_
  refine mgI hW rfl ?_
  exact mretI rfl (hB.1 0) (MB.F hB (bdl rfl)) G
def PL_X3_isFine_14 (D : qD) (W : mW) (X : String → qH → Prop) (K : Int → mS → Prop) (s : mS) (v1 v2 v3 : Int) : Prop := MB s → bd v1 → bd v2 → bd v3 → ∀ h, L_X3_isFine_14 D (pQI W h K) X (zI v1) (zI v2) (zI v3) (mh W s h)
theorem PLu_X3_isFine_14 {D : qD} {W : mW} {X : String → qH → Prop} {K : Int → mS → Prop} {s : mS} {v1 : Int} {xv1 : Int32} {v2 : Int} {xv2 : Int32} {v3 : Int} {xv3 : Int32} (G : PL_X3_isFine_14 D W X K s v1 v2 v3) (hB : MB s) (ev1 : xv1 = zI v1) (bv1 : bd v1) (ev2 : xv2 = zI v2) (bv2 : bd v2) (ev3 : xv3 = zI v3) (bv3 : bd v3) (h : qH) : L_X3_isFine_14 D (pQI W h K) X xv1 xv2 xv3 (mh W s h) := by
  subst ev1
  subst ev2
  subst ev3
  exact G hB bv1 bv2 bv3 h
def PL_X3_isFine_19 (D : qD) (W : mW) (X : String → qH → Prop) (K : Int → mS → Prop) (s : mS) (v1 v2 v3 y0 : Int) : Prop := MB s → bd v1 → bd v2 → bd v3 → bd y0 → ∀ h, L_X3_isFine_19 D (pQI W h K) X (zI v1) (zI v2) (zI v3) (zI y0) (mh W s h)
theorem PLu_X3_isFine_19 {D : qD} {W : mW} {X : String → qH → Prop} {K : Int → mS → Prop} {s : mS} {v1 : Int} {xv1 : Int32} {v2 : Int} {xv2 : Int32} {v3 : Int} {xv3 : Int32} {y0 : Int} {xy0 : Int32} (G : PL_X3_isFine_19 D W X K s v1 v2 v3 y0) (hB : MB s) (ev1 : xv1 = zI v1) (bv1 : bd v1) (ev2 : xv2 = zI v2) (bv2 : bd v2) (ev3 : xv3 = zI v3) (bv3 : bd v3) (ey0 : xy0 = zI y0) (by0 : bd y0) (h : qH) : L_X3_isFine_19 D (pQI W h K) X xv1 xv2 xv3 xy0 (mh W s h) := by
  subst ev1
  subst ev2
  subst ev3
  subst ey0
  exact G hB bv1 bv2 bv3 by0 h
def PL_X3_isFine_36 (D : qD) (W : mW) (X : String → qH → Prop) (K : Int → mS → Prop) (s : mS) (v1 v2 y0 y1 y2 : Int) : Prop := MB s → bd v1 → bd v2 → bd y0 → bd y1 → bd y2 → ∀ h, L_X3_isFine_36 D (pQI W h K) X (zI v1) (zI v2) (zL y0) (zL y1) (zL y2) (mh W s h)
theorem PLu_X3_isFine_36 {D : qD} {W : mW} {X : String → qH → Prop} {K : Int → mS → Prop} {s : mS} {v1 : Int} {xv1 : Int32} {v2 : Int} {xv2 : Int32} {y0 : Int} {xy0 : Int64} {y1 : Int} {xy1 : Int64} {y2 : Int} {xy2 : Int64} (G : PL_X3_isFine_36 D W X K s v1 v2 y0 y1 y2) (hB : MB s) (ev1 : xv1 = zI v1) (bv1 : bd v1) (ev2 : xv2 = zI v2) (bv2 : bd v2) (ey0 : xy0 = zL y0) (by0 : bd y0) (ey1 : xy1 = zL y1) (by1 : bd y1) (ey2 : xy2 = zL y2) (by2 : bd y2) (h : qH) : L_X3_isFine_36 D (pQI W h K) X xv1 xv2 xy0 xy1 xy2 (mh W s h) := by
  subst ev1
  subst ev2
  subst ey0
  subst ey1
  subst ey2
  exact G hB bv1 bv2 by0 by1 by2 h
def PL_X3_isFine_84 (D : qD) (W : mW) (X : String → qH → Prop) (K : Int → mS → Prop) (s : mS) (v2 : Int) : Prop := MB s → bd v2 → ∀ h, L_X3_isFine_84 D (pQI W h K) X (zI v2) (mh W s h)
theorem PLu_X3_isFine_84 {D : qD} {W : mW} {X : String → qH → Prop} {K : Int → mS → Prop} {s : mS} {v2 : Int} {xv2 : Int32} (G : PL_X3_isFine_84 D W X K s v2) (hB : MB s) (ev2 : xv2 = zI v2) (bv2 : bd v2) (h : qH) : L_X3_isFine_84 D (pQI W h K) X xv2 (mh W s h) := by
  subst ev2
  exact G hB bv2 h
theorem p_X3_isFine {D : qD} {W : mW} {X : String → qH → Prop} {K : Int → mS → Prop} (hW : mOK D W) {s : mS} (hB : MB s) {p0 : Int} (bp0 : bd p0) {p1 : Int} (bp1 : bd p1) {p2 : Int} (bp2 : bd p2) (G : ((p0 = 0 → PL_X3_isFine_14 D W X K s p0 p1 p2) ∧ (¬ p0 = 0 → ((p0 = 1 → PL_X3_isFine_14 D W X K s p0 p1 p2) ∧ (¬ p0 = 1 → ((¬ p0 = 3 → PL_X3_isFine_19 D W X K s p0 p1 p2 0) ∧ (p0 = 3 → PL_X3_isFine_14 D W X K s p0 p1 p2))))))) : pI D W X m_X3_isFine [p0, p1, p2] s K := by
  intro h
  refine f_X3_isFine _ _ _ _ _ ?_
  refine ⟨fun w3 => ?_, fun w3 => ?_⟩
  · have G := G.1 ((mz_eq rfl zl_0 bp0 (bdl rfl)).mp w3)
    exact PLu_X3_isFine_14 G hB rfl bp0 rfl bp1 rfl bp2 h
  · have G := G.2 (fun u => w3 ((mz_eq rfl zl_0 bp0 (bdl rfl)).mpr u))
    refine ⟨fun w2 => ?_, fun w2 => ?_⟩
    · have G := G.1 ((mz_eq rfl zl_1 bp0 (bdl rfl)).mp w2)
      exact PLu_X3_isFine_14 G hB rfl bp0 rfl bp1 rfl bp2 h
    · have G := G.2 (fun u => w2 ((mz_eq rfl zl_1 bp0 (bdl rfl)).mpr u))
      refine ⟨fun w1 => ?_, fun w1 => ?_⟩
      · have G := G.1 (fun u => w1 ((mz_eq rfl zl_3 bp0 (bdl rfl)).mpr u))
        exact PLu_X3_isFine_19 G hB rfl bp0 rfl bp1 rfl bp2 zl_0 (bdl rfl) h
      · have G := G.2 ((mz_eq rfl zl_3 bp0 (bdl rfl)).mp w1)
        exact PLu_X3_isFine_14 G hB rfl bp0 rfl bp1 rfl bp2 h
theorem p_X3_isFine_14 {D : qD} {W : mW} {X : String → qH → Prop} {K : Int → mS → Prop} (hW : mOK D W) {s : mS} {v1 : Int} {v2 : Int} {v3 : Int} (G : MB s → bd v1 → bd v2 → bd v3 → PL_X3_isFine_19 D W X K s v1 v2 v3 1) : PL_X3_isFine_14 D W X K s v1 v2 v3 := by
  intro hB bv1 bv2 bv3 h
  have G := G hB bv1 bv2 bv3
  refine f_X3_isFine_14 _ _ _ _ ?_
  exact PLu_X3_isFine_19 G hB rfl bv1 rfl bv2 rfl bv3 zl_1 (bdl rfl) h
theorem p_X3_isFine_19 {D : qD} {W : mW} {X : String → qH → Prop} {K : Int → mS → Prop} (hW : mOK D W) {s : mS} {v1 : Int} {v2 : Int} {v3 : Int} {y0 : Int} (G : MB s → bd v1 → bd v2 → bd v3 → bd y0 → ((y0 = 0 → PL_X3_isFine_36 D W X K s v1 v2 0 0 v3) ∧ (¬ y0 = 0 → PL_X3_isFine_36 D W X K s v1 v2 5 0 v3))) : PL_X3_isFine_19 D W X K s v1 v2 v3 y0 := by
  intro hB bv1 bv2 bv3 by0 h
  have G := G hB bv1 bv2 bv3 by0
  refine f_X3_isFine_19 _ _ _ _ _ ?_
  refine ⟨fun w4 => ?_, fun w4 => ?_⟩
  · have G := G.1 ((mz_eq rfl zl_0 by0 (bdl rfl)).mp w4)
    exact PLu_X3_isFine_36 G hB rfl bv1 rfl bv2 rfl (bdl rfl) rfl (bdl rfl) (mz_l rfl bv3) bv3 h
  · have G := G.2 (fun u => w4 ((mz_eq rfl zl_0 by0 (bdl rfl)).mpr u))
    exact PLu_X3_isFine_36 G hB rfl bv1 rfl bv2 rfl (bdl rfl) rfl (bdl rfl) (mz_l rfl bv3) bv3 h
theorem p_X3_isFine_36 {D : qD} {W : mW} {X : String → qH → Prop} {K : Int → mS → Prop} (hW : mOK D W) {s : mS} {v1 : Int} {v2 : Int} {y0 : Int} {y1 : Int} {y2 : Int} (G : MB s → bd v1 → bd v2 → bd y0 → bd y1 → bd y2 → ((¬ (mIn y2 y1 y0) = 0 → ((v1 = 0 → PL_X3_isFine_84 D W X K s v2) ∧ (v1 = 1 → (((mIn v2 0 3) = 0 ∨ (mIn v2 0 3) = 1) ∧ K (mIn v2 0 3) s)) ∧ (v1 = 2 → ((¬ v2 = 0 → K 0 s) ∧ (v2 = 0 → K 1 s))) ∧ (v1 = 3 → PL_X3_isFine_84 D W X K s v2) ∧ (v1 = 4 → PL_X3_isFine_84 D W X K s v2) ∧ (v1 = 5 → (((mIn v2 1 4) = 0 ∨ (mIn v2 1 4) = 1) ∧ K (mIn v2 1 4) s)) ∧ (¬ v1 = 0 → ¬ v1 = 1 → ¬ v1 = 2 → ¬ v1 = 3 → ¬ v1 = 4 → ¬ v1 = 5 → (((mIn v2 0 9) = 0 ∨ (mIn v2 0 9) = 1) ∧ K (mIn v2 0 9) s)))) ∧ ((mIn y2 y1 y0) = 0 → K 0 s))) : PL_X3_isFine_36 D W X K s v1 v2 y0 y1 y2 := by
  intro hB bv1 bv2 by0 by1 by2 h
  have G := G hB bv1 bv2 by0 by1 by2
  refine f_X3_isFine_36 _ _ _ _ _ _ ?_
  refine mcIn (a := y2) (b := y1) (c := y0) rfl rfl rfl by2 by1 by0 ?_
  refine ⟨fun w6 => ?_, fun w6 => ?_⟩
  · have G := G.1 (fun u => w6 ((mz_eq rfl zl_0 bdIn (bdl rfl)).mpr u))
    refine ⟨fun w => ?_, fun w => ?_, fun w => ?_, fun w => ?_, fun w => ?_, fun w => ?_, fun w0 w1 w2 w3 w4 w5 => ?_⟩
    · have G := G.1 ((mz_eq rfl zl_0 bv1 (bdl rfl)).mp w)
      exact PLu_X3_isFine_84 G hB rfl bv2 h
    · have G := G.2.1 ((mz_eq rfl zl_1 bv1 (bdl rfl)).mp w)
      refine mcIn (a := v2) (b := 0) (c := 3) (mz_l rfl bv2) rfl rfl bv2 (bdl rfl) (bdl rfl) ?_
      exact ⟨mz_01 rfl G.1, mretI rfl (bd01 G.1) hB G.2⟩
    · have G := G.2.2.1 ((mz_eq rfl zl_2 bv1 (bdl rfl)).mp w)
      refine ⟨fun w5 => ?_, fun w5 => ?_⟩
      · have G := G.1 (fun u => w5 ((mz_eq rfl zl_0 bv2 (bdl rfl)).mpr u))
        exact mretI zl_0 (bdl rfl) hB G
      · have G := G.2 ((mz_eq rfl zl_0 bv2 (bdl rfl)).mp w5)
        exact mretI zl_1 (bdl rfl) hB G
    · have G := G.2.2.2.1 ((mz_eq rfl zl_3 bv1 (bdl rfl)).mp w)
      exact PLu_X3_isFine_84 G hB rfl bv2 h
    · have G := G.2.2.2.2.1 ((mz_eq rfl zl_4 bv1 (bdl rfl)).mp w)
      exact PLu_X3_isFine_84 G hB rfl bv2 h
    · have G := G.2.2.2.2.2.1 ((mz_eq rfl zl_5 bv1 (bdl rfl)).mp w)
      refine mcIn (a := v2) (b := 1) (c := 4) (mz_l rfl bv2) rfl rfl bv2 (bdl rfl) (bdl rfl) ?_
      exact ⟨mz_01 rfl G.1, mretI rfl (bd01 G.1) hB G.2⟩
    · have G := G.2.2.2.2.2.2 (fun u => w0 ((mz_eq rfl zl_0 bv1 (bdl rfl)).mpr u)) (fun u => w1 ((mz_eq rfl zl_1 bv1 (bdl rfl)).mpr u)) (fun u => w2 ((mz_eq rfl zl_2 bv1 (bdl rfl)).mpr u)) (fun u => w3 ((mz_eq rfl zl_3 bv1 (bdl rfl)).mpr u)) (fun u => w4 ((mz_eq rfl zl_4 bv1 (bdl rfl)).mpr u)) (fun u => w5 ((mz_eq rfl zl_5 bv1 (bdl rfl)).mpr u))
      refine mcIn (a := v2) (b := 0) (c := 9) (mz_l rfl bv2) rfl rfl bv2 (bdl rfl) (bdl rfl) ?_
      exact ⟨mz_01 rfl G.1, mretI rfl (bd01 G.1) hB G.2⟩
  · have G := G.2 ((mz_eq rfl zl_0 bdIn (bdl rfl)).mp w6)
    exact mretI zl_0 (bdl rfl) hB G
theorem p_X3_isFine_84 {D : qD} {W : mW} {X : String → qH → Prop} {K : Int → mS → Prop} (hW : mOK D W) {s : mS} {v2 : Int} (G : MB s → bd v2 → (((mIn v2 1 9) = 0 ∨ (mIn v2 1 9) = 1) ∧ K (mIn v2 1 9) s)) : PL_X3_isFine_84 D W X K s v2 := by
  intro hB bv2 h
  have G := G hB bv2
  refine f_X3_isFine_84 _ _ ?_
  refine mcIn (a := v2) (b := 1) (c := 9) (mz_l rfl bv2) rfl rfl bv2 (bdl rfl) (bdl rfl) ?_
  exact ⟨mz_01 rfl G.1, mretI rfl (bd01 G.1) hB G.2⟩
def PL_X3_take_39 (D : qD) (W : mW) (X : String → qH → Prop) (K : Int → mS → Prop) (s : mS) (v2 : Int) : Prop := MB s → bd v2 → ∀ h, L_X3_take_39 D (pQI W h K) X (W.1 100) (zI v2) (mh W s h)
theorem PLu_X3_take_39 {D : qD} {W : mW} {X : String → qH → Prop} {K : Int → mS → Prop} {s : mS} {v2 : Int} {xv2 : Int32} (G : PL_X3_take_39 D W X K s v2) (hB : MB s) (ev2 : xv2 = zI v2) (bv2 : bd v2) (h : qH) : L_X3_take_39 D (pQI W h K) X (W.1 100) xv2 (mh W s h) := by
  subst ev2
  exact G hB bv2 h
theorem p_X3_take {D : qD} {W : mW} {X : String → qH → Prop} {K : Int → mS → Prop} (hW : mOK D W) {s : mS} (hB : MB s) {p0 : Int} (bp0 : bd p0) (G : (bd ((s.1 0) - 1) ∧ ((¬ (mIn p0 0 ((s.1 0) - 1)) = 0 → (bd ((s.1 0) - 1) ∧ PL_X3_take_39 D W X K (mF (mF s 37 0) 0 ((s.1 0) - 1)) p0)) ∧ ((mIn p0 0 ((s.1 0) - 1)) = 0 → pI D W X m_X3_fails [1] s (fun z3 s4 => K z3 s4))))) : pI D W X m_X3_take [p0] s K := by
  intro h
  refine f_X3_take _ _ _ ?_
  refine mgI hW rfl ?_
  have b1 := G.1
  have G := G.2
  refine mcIn (a := p0) (b := 0) (c := ((s.1 0) - 1)) (mz_l rfl bp0) rfl (mz_l (mz_sub rfl zl_1) b1) bp0 (bdl rfl) b1 ?_
  refine ⟨fun w7 => ?_, fun w7 => ?_⟩
  · have G := G.1 (fun u => w7 ((mz_eq rfl zl_0 bdIn (bdl rfl)).mpr u))
    refine mpF hW rfl zl_0 ?_
    refine mgI hW rfl ?_
    have b2 := G.1
    have G := G.2
    refine mpF hW rfl (mz_sub rfl zl_1) ?_
    exact PLu_X3_take_39 G (MB.F (MB.F hB (bdl rfl)) b2) rfl bp0 h
  · have G := G.2 ((mz_eq rfl zl_0 bdIn (bdl rfl)).mp w7)
    refine ⟨mrc hW, mcI G (mv1 zl_1) (fun z3 s4 b5 hB6 G => ?_)⟩
    exact mretI rfl b5 hB6 G
theorem p_X3_take_39 {D : qD} {W : mW} {X : String → qH → Prop} {K : Int → mS → Prop} (hW : mOK D W) {s : mS} {v2 : Int} (G : MB s → bd v2 → (((s.1 0) ≤ v2 → K (s.1 0) s) ∧ (¬ (s.1 0) ≤ v2 → ((0 ≤ (v2 + 1) ∧ (v2 + 1) < 120) ∧ ((0 ≤ v2 ∧ v2 < 120) ∧ ((0 ≤ (v2 + 1) ∧ (v2 + 1) < 120) ∧ ((0 ≤ v2 ∧ v2 < 120) ∧ ((0 ≤ (v2 + 1) ∧ (v2 + 1) < 120) ∧ ((0 ≤ v2 ∧ v2 < 120) ∧ (bd (v2 + 1) ∧ PL_X3_take_39 D W X K (mA (mA (mA s 1 v2 (s.2 1 (v2 + 1))) 2 v2 (s.2 2 (v2 + 1))) 3 v2 (s.2 3 (v2 + 1))) (v2 + 1))))))))))) : PL_X3_take_39 D W X K s v2 := by
  intro hB bv2 h
  have G := G hB bv2
  refine f_X3_take_39 _ _ _ ?_
  refine mgI hW rfl ?_
  refine ⟨fun w15 => ?_, fun w15 => ?_⟩
  · have G := G.1 ((mz_le rfl rfl (hB.1 0) bv2).mp w15)
    refine mgI hW rfl ?_
    exact mretI rfl (hB.1 0) hB G
  · have G := G.2 (fun u => w15 ((mz_le rfl rfl (hB.1 0) bv2).mpr u))
    refine mgR hW rfl ?_
    refine mgR hW rfl ?_
    have c14 := G.1
    have G := G.2
    refine maI hW rfl rfl (mz_add rfl zl_1) rfl c14 ?_
    have c13 := G.1
    have G := G.2
    refine msI hW rfl rfl rfl rfl rfl c13 ?_
    refine mgR hW rfl ?_
    refine mgR hW rfl ?_
    have c12 := G.1
    have G := G.2
    refine maI hW rfl rfl (mz_add rfl zl_1) rfl c12 ?_
    have c11 := G.1
    have G := G.2
    refine msI hW rfl rfl rfl rfl rfl c11 ?_
    refine mgR hW rfl ?_
    refine mgR hW rfl ?_
    have c10 := G.1
    have G := G.2
    refine maI hW rfl rfl (mz_add rfl zl_1) rfl c10 ?_
    have c9 := G.1
    have G := G.2
    refine msI hW rfl rfl rfl rfl rfl c9 ?_
    have b8 := G.1
    have G := G.2
    exact PLu_X3_take_39 G (MB.A (MB.A (MB.A hB (hB.2 1 (v2 + 1))) (hB.2 2 (v2 + 1))) (hB.2 3 (v2 + 1))) (mz_add rfl zl_1) b8 h
def PL_X3_style_26 (D : qD) (W : mW) (X : String → qH → Prop) (K : mS → Prop) (s : mS) : Prop := MB s → ∀ h, L_X3_style_26 D (pQV W h K) X (W.1 100) (mh W s h)
theorem PLu_X3_style_26 {D : qD} {W : mW} {X : String → qH → Prop} {K : mS → Prop} {s : mS} (G : PL_X3_style_26 D W X K s) (hB : MB s) (h : qH) : L_X3_style_26 D (pQV W h K) X (W.1 100) (mh W s h) := by
  exact G hB h
def PL_X3_style_61 (D : qD) (W : mW) (X : String → qH → Prop) (K : mS → Prop) (s : mS) : Prop := MB s → ∀ h, L_X3_style_61 D (pQV W h K) X (W.1 100) (mh W s h)
theorem PLu_X3_style_61 {D : qD} {W : mW} {X : String → qH → Prop} {K : mS → Prop} {s : mS} (G : PL_X3_style_61 D W X K s) (hB : MB s) (h : qH) : L_X3_style_61 D (pQV W h K) X (W.1 100) (mh W s h) := by
  exact G hB h
def PL_X3_style_70 (D : qD) (W : mW) (X : String → qH → Prop) (K : mS → Prop) (s : mS) (v1 v2 v3 v4 v5 : Int) : Prop := MB s → bd v1 → bd v2 → bd v3 → bd v4 → bd v5 → ∀ h, L_X3_style_70 D (pQV W h K) X (W.1 100) (zI v1) (zI v2) (zI v3) (zI v4) (zI v5) (mh W s h)
theorem PLu_X3_style_70 {D : qD} {W : mW} {X : String → qH → Prop} {K : mS → Prop} {s : mS} {v1 : Int} {xv1 : Int32} {v2 : Int} {xv2 : Int32} {v3 : Int} {xv3 : Int32} {v4 : Int} {xv4 : Int32} {v5 : Int} {xv5 : Int32} (G : PL_X3_style_70 D W X K s v1 v2 v3 v4 v5) (hB : MB s) (ev1 : xv1 = zI v1) (bv1 : bd v1) (ev2 : xv2 = zI v2) (bv2 : bd v2) (ev3 : xv3 = zI v3) (bv3 : bd v3) (ev4 : xv4 = zI v4) (bv4 : bd v4) (ev5 : xv5 = zI v5) (bv5 : bd v5) (h : qH) : L_X3_style_70 D (pQV W h K) X (W.1 100) xv1 xv2 xv3 xv4 xv5 (mh W s h) := by
  subst ev1
  subst ev2
  subst ev3
  subst ev4
  subst ev5
  exact G hB bv1 bv2 bv3 bv4 bv5 h
def PL_X3_style_94 (D : qD) (W : mW) (X : String → qH → Prop) (K : mS → Prop) (s : mS) (v1 v2 v3 v4 v5 : Int) : Prop := MB s → bd v1 → bd v2 → bd v3 → bd v4 → bd v5 → ∀ h, L_X3_style_94 D (pQV W h K) X (W.1 100) (zI v1) (zI v2) (zI v3) (zI v4) (zI v5) (mh W s h)
theorem PLu_X3_style_94 {D : qD} {W : mW} {X : String → qH → Prop} {K : mS → Prop} {s : mS} {v1 : Int} {xv1 : Int32} {v2 : Int} {xv2 : Int32} {v3 : Int} {xv3 : Int32} {v4 : Int} {xv4 : Int32} {v5 : Int} {xv5 : Int32} (G : PL_X3_style_94 D W X K s v1 v2 v3 v4 v5) (hB : MB s) (ev1 : xv1 = zI v1) (bv1 : bd v1) (ev2 : xv2 = zI v2) (bv2 : bd v2) (ev3 : xv3 = zI v3) (bv3 : bd v3) (ev4 : xv4 = zI v4) (bv4 : bd v4) (ev5 : xv5 = zI v5) (bv5 : bd v5) (h : qH) : L_X3_style_94 D (pQV W h K) X (W.1 100) xv1 xv2 xv3 xv4 xv5 (mh W s h) := by
  subst ev1
  subst ev2
  subst ev3
  subst ev4
  subst ev5
  exact G hB bv1 bv2 bv3 bv4 bv5 h
theorem p_X3_style {D : qD} {W : mW} {X : String → qH → Prop} {K : mS → Prop} (hW : mOK D W) {s : mS} (hB : MB s) {p0 : Int} (bp0 : bd p0) {p1 : Int} (bp1 : bd p1) {p2 : Int} (bp2 : bd p2) {p3 : Int} (bp3 : bd p3) (G : (((mIn p0 0 5) = 0 → PL_X3_style_26 D W X K s) ∧ (¬ (mIn p0 0 5) = 0 → ((¬ (mIn p1 (-1) 5) = 0 → (((mIn p2 (-1) 3) = 0 → PL_X3_style_61 D W X K s) ∧ (¬ (mIn p2 (-1) 3) = 0 → ((¬ (mIn p3 (-1) 3) = 0 → PL_X3_style_70 D W X K s p0 p1 p2 p3 p1) ∧ ((mIn p3 (-1) 3) = 0 → PL_X3_style_61 D W X K s))))) ∧ ((mIn p1 (-1) 5) = 0 → PL_X3_style_26 D W X K s))))) : pV D W X m_X3_style [p0, p1, p2, p3] s K := by
  intro h
  refine f_X3_style _ _ _ _ _ _ ?_
  refine mcIn (a := p0) (b := 0) (c := 5) (mz_l rfl bp0) rfl rfl bp0 (bdl rfl) (bdl rfl) ?_
  refine ⟨fun w4 => ?_, fun w4 => ?_⟩
  · have G := G.1 ((mz_eq rfl zl_0 bdIn (bdl rfl)).mp w4)
    exact PLu_X3_style_26 G hB h
  · have G := G.2 (fun u => w4 ((mz_eq rfl zl_0 bdIn (bdl rfl)).mpr u))
    refine mcIn (a := p1) (b := (-1)) (c := 5) (mz_l rfl bp1) rfl rfl bp1 (bdl rfl) (bdl rfl) ?_
    refine ⟨fun w3 => ?_, fun w3 => ?_⟩
    · have G := G.1 (fun u => w3 ((mz_eq rfl zl_0 bdIn (bdl rfl)).mpr u))
      refine mcIn (a := p2) (b := (-1)) (c := 3) (mz_l rfl bp2) rfl rfl bp2 (bdl rfl) (bdl rfl) ?_
      refine ⟨fun w2 => ?_, fun w2 => ?_⟩
      · have G := G.1 ((mz_eq rfl zl_0 bdIn (bdl rfl)).mp w2)
        exact PLu_X3_style_61 G hB h
      · have G := G.2 (fun u => w2 ((mz_eq rfl zl_0 bdIn (bdl rfl)).mpr u))
        refine mcIn (a := p3) (b := (-1)) (c := 3) (mz_l rfl bp3) rfl rfl bp3 (bdl rfl) (bdl rfl) ?_
        refine ⟨fun w1 => ?_, fun w1 => ?_⟩
        · have G := G.1 (fun u => w1 ((mz_eq rfl zl_0 bdIn (bdl rfl)).mpr u))
          exact PLu_X3_style_70 G hB rfl bp0 rfl bp1 rfl bp2 rfl bp3 rfl bp1 h
        · have G := G.2 ((mz_eq rfl zl_0 bdIn (bdl rfl)).mp w1)
          exact PLu_X3_style_61 G hB h
    · have G := G.2 ((mz_eq rfl zl_0 bdIn (bdl rfl)).mp w3)
      exact PLu_X3_style_26 G hB h
theorem p_X3_style_26 {D : qD} {W : mW} {X : String → qH → Prop} {K : mS → Prop} (hW : mOK D W) {s : mS} (G : MB s → K (mF s 37 1)) : PL_X3_style_26 D W X K s := by
  intro hB h
  have G := G hB
  refine f_X3_style_26 _ _ ?_
  refine mpF hW rfl zl_1 ?_
  exact mretV (MB.F hB (bdl rfl)) G
theorem p_X3_style_61 {D : qD} {W : mW} {X : String → qH → Prop} {K : mS → Prop} (hW : mOK D W) {s : mS} (G : MB s → K (mF s 37 2)) : PL_X3_style_61 D W X K s := by
  intro hB h
  have G := G hB
  refine f_X3_style_61 _ _ ?_
  refine mpF hW rfl zl_2 ?_
  exact mretV (MB.F hB (bdl rfl)) G
theorem p_X3_style_70 {D : qD} {W : mW} {X : String → qH → Prop} {K : mS → Prop} (hW : mOK D W) {s : mS} {v1 : Int} {v2 : Int} {v3 : Int} {v4 : Int} {v5 : Int} (G : MB s → bd v1 → bd v2 → bd v3 → bd v4 → bd v5 → ((v5 = (-1) → PL_X3_style_94 D W X K s v1 v2 v3 v4 v5) ∧ (¬ v5 = (-1) → ((v5 = v1 → PL_X3_style_94 D W X K s v1 v2 v3 v4 v5) ∧ (¬ v5 = v1 → ((0 ≤ v5 ∧ v5 < 6) ∧ PL_X3_style_70 D W X K s v1 v2 v3 v4 (s.2 4 v5))))))) : PL_X3_style_70 D W X K s v1 v2 v3 v4 v5 := by
  intro hB bv1 bv2 bv3 bv4 bv5 h
  have G := G hB bv1 bv2 bv3 bv4 bv5
  refine f_X3_style_70 _ _ _ _ _ _ _ ?_
  refine ⟨fun w7 => ?_, fun w7 => ?_⟩
  · have G := G.1 ((mz_eq rfl zl_m1 bv5 (bdl rfl)).mp w7)
    exact PLu_X3_style_94 G hB rfl bv1 rfl bv2 rfl bv3 rfl bv4 rfl bv5 h
  · have G := G.2 (fun u => w7 ((mz_eq rfl zl_m1 bv5 (bdl rfl)).mpr u))
    refine ⟨fun w6 => ?_, fun w6 => ?_⟩
    · have G := G.1 ((mz_eq rfl rfl bv5 bv1).mp w6)
      exact PLu_X3_style_94 G hB rfl bv1 rfl bv2 rfl bv3 rfl bv4 rfl bv5 h
    · have G := G.2 (fun u => w6 ((mz_eq rfl rfl bv5 bv1).mpr u))
      refine mgR hW rfl ?_
      have c5 := G.1
      have G := G.2
      refine maI hW rfl rfl rfl rfl c5 ?_
      exact PLu_X3_style_70 G hB rfl bv1 rfl bv2 rfl bv3 rfl bv4 rfl (hB.2 4 v5) h
theorem p_X3_style_94 {D : qD} {W : mW} {X : String → qH → Prop} {K : mS → Prop} (hW : mOK D W) {s : mS} {v1 : Int} {v2 : Int} {v3 : Int} {v4 : Int} {v5 : Int} (G : MB s → bd v1 → bd v2 → bd v3 → bd v4 → bd v5 → ((v5 = (-1) → ((0 ≤ v1 ∧ v1 < 6) ∧ ((0 ≤ v1 ∧ v1 < 6) ∧ ((0 ≤ v1 ∧ v1 < 6) ∧ K (mA (mA (mA (mF s 37 0) 4 v1 v2) 5 v1 v3) 6 v1 v4))))) ∧ (¬ v5 = (-1) → K (mF s 37 3)))) : PL_X3_style_94 D W X K s v1 v2 v3 v4 v5 := by
  intro hB bv1 bv2 bv3 bv4 bv5 h
  have G := G hB bv1 bv2 bv3 bv4 bv5
  refine f_X3_style_94 _ _ _ _ _ _ _ ?_
  refine ⟨fun w11 => ?_, fun w11 => ?_⟩
  · have G := G.1 ((mz_eq rfl zl_m1 bv5 (bdl rfl)).mp w11)
    refine mpF hW rfl zl_0 ?_
    refine mgR hW rfl ?_
    have c10 := G.1
    have G := G.2
    refine msI hW rfl rfl rfl rfl rfl c10 ?_
    refine mgR hW rfl ?_
    have c9 := G.1
    have G := G.2
    refine msI hW rfl rfl rfl rfl rfl c9 ?_
    refine mgR hW rfl ?_
    have c8 := G.1
    have G := G.2
    refine msI hW rfl rfl rfl rfl rfl c8 ?_
    exact mretV (MB.A (MB.A (MB.A (MB.F hB (bdl rfl)) bv2) bv3) bv4) G
  · have G := G.2 (fun u => w11 ((mz_eq rfl zl_m1 bv5 (bdl rfl)).mpr u))
    refine mpF hW rfl zl_3 ?_
    exact mretV (MB.F hB (bdl rfl)) G
def PL_X3_data_24 (D : qD) (W : mW) (X : String → qH → Prop) (K : Int → mS → Prop) (s : mS) : Prop := MB s → ∀ h, L_X3_data_24 D (pQI W h K) X (W.1 100) (mh W s h)
theorem PLu_X3_data_24 {D : qD} {W : mW} {X : String → qH → Prop} {K : Int → mS → Prop} {s : mS} (G : PL_X3_data_24 D W X K s) (hB : MB s) (h : qH) : L_X3_data_24 D (pQI W h K) X (W.1 100) (mh W s h) := by
  exact G hB h
theorem p_X3_data {D : qD} {W : mW} {X : String → qH → Prop} {K : Int → mS → Prop} (hW : mOK D W) {s : mS} (hB : MB s) {p0 : Int} (bp0 : bd p0) {p1 : Int} (bp1 : bd p1) {p2 : Int} (bp2 : bd p2) (G : (((mIn p0 0 3) = 0 → PL_X3_data_24 D W X K s) ∧ (¬ (mIn p0 0 3) = 0 → ((¬ (mIn p1 0 3) = 0 → ((¬ (mIn p2 0 9) = 0 → ((0 ≤ ((4 * p0) + p1) ∧ ((4 * p0) + p1) < 16) ∧ ((0 ≤ ((4 * p0) + p1) ∧ ((4 * p0) + p1) < 16) ∧ K (s.2 7 ((4 * p0) + p1)) (mA (mF s 37 0) 7 ((4 * p0) + p1) p2)))) ∧ ((mIn p2 0 9) = 0 → pI D W X m_X3_fails [2] s (fun z3 s4 => K z3 s4)))) ∧ ((mIn p1 0 3) = 0 → PL_X3_data_24 D W X K s))))) : pI D W X m_X3_data [p0, p1, p2] s K := by
  intro h
  refine f_X3_data _ _ _ _ _ ?_
  refine mcIn (a := p0) (b := 0) (c := 3) (mz_l rfl bp0) rfl rfl bp0 (bdl rfl) (bdl rfl) ?_
  refine ⟨fun w9 => ?_, fun w9 => ?_⟩
  · have G := G.1 ((mz_eq rfl zl_0 bdIn (bdl rfl)).mp w9)
    exact PLu_X3_data_24 G hB h
  · have G := G.2 (fun u => w9 ((mz_eq rfl zl_0 bdIn (bdl rfl)).mpr u))
    refine mcIn (a := p1) (b := 0) (c := 3) (mz_l rfl bp1) rfl rfl bp1 (bdl rfl) (bdl rfl) ?_
    refine ⟨fun w8 => ?_, fun w8 => ?_⟩
    · have G := G.1 (fun u => w8 ((mz_eq rfl zl_0 bdIn (bdl rfl)).mpr u))
      refine mcIn (a := p2) (b := 0) (c := 9) (mz_l rfl bp2) rfl rfl bp2 (bdl rfl) (bdl rfl) ?_
      refine ⟨fun w7 => ?_, fun w7 => ?_⟩
      · have G := G.1 (fun u => w7 ((mz_eq rfl zl_0 bdIn (bdl rfl)).mpr u))
        refine mpF hW rfl zl_0 ?_
        refine mgR hW rfl ?_
        have c2 := G.1
        have G := G.2
        refine maI hW rfl rfl (mz_add (mz_mul zl_4 rfl) rfl) rfl c2 ?_
        refine mgR hW rfl ?_
        have c1 := G.1
        have G := G.2
        refine msI hW rfl rfl (mz_add (mz_mul zl_4 rfl) rfl) rfl rfl c1 ?_
        exact mretI rfl (hB.2 7 ((4 * p0) + p1)) (MB.A (MB.F hB (bdl rfl)) bp2) G
      · have G := G.2 ((mz_eq rfl zl_0 bdIn (bdl rfl)).mp w7)
        refine ⟨mrc hW, mcI G (mv1 zl_2) (fun z3 s4 b5 hB6 G => ?_)⟩
        exact mretI rfl b5 hB6 G
    · have G := G.2 ((mz_eq rfl zl_0 bdIn (bdl rfl)).mp w8)
      exact PLu_X3_data_24 G hB h
theorem p_X3_data_24 {D : qD} {W : mW} {X : String → qH → Prop} {K : Int → mS → Prop} (hW : mOK D W) {s : mS} (G : MB s → pI D W X m_X3_fails [1] s (fun z10 s11 => K z10 s11)) : PL_X3_data_24 D W X K s := by
  intro hB h
  have G := G hB
  refine f_X3_data_24 _ _ ?_
  refine ⟨mrc hW, mcI G (mv1 zl_1) (fun z10 s11 b12 hB13 G => ?_)⟩
  exact mretI rfl b12 hB13 G
def PL_X3_grid_40 (D : qD) (W : mW) (X : String → qH → Prop) (K : mS → Prop) (s : mS) : Prop := MB s → ∀ h, L_X3_grid_40 D (pQV W h K) X (W.1 100) (mh W s h)
theorem PLu_X3_grid_40 {D : qD} {W : mW} {X : String → qH → Prop} {K : mS → Prop} {s : mS} (G : PL_X3_grid_40 D W X K s) (hB : MB s) (h : qH) : L_X3_grid_40 D (pQV W h K) X (W.1 100) (mh W s h) := by
  exact G hB h
theorem p_X3_grid {D : qD} {W : mW} {X : String → qH → Prop} {K : mS → Prop} (hW : mOK D W) {s : mS} (hB : MB s) {p0 : Int} (bp0 : bd p0) {p1 : Int} (bp1 : bd p1) {p2 : Int} (bp2 : bd p2) (G : (((mIn p0 5 20) = 0 → PL_X3_grid_40 D W X K s) ∧ (¬ (mIn p0 5 20) = 0 → (((mIn p1 3 20) = 0 → PL_X3_grid_40 D W X K s) ∧ (¬ (mIn p1 3 20) = 0 → ((¬ (mIn p2 1 2) = 0 → K (mF (mF (mF (mF s 37 0) 8 p0) 9 p1) 10 p2)) ∧ ((mIn p2 1 2) = 0 → PL_X3_grid_40 D W X K s))))))) : pV D W X m_X3_grid [p0, p1, p2] s K := by
  intro h
  refine f_X3_grid _ _ _ _ _ ?_
  refine mcIn (a := p0) (b := 5) (c := 20) (mz_l rfl bp0) rfl rfl bp0 (bdl rfl) (bdl rfl) ?_
  refine ⟨fun w3 => ?_, fun w3 => ?_⟩
  · have G := G.1 ((mz_eq rfl zl_0 bdIn (bdl rfl)).mp w3)
    exact PLu_X3_grid_40 G hB h
  · have G := G.2 (fun u => w3 ((mz_eq rfl zl_0 bdIn (bdl rfl)).mpr u))
    refine mcIn (a := p1) (b := 3) (c := 20) (mz_l rfl bp1) rfl rfl bp1 (bdl rfl) (bdl rfl) ?_
    refine ⟨fun w2 => ?_, fun w2 => ?_⟩
    · have G := G.1 ((mz_eq rfl zl_0 bdIn (bdl rfl)).mp w2)
      exact PLu_X3_grid_40 G hB h
    · have G := G.2 (fun u => w2 ((mz_eq rfl zl_0 bdIn (bdl rfl)).mpr u))
      refine mcIn (a := p2) (b := 1) (c := 2) (mz_l rfl bp2) rfl rfl bp2 (bdl rfl) (bdl rfl) ?_
      refine ⟨fun w1 => ?_, fun w1 => ?_⟩
      · have G := G.1 (fun u => w1 ((mz_eq rfl zl_0 bdIn (bdl rfl)).mpr u))
        refine mpF hW rfl zl_0 ?_
        refine mpF hW rfl rfl ?_
        refine mpF hW rfl rfl ?_
        refine mpF hW rfl rfl ?_
        exact mretV (MB.F (MB.F (MB.F (MB.F hB (bdl rfl)) bp0) bp1) bp2) G
      · have G := G.2 ((mz_eq rfl zl_0 bdIn (bdl rfl)).mp w1)
        exact PLu_X3_grid_40 G hB h
theorem p_X3_grid_40 {D : qD} {W : mW} {X : String → qH → Prop} {K : mS → Prop} (hW : mOK D W) {s : mS} (G : MB s → K (mF s 37 1)) : PL_X3_grid_40 D W X K s := by
  intro hB h
  have G := G hB
  refine f_X3_grid_40 _ _ ?_
  refine mpF hW rfl zl_1 ?_
  exact mretV (MB.F hB (bdl rfl)) G
def PL_X3_see_26 (D : qD) (W : mW) (X : String → qH → Prop) (K : Int → mS → Prop) (s : mS) : Prop := MB s → ∀ h, L_X3_see_26 D (pQI W h K) X (W.1 100) (mh W s h)
theorem PLu_X3_see_26 {D : qD} {W : mW} {X : String → qH → Prop} {K : Int → mS → Prop} {s : mS} (G : PL_X3_see_26 D W X K s) (hB : MB s) (h : qH) : L_X3_see_26 D (pQI W h K) X (W.1 100) (mh W s h) := by
  exact G hB h
def PL_X3_see_34 (D : qD) (W : mW) (X : String → qH → Prop) (K : Int → mS → Prop) (s : mS) (v1 v2 v3 : Int) : Prop := MB s → bd v1 → bd v2 → bd v3 → ∀ h, L_X3_see_34 D (pQI W h K) X (W.1 100) (zI v1) (zI v2) (zI v3) (mh W s h)
theorem PLu_X3_see_34 {D : qD} {W : mW} {X : String → qH → Prop} {K : Int → mS → Prop} {s : mS} {v1 : Int} {xv1 : Int32} {v2 : Int} {xv2 : Int32} {v3 : Int} {xv3 : Int32} (G : PL_X3_see_34 D W X K s v1 v2 v3) (hB : MB s) (ev1 : xv1 = zI v1) (bv1 : bd v1) (ev2 : xv2 = zI v2) (bv2 : bd v2) (ev3 : xv3 = zI v3) (bv3 : bd v3) (h : qH) : L_X3_see_34 D (pQI W h K) X (W.1 100) xv1 xv2 xv3 (mh W s h) := by
  subst ev1
  subst ev2
  subst ev3
  exact G hB bv1 bv2 bv3 h
def PL_X3_see_54 (D : qD) (W : mW) (X : String → qH → Prop) (K : Int → mS → Prop) (s : mS) (v1 v2 v3 : Int) : Prop := MB s → bd v1 → bd v2 → bd v3 → ∀ h, L_X3_see_54 D (pQI W h K) X (W.1 100) (zI v1) (zI v2) (zI v3) (mh W s h)
theorem PLu_X3_see_54 {D : qD} {W : mW} {X : String → qH → Prop} {K : Int → mS → Prop} {s : mS} {v1 : Int} {xv1 : Int32} {v2 : Int} {xv2 : Int32} {v3 : Int} {xv3 : Int32} (G : PL_X3_see_54 D W X K s v1 v2 v3) (hB : MB s) (ev1 : xv1 = zI v1) (bv1 : bd v1) (ev2 : xv2 = zI v2) (bv2 : bd v2) (ev3 : xv3 = zI v3) (bv3 : bd v3) (h : qH) : L_X3_see_54 D (pQI W h K) X (W.1 100) xv1 xv2 xv3 (mh W s h) := by
  subst ev1
  subst ev2
  subst ev3
  exact G hB bv1 bv2 bv3 h
theorem p_X3_see {D : qD} {W : mW} {X : String → qH → Prop} {K : Int → mS → Prop} (hW : mOK D W) {s : mS} (hB : MB s) {p0 : Int} (bp0 : bd p0) {p1 : Int} (bp1 : bd p1) (G : (((mIn p0 0 9) = 0 → PL_X3_see_26 D W X K s) ∧ (¬ (mIn p0 0 9) = 0 → ((¬ (mIn p1 (-1) 9) = 0 → PL_X3_see_34 D W X K s p0 p1 p1) ∧ ((mIn p1 (-1) 9) = 0 → PL_X3_see_26 D W X K s))))) : pI D W X m_X3_see [p0, p1] s K := by
  intro h
  refine f_X3_see _ _ _ _ ?_
  refine mcIn (a := p0) (b := 0) (c := 9) (mz_l rfl bp0) rfl rfl bp0 (bdl rfl) (bdl rfl) ?_
  refine ⟨fun w2 => ?_, fun w2 => ?_⟩
  · have G := G.1 ((mz_eq rfl zl_0 bdIn (bdl rfl)).mp w2)
    exact PLu_X3_see_26 G hB h
  · have G := G.2 (fun u => w2 ((mz_eq rfl zl_0 bdIn (bdl rfl)).mpr u))
    refine mcIn (a := p1) (b := (-1)) (c := 9) (mz_l rfl bp1) rfl rfl bp1 (bdl rfl) (bdl rfl) ?_
    refine ⟨fun w1 => ?_, fun w1 => ?_⟩
    · have G := G.1 (fun u => w1 ((mz_eq rfl zl_0 bdIn (bdl rfl)).mpr u))
      exact PLu_X3_see_34 G hB rfl bp0 rfl bp1 rfl bp1 h
    · have G := G.2 ((mz_eq rfl zl_0 bdIn (bdl rfl)).mp w1)
      exact PLu_X3_see_26 G hB h
theorem p_X3_see_26 {D : qD} {W : mW} {X : String → qH → Prop} {K : Int → mS → Prop} (hW : mOK D W) {s : mS} (G : MB s → pI D W X m_X3_fails [1] s (fun z3 s4 => K z3 s4)) : PL_X3_see_26 D W X K s := by
  intro hB h
  have G := G hB
  refine f_X3_see_26 _ _ ?_
  refine ⟨mrc hW, mcI G (mv1 zl_1) (fun z3 s4 b5 hB6 G => ?_)⟩
  exact mretI rfl b5 hB6 G
theorem p_X3_see_34 {D : qD} {W : mW} {X : String → qH → Prop} {K : Int → mS → Prop} (hW : mOK D W) {s : mS} {v1 : Int} {v2 : Int} {v3 : Int} (G : MB s → bd v1 → bd v2 → bd v3 → ((v3 = (-1) → PL_X3_see_54 D W X K s v1 v2 v3) ∧ (¬ v3 = (-1) → ((v3 = v1 → PL_X3_see_54 D W X K s v1 v2 v3) ∧ (¬ v3 = v1 → ((0 ≤ v3 ∧ v3 < 10) ∧ PL_X3_see_34 D W X K s v1 v2 (s.2 11 v3))))))) : PL_X3_see_34 D W X K s v1 v2 v3 := by
  intro hB bv1 bv2 bv3 h
  have G := G hB bv1 bv2 bv3
  refine f_X3_see_34 _ _ _ _ _ ?_
  refine ⟨fun w9 => ?_, fun w9 => ?_⟩
  · have G := G.1 ((mz_eq rfl zl_m1 bv3 (bdl rfl)).mp w9)
    exact PLu_X3_see_54 G hB rfl bv1 rfl bv2 rfl bv3 h
  · have G := G.2 (fun u => w9 ((mz_eq rfl zl_m1 bv3 (bdl rfl)).mpr u))
    refine ⟨fun w8 => ?_, fun w8 => ?_⟩
    · have G := G.1 ((mz_eq rfl rfl bv3 bv1).mp w8)
      exact PLu_X3_see_54 G hB rfl bv1 rfl bv2 rfl bv3 h
    · have G := G.2 (fun u => w8 ((mz_eq rfl rfl bv3 bv1).mpr u))
      refine mgR hW rfl ?_
      have c7 := G.1
      have G := G.2
      refine maI hW rfl rfl rfl rfl c7 ?_
      exact PLu_X3_see_34 G hB rfl bv1 rfl bv2 rfl (hB.2 11 v3) h
theorem p_X3_see_54 {D : qD} {W : mW} {X : String → qH → Prop} {K : Int → mS → Prop} (hW : mOK D W) {s : mS} {v1 : Int} {v2 : Int} {v3 : Int} (G : MB s → bd v1 → bd v2 → bd v3 → ((v3 = (-1) → ((0 ≤ v1 ∧ v1 < 10) ∧ ((0 ≤ v1 ∧ v1 < 10) ∧ K (s.2 11 v1) (mA (mF s 37 0) 11 v1 v2)))) ∧ (¬ v3 = (-1) → pI D W X m_X3_fails [2] s (fun z12 s13 => K z12 s13)))) : PL_X3_see_54 D W X K s v1 v2 v3 := by
  intro hB bv1 bv2 bv3 h
  have G := G hB bv1 bv2 bv3
  refine f_X3_see_54 _ _ _ _ _ ?_
  refine ⟨fun w16 => ?_, fun w16 => ?_⟩
  · have G := G.1 ((mz_eq rfl zl_m1 bv3 (bdl rfl)).mp w16)
    refine mpF hW rfl zl_0 ?_
    refine mgR hW rfl ?_
    have c11 := G.1
    have G := G.2
    refine maI hW rfl rfl rfl rfl c11 ?_
    refine mgR hW rfl ?_
    have c10 := G.1
    have G := G.2
    refine msI hW rfl rfl rfl rfl rfl c10 ?_
    exact mretI rfl (hB.2 11 v1) (MB.A (MB.F hB (bdl rfl)) bv2) G
  · have G := G.2 (fun u => w16 ((mz_eq rfl zl_m1 bv3 (bdl rfl)).mpr u))
    refine ⟨mrc hW, mcI G (mv1 zl_2) (fun z12 s13 b14 hB15 G => ?_)⟩
    exact mretI rfl b14 hB15 G
def PL_X3_fold_17 (D : qD) (W : mW) (X : String → qH → Prop) (K : mS → Prop) (s : mS) (v1 v2 : Int) : Prop := MB s → bd v1 → bd v2 → ∀ h, L_X3_fold_17 D (pQV W h K) X (W.1 100) (zI v1) (zI v2) (mh W s h)
theorem PLu_X3_fold_17 {D : qD} {W : mW} {X : String → qH → Prop} {K : mS → Prop} {s : mS} {v1 : Int} {xv1 : Int32} {v2 : Int} {xv2 : Int32} (G : PL_X3_fold_17 D W X K s v1 v2) (hB : MB s) (ev1 : xv1 = zI v1) (bv1 : bd v1) (ev2 : xv2 = zI v2) (bv2 : bd v2) (h : qH) : L_X3_fold_17 D (pQV W h K) X (W.1 100) xv1 xv2 (mh W s h) := by
  subst ev1
  subst ev2
  exact G hB bv1 bv2 h
def PL_X3_fold_29 (D : qD) (W : mW) (X : String → qH → Prop) (K : mS → Prop) (s : mS) : Prop := MB s → ∀ h, L_X3_fold_29 D (pQV W h K) X (W.1 100) (mh W s h)
theorem PLu_X3_fold_29 {D : qD} {W : mW} {X : String → qH → Prop} {K : mS → Prop} {s : mS} (G : PL_X3_fold_29 D W X K s) (hB : MB s) (h : qH) : L_X3_fold_29 D (pQV W h K) X (W.1 100) (mh W s h) := by
  exact G hB h
theorem p_X3_fold {D : qD} {W : mW} {X : String → qH → Prop} {K : mS → Prop} (hW : mOK D W) {s : mS} (hB : MB s) {p0 : Int} (bp0 : bd p0) {p1 : Int} (bp1 : bd p1) (G : ((p0 = 4 → PL_X3_fold_17 D W X K s p0 p1) ∧ (¬ p0 = 4 → ((p0 = 8 → PL_X3_fold_17 D W X K s p0 p1) ∧ (¬ p0 = 8 → ((¬ p0 = 16 → PL_X3_fold_29 D W X K s) ∧ (p0 = 16 → PL_X3_fold_17 D W X K s p0 p1))))))) : pV D W X m_X3_fold [p0, p1] s K := by
  intro h
  refine f_X3_fold _ _ _ _ ?_
  refine ⟨fun w3 => ?_, fun w3 => ?_⟩
  · have G := G.1 ((mz_eq rfl zl_4 bp0 (bdl rfl)).mp w3)
    exact PLu_X3_fold_17 G hB rfl bp0 rfl bp1 h
  · have G := G.2 (fun u => w3 ((mz_eq rfl zl_4 bp0 (bdl rfl)).mpr u))
    refine ⟨fun w2 => ?_, fun w2 => ?_⟩
    · have G := G.1 ((mz_eq rfl zl_8 bp0 (bdl rfl)).mp w2)
      exact PLu_X3_fold_17 G hB rfl bp0 rfl bp1 h
    · have G := G.2 (fun u => w2 ((mz_eq rfl zl_8 bp0 (bdl rfl)).mpr u))
      refine ⟨fun w1 => ?_, fun w1 => ?_⟩
      · have G := G.1 (fun u => w1 ((mz_eq rfl zl_16 bp0 (bdl rfl)).mpr u))
        exact PLu_X3_fold_29 G hB h
      · have G := G.2 ((mz_eq rfl zl_16 bp0 (bdl rfl)).mp w1)
        exact PLu_X3_fold_17 G hB rfl bp0 rfl bp1 h
theorem p_X3_fold_17 {D : qD} {W : mW} {X : String → qH → Prop} {K : mS → Prop} (hW : mOK D W) {s : mS} {v1 : Int} {v2 : Int} (G : MB s → bd v1 → bd v2 → ((¬ (mIn v2 0 9) = 0 → K (mF (mF (mF s 37 0) 12 v1) 13 v2)) ∧ ((mIn v2 0 9) = 0 → PL_X3_fold_29 D W X K s))) : PL_X3_fold_17 D W X K s v1 v2 := by
  intro hB bv1 bv2 h
  have G := G hB bv1 bv2
  refine f_X3_fold_17 _ _ _ _ ?_
  refine mcIn (a := v2) (b := 0) (c := 9) (mz_l rfl bv2) rfl rfl bv2 (bdl rfl) (bdl rfl) ?_
  refine ⟨fun w4 => ?_, fun w4 => ?_⟩
  · have G := G.1 (fun u => w4 ((mz_eq rfl zl_0 bdIn (bdl rfl)).mpr u))
    refine mpF hW rfl zl_0 ?_
    refine mpF hW rfl rfl ?_
    refine mpF hW rfl rfl ?_
    exact mretV (MB.F (MB.F (MB.F hB (bdl rfl)) bv1) bv2) G
  · have G := G.2 ((mz_eq rfl zl_0 bdIn (bdl rfl)).mp w4)
    exact PLu_X3_fold_29 G hB h
theorem p_X3_fold_29 {D : qD} {W : mW} {X : String → qH → Prop} {K : mS → Prop} (hW : mOK D W) {s : mS} (G : MB s → K (mF s 37 1)) : PL_X3_fold_29 D W X K s := by
  intro hB h
  have G := G hB
  refine f_X3_fold_29 _ _ ?_
  refine mpF hW rfl zl_1 ?_
  exact mretV (MB.F hB (bdl rfl)) G
def PL_X3_wide_34 (D : qD) (W : mW) (X : String → qH → Prop) (K : Int → mS → Prop) (s : mS) (v2 y0 : Int) : Prop := MB s → bd v2 → bd y0 → ∀ h, L_X3_wide_34 D (pQI W h K) X (W.1 100) (zI v2) (zI y0) (mh W s h)
theorem PLu_X3_wide_34 {D : qD} {W : mW} {X : String → qH → Prop} {K : Int → mS → Prop} {s : mS} {v2 : Int} {xv2 : Int32} {y0 : Int} {xy0 : Int32} (G : PL_X3_wide_34 D W X K s v2 y0) (hB : MB s) (ev2 : xv2 = zI v2) (bv2 : bd v2) (ey0 : xy0 = zI y0) (by0 : bd y0) (h : qH) : L_X3_wide_34 D (pQI W h K) X (W.1 100) xv2 xy0 (mh W s h) := by
  subst ev2
  subst ey0
  exact G hB bv2 by0 h
theorem p_X3_wide {D : qD} {W : mW} {X : String → qH → Prop} {K : Int → mS → Prop} (hW : mOK D W) {s : mS} (hB : MB s) {p0 : Int} (bp0 : bd p0) {p1 : Int} (bp1 : bd p1) (G : ((0 ≤ p1 ∧ p1 < 120) ∧ ((¬ (s.2 1 p1) = 1 → ((0 ≤ p1 ∧ p1 < 120) ∧ PL_X3_wide_34 D W X K s p1 (s.2 2 p1))) ∧ ((s.2 1 p1) = 1 → ((0 ≤ p1 ∧ p1 < 120) ∧ ((0 ≤ ((4 * p0) + (s.2 2 p1)) ∧ ((4 * p0) + (s.2 2 p1)) < 16) ∧ PL_X3_wide_34 D W X K s p1 (s.2 7 ((4 * p0) + (s.2 2 p1))))))))) : pI D W X m_X3_wide [p0, p1] s K := by
  intro h
  refine f_X3_wide _ _ _ _ ?_
  refine mgR hW rfl ?_
  have c5 := G.1
  have G := G.2
  refine maI hW rfl rfl rfl rfl c5 ?_
  refine ⟨fun w4 => ?_, fun w4 => ?_⟩
  · have G := G.1 (fun u => w4 ((mz_eq rfl zl_1 (hB.2 1 p1) (bdl rfl)).mpr u))
    refine mgR hW rfl ?_
    have c1 := G.1
    have G := G.2
    refine maI hW rfl rfl rfl rfl c1 ?_
    exact PLu_X3_wide_34 G hB rfl bp1 rfl (hB.2 2 p1) h
  · have G := G.2 ((mz_eq rfl zl_1 (hB.2 1 p1) (bdl rfl)).mp w4)
    refine mgR hW rfl ?_
    refine mgR hW rfl ?_
    have c3 := G.1
    have G := G.2
    refine maI hW rfl rfl rfl rfl c3 ?_
    have c2 := G.1
    have G := G.2
    refine maI hW rfl rfl (mz_add (mz_mul zl_4 rfl) rfl) rfl c2 ?_
    exact PLu_X3_wide_34 G hB rfl bp1 rfl (hB.2 7 ((4 * p0) + (s.2 2 p1))) h
theorem p_X3_wide_34 {D : qD} {W : mW} {X : String → qH → Prop} {K : Int → mS → Prop} (hW : mOK D W) {s : mS} {v2 : Int} {y0 : Int} (G : MB s → bd v2 → bd y0 → ((0 ≤ v2 ∧ v2 < 120) ∧ pI D W X m_X3_extraOf [(s.2 3 v2)] s (fun z6 s7 => (bd (y0 + z6) ∧ K (y0 + z6) s7)))) : PL_X3_wide_34 D W X K s v2 y0 := by
  intro hB bv2 by0 h
  have G := G hB bv2 by0
  refine f_X3_wide_34 _ _ _ _ ?_
  refine mgR hW rfl ?_
  have c11 := G.1
  have G := G.2
  refine maI hW rfl rfl rfl rfl c11 ?_
  refine ⟨mrc hW, mcI G (mv1 rfl) (fun z6 s7 b8 hB9 G => ?_)⟩
  have b10 := G.1
  have G := G.2
  exact mretI (mz_add rfl rfl) b10 hB9 G
def PL_X3_hang_12 (D : qD) (W : mW) (X : String → qH → Prop) (K : mS → Prop) (s : mS) (y0 : Int) : Prop := MB s → bd y0 → ∀ h, L_X3_hang_12 D (pQV W h K) X (W.1 100) (zI y0) (mh W s h)
theorem PLu_X3_hang_12 {D : qD} {W : mW} {X : String → qH → Prop} {K : mS → Prop} {s : mS} {y0 : Int} {xy0 : Int32} (G : PL_X3_hang_12 D W X K s y0) (hB : MB s) (ey0 : xy0 = zI y0) (by0 : bd y0) (h : qH) : L_X3_hang_12 D (pQV W h K) X (W.1 100) xy0 (mh W s h) := by
  subst ey0
  exact G hB by0 h
def PL_X3_hang_15 (D : qD) (W : mW) (X : String → qH → Prop) (K : mS → Prop) (s : mS) (v1 v2 : Int) : Prop := MB s → bd v1 → bd v2 → ∀ h, L_X3_hang_15 D (pQV W h K) X (W.1 100) (zI v1) (zI v2) (mh W s h)
theorem PLu_X3_hang_15 {D : qD} {W : mW} {X : String → qH → Prop} {K : mS → Prop} {s : mS} {v1 : Int} {xv1 : Int32} {v2 : Int} {xv2 : Int32} (G : PL_X3_hang_15 D W X K s v1 v2) (hB : MB s) (ev1 : xv1 = zI v1) (bv1 : bd v1) (ev2 : xv2 = zI v2) (bv2 : bd v2) (h : qH) : L_X3_hang_15 D (pQV W h K) X (W.1 100) xv1 xv2 (mh W s h) := by
  subst ev1
  subst ev2
  exact G hB bv1 bv2 h
def PL_X3_hang_88 (D : qD) (W : mW) (X : String → qH → Prop) (K : mS → Prop) (s : mS) (v1 v2 : Int) : Prop := MB s → bd v1 → bd v2 → ∀ h, L_X3_hang_88 D (pQV W h K) X (W.1 100) (zI v1) (zI v2) (mh W s h)
theorem PLu_X3_hang_88 {D : qD} {W : mW} {X : String → qH → Prop} {K : mS → Prop} {s : mS} {v1 : Int} {xv1 : Int32} {v2 : Int} {xv2 : Int32} (G : PL_X3_hang_88 D W X K s v1 v2) (hB : MB s) (ev1 : xv1 = zI v1) (bv1 : bd v1) (ev2 : xv2 = zI v2) (bv2 : bd v2) (h : qH) : L_X3_hang_88 D (pQV W h K) X (W.1 100) xv1 xv2 (mh W s h) := by
  subst ev1
  subst ev2
  exact G hB bv1 bv2 h
theorem p_X3_hang {D : qD} {W : mW} {X : String → qH → Prop} {K : mS → Prop} (hW : mOK D W) {s : mS} (hB : MB s) (G : ((¬ (s.1 14) = 0 → PL_X3_hang_12 D W X K s 0) ∧ ((s.1 14) = 0 → PL_X3_hang_12 D W X K s (-1)))) : pV D W X m_X3_hang [] s K := by
  intro h
  refine f_X3_hang _ _ ?_
  refine mgI hW rfl ?_
  refine ⟨fun w1 => ?_, fun w1 => ?_⟩
  · have G := G.1 (fun u => w1 ((mz_eq rfl zl_0 (hB.1 14) (bdl rfl)).mpr u))
    exact PLu_X3_hang_12 G hB zl_0 (bdl rfl) h
  · have G := G.2 ((mz_eq rfl zl_0 (hB.1 14) (bdl rfl)).mp w1)
    exact PLu_X3_hang_12 G hB zl_m1 (bdl rfl) h
theorem p_X3_hang_12 {D : qD} {W : mW} {X : String → qH → Prop} {K : mS → Prop} (hW : mOK D W) {s : mS} {y0 : Int} (G : MB s → bd y0 → PL_X3_hang_15 D W X K s y0 0) : PL_X3_hang_12 D W X K s y0 := by
  intro hB by0 h
  have G := G hB by0
  refine f_X3_hang_12 _ _ _ ?_
  exact PLu_X3_hang_15 G hB rfl by0 zl_0 (bdl rfl) h
theorem p_X3_hang_15 {D : qD} {W : mW} {X : String → qH → Prop} {K : mS → Prop} (hW : mOK D W) {s : mS} {v1 : Int} {v2 : Int} (G : MB s → bd v1 → bd v2 → (((s.1 0) ≤ v2 → K s) ∧ (¬ (s.1 0) ≤ v2 → pI D W X m_X3_hangs [v2] s (fun z2 s3 => ((z2 = 0 → ((0 ≤ v2 ∧ v2 < 120) ∧ (((s3.2 15 v2) = (-1) → PL_X3_hang_88 D W X K s3 v1 v2) ∧ (¬ (s3.2 15 v2) = (-1) → ((0 ≤ v2 ∧ v2 < 120) ∧ PL_X3_hang_88 D W X K s3 (s3.2 15 v2) v2))))) ∧ (¬ z2 = 0 → ((0 ≤ v2 ∧ v2 < 120) ∧ ((0 ≤ v2 ∧ v2 < 120) ∧ ((¬ (s3.2 1 v2) = 5 → PL_X3_hang_88 D W X K (mA s3 15 v2 v1) v1 v2) ∧ ((s3.2 1 v2) = 5 → ((v1 = (-1) → PL_X3_hang_88 D W X K (mA s3 15 v2 v1) v1 v2) ∧ (¬ v1 = (-1) → ((0 ≤ v1 ∧ v1 < 120) ∧ ((0 ≤ v2 ∧ v2 < 120) ∧ (bd ((s3.2 18 v1) + (s3.2 2 v2)) ∧ ((0 ≤ v1 ∧ v1 < 120) ∧ PL_X3_hang_88 D W X K (mA (mA s3 15 v2 v1) 18 v1 ((s3.2 18 v1) + (s3.2 2 v2))) v1 v2)))))))))))))))) : PL_X3_hang_15 D W X K s v1 v2 := by
  intro hB bv1 bv2 h
  have G := G hB bv1 bv2
  refine f_X3_hang_15 _ _ _ _ ?_
  refine mgI hW rfl ?_
  refine ⟨fun w18 => ?_, fun w18 => ?_⟩
  · have G := G.1 ((mz_le rfl rfl (hB.1 0) bv2).mp w18)
    exact mretV hB G
  · have G := G.2 (fun u => w18 ((mz_le rfl rfl (hB.1 0) bv2).mpr u))
    refine ⟨mrc hW, mcI G (mv1 rfl) (fun z2 s3 b4 hB5 G => ?_)⟩
    refine ⟨fun w17 => ?_, fun w17 => ?_⟩
    · have G := G.1 ((mz_eq rfl zl_0 b4 (bdl rfl)).mp w17)
      refine mgR hW rfl ?_
      have c8 := G.1
      have G := G.2
      refine maI hW rfl rfl rfl rfl c8 ?_
      refine ⟨fun w7 => ?_, fun w7 => ?_⟩
      · have G := G.1 ((mz_eq rfl zl_m1 (hB5.2 15 v2) (bdl rfl)).mp w7)
        exact PLu_X3_hang_88 G hB5 rfl bv1 rfl bv2 h
      · have G := G.2 (fun u => w7 ((mz_eq rfl zl_m1 (hB5.2 15 v2) (bdl rfl)).mpr u))
        refine mgR hW rfl ?_
        have c6 := G.1
        have G := G.2
        refine maI hW rfl rfl rfl rfl c6 ?_
        exact PLu_X3_hang_88 G hB5 rfl (hB5.2 15 v2) rfl bv2 h
    · have G := G.2 (fun u => w17 ((mz_eq rfl zl_0 b4 (bdl rfl)).mpr u))
      refine mgR hW rfl ?_
      have c16 := G.1
      have G := G.2
      refine msI hW rfl rfl rfl rfl rfl c16 ?_
      refine mgR hW rfl ?_
      have c15 := G.1
      have G := G.2
      refine maI hW rfl rfl rfl rfl c15 ?_
      refine ⟨fun w14 => ?_, fun w14 => ?_⟩
      · have G := G.1 (fun u => w14 ((mz_eq rfl zl_5 (hB5.2 1 v2) (bdl rfl)).mpr u))
        exact PLu_X3_hang_88 G (MB.A hB5 bv1) rfl bv1 rfl bv2 h
      · have G := G.2 ((mz_eq rfl zl_5 (hB5.2 1 v2) (bdl rfl)).mp w14)
        refine ⟨fun w13 => ?_, fun w13 => ?_⟩
        · have G := G.1 ((mz_eq rfl zl_m1 bv1 (bdl rfl)).mp w13)
          exact PLu_X3_hang_88 G (MB.A hB5 bv1) rfl bv1 rfl bv2 h
        · have G := G.2 (fun u => w13 ((mz_eq rfl zl_m1 bv1 (bdl rfl)).mpr u))
          refine mgR hW rfl ?_
          have c12 := G.1
          have G := G.2
          refine maI hW rfl rfl rfl rfl c12 ?_
          refine mgR hW rfl ?_
          have c11 := G.1
          have G := G.2
          refine maI hW rfl rfl rfl rfl c11 ?_
          have b9 := G.1
          have G := G.2
          have c10 := G.1
          have G := G.2
          refine msI hW rfl rfl rfl (mz_add rfl rfl) rfl c10 ?_
          exact PLu_X3_hang_88 G (MB.A (MB.A hB5 bv1) b9) rfl bv1 rfl bv2 h
theorem p_X3_hang_88 {D : qD} {W : mW} {X : String → qH → Prop} {K : mS → Prop} (hW : mOK D W) {s : mS} {v1 : Int} {v2 : Int} (G : MB s → bd v1 → bd v2 → (bd (v2 + 1) ∧ PL_X3_hang_15 D W X K s v1 (v2 + 1))) : PL_X3_hang_88 D W X K s v1 v2 := by
  intro hB bv1 bv2 h
  have G := G hB bv1 bv2
  refine f_X3_hang_88 _ _ _ _ ?_
  have b19 := G.1
  have G := G.2
  exact PLu_X3_hang_15 G hB rfl bv1 (mz_add rfl zl_1) b19 h
def PL_X3_begins_28 (D : qD) (W : mW) (X : String → qH → Prop) (K : mS → Prop) (s : mS) : Prop := MB s → ∀ h, L_X3_begins_28 D (pQV W h K) X (W.1 100) (mh W s h)
theorem PLu_X3_begins_28 {D : qD} {W : mW} {X : String → qH → Prop} {K : mS → Prop} {s : mS} (G : PL_X3_begins_28 D W X K s) (hB : MB s) (h : qH) : L_X3_begins_28 D (pQV W h K) X (W.1 100) (mh W s h) := by
  exact G hB h
def PL_X3_begins_67 (D : qD) (W : mW) (X : String → qH → Prop) (K : mS → Prop) (s : mS) : Prop := MB s → ∀ h, L_X3_begins_67 D (pQV W h K) X (W.1 100) (mh W s h)
theorem PLu_X3_begins_67 {D : qD} {W : mW} {X : String → qH → Prop} {K : mS → Prop} {s : mS} (G : PL_X3_begins_67 D W X K s) (hB : MB s) (h : qH) : L_X3_begins_67 D (pQV W h K) X (W.1 100) (mh W s h) := by
  exact G hB h
theorem p_X3_begins {D : qD} {W : mW} {X : String → qH → Prop} {K : mS → Prop} (hW : mOK D W) {s : mS} (hB : MB s) (G : (bd ((s.1 22) + 1) ∧ PL_X3_begins_28 D W X K (mF (mF (mF (mF s 22 ((s.1 22) + 1)) 28 (s.1 9)) 29 0) 30 0))) : pV D W X m_X3_begins [] s K := by
  intro h
  refine f_X3_begins _ _ ?_
  refine mgI hW rfl ?_
  have b1 := G.1
  have G := G.2
  refine mpF hW rfl (mz_add rfl zl_1) ?_
  refine mgI hW rfl ?_
  refine mpF hW rfl rfl ?_
  refine mpF hW rfl zl_0 ?_
  refine mpF hW rfl zl_0 ?_
  exact PLu_X3_begins_28 G (MB.F (MB.F (MB.F (MB.F hB b1) (hB.1 9)) (bdl rfl)) (bdl rfl)) h
theorem p_X3_begins_28 {D : qD} {W : mW} {X : String → qH → Prop} {K : mS → Prop} (hW : mOK D W) {s : mS} (G : MB s → (((s.1 27) ≤ (s.1 26) → K s) ∧ (¬ (s.1 27) ≤ (s.1 26) → ((0 ≤ (s.1 26) ∧ (s.1 26) < 120) ∧ ((0 ≤ (s.2 25 (s.1 26)) ∧ (s.2 25 (s.1 26)) < 120) ∧ (((s.2 2 (s.2 25 (s.1 26))) ≤ (s.1 28) → PL_X3_begins_67 D W X K s) ∧ (¬ (s.2 2 (s.2 25 (s.1 26))) ≤ (s.1 28) → ((¬ (s.1 30) = 0 → K s) ∧ ((s.1 30) = 0 → PL_X3_begins_67 D W X K s))))))))) : PL_X3_begins_28 D W X K s := by
  intro hB h
  have G := G hB
  refine f_X3_begins_28 _ _ ?_
  refine mgI hW rfl ?_
  refine mgI hW rfl ?_
  refine ⟨fun w6 => ?_, fun w6 => ?_⟩
  · have G := G.1 ((mz_le rfl rfl (hB.1 27) (hB.1 26)).mp w6)
    exact mretV hB G
  · have G := G.2 (fun u => w6 ((mz_le rfl rfl (hB.1 27) (hB.1 26)).mpr u))
    refine mgR hW rfl ?_
    refine mgR hW rfl ?_
    refine mgI hW rfl ?_
    have c5 := G.1
    have G := G.2
    refine maI hW rfl rfl rfl rfl c5 ?_
    have c4 := G.1
    have G := G.2
    refine maI hW rfl rfl rfl rfl c4 ?_
    refine mgI hW rfl ?_
    refine ⟨fun w3 => ?_, fun w3 => ?_⟩
    · have G := G.1 ((mz_le rfl rfl (hB.2 2 (s.2 25 (s.1 26))) (hB.1 28)).mp w3)
      exact PLu_X3_begins_67 G hB h
    · have G := G.2 (fun u => w3 ((mz_le rfl rfl (hB.2 2 (s.2 25 (s.1 26))) (hB.1 28)).mpr u))
      refine mgI hW rfl ?_
      refine ⟨fun w2 => ?_, fun w2 => ?_⟩
      · have G := G.1 (fun u => w2 ((mz_eq rfl zl_0 (hB.1 30) (bdl rfl)).mpr u))
        exact mretV hB G
      · have G := G.2 ((mz_eq rfl zl_0 (hB.1 30) (bdl rfl)).mp w2)
        exact PLu_X3_begins_67 G hB h
theorem p_X3_begins_67 {D : qD} {W : mW} {X : String → qH → Prop} {K : mS → Prop} (hW : mOK D W) {s : mS} (G : MB s → ((0 ≤ (s.1 26) ∧ (s.1 26) < 120) ∧ pV D W X m_X3_tops [(s.2 25 (s.1 26))] s (fun s8 => (bd ((s8.1 26) + 1) ∧ PL_X3_begins_28 D W X K (mF s8 26 ((s8.1 26) + 1)))))) : PL_X3_begins_67 D W X K s := by
  intro hB h
  have G := G hB
  refine f_X3_begins_67 _ _ ?_
  refine mgR hW rfl ?_
  refine mgI hW rfl ?_
  have c12 := G.1
  have G := G.2
  refine maI hW rfl rfl rfl rfl c12 ?_
  refine ⟨mrc hW, mcV G (mv1 rfl) (fun s8 hB10 G => ?_)⟩
  refine mgI hW rfl ?_
  have b11 := G.1
  have G := G.2
  refine mpF hW rfl (mz_add rfl zl_1) ?_
  exact PLu_X3_begins_28 G (MB.F hB10 b11) h
def PL_X3_needs_34 (D : qD) (W : mW) (X : String → qH → Prop) (K : Int → mS → Prop) (s : mS) (v1 v3 : Int) : Prop := MB s → bd v1 → bd v3 → ∀ h, L_X3_needs_34 D (pQI W h K) X (W.1 100) (zI v1) (zI v3) (mh W s h)
theorem PLu_X3_needs_34 {D : qD} {W : mW} {X : String → qH → Prop} {K : Int → mS → Prop} {s : mS} {v1 : Int} {xv1 : Int32} {v3 : Int} {xv3 : Int32} (G : PL_X3_needs_34 D W X K s v1 v3) (hB : MB s) (ev1 : xv1 = zI v1) (bv1 : bd v1) (ev3 : xv3 = zI v3) (bv3 : bd v3) (h : qH) : L_X3_needs_34 D (pQI W h K) X (W.1 100) xv1 xv3 (mh W s h) := by
  subst ev1
  subst ev3
  exact G hB bv1 bv3 h
def PL_X3_needs_38 (D : qD) (W : mW) (X : String → qH → Prop) (K : Int → mS → Prop) (s : mS) (v1 v3 : Int) : Prop := MB s → bd v1 → bd v3 → ∀ h, L_X3_needs_38 D (pQI W h K) X (W.1 100) (zI v1) (zI v3) (mh W s h)
theorem PLu_X3_needs_38 {D : qD} {W : mW} {X : String → qH → Prop} {K : Int → mS → Prop} {s : mS} {v1 : Int} {xv1 : Int32} {v3 : Int} {xv3 : Int32} (G : PL_X3_needs_38 D W X K s v1 v3) (hB : MB s) (ev1 : xv1 = zI v1) (bv1 : bd v1) (ev3 : xv3 = zI v3) (bv3 : bd v3) (h : qH) : L_X3_needs_38 D (pQI W h K) X (W.1 100) xv1 xv3 (mh W s h) := by
  subst ev1
  subst ev3
  exact G hB bv1 bv3 h
def PL_X3_needs_39 (D : qD) (W : mW) (X : String → qH → Prop) (K : Int → mS → Prop) (s : mS) (v1 v3 y0 : Int) : Prop := MB s → bd v1 → bd v3 → bd y0 → ∀ h, L_X3_needs_39 D (pQI W h K) X (W.1 100) (zI v1) (zI v3) (zI y0) (mh W s h)
theorem PLu_X3_needs_39 {D : qD} {W : mW} {X : String → qH → Prop} {K : Int → mS → Prop} {s : mS} {v1 : Int} {xv1 : Int32} {v3 : Int} {xv3 : Int32} {y0 : Int} {xy0 : Int32} (G : PL_X3_needs_39 D W X K s v1 v3 y0) (hB : MB s) (ev1 : xv1 = zI v1) (bv1 : bd v1) (ev3 : xv3 = zI v3) (bv3 : bd v3) (ey0 : xy0 = zI y0) (by0 : bd y0) (h : qH) : L_X3_needs_39 D (pQI W h K) X (W.1 100) xv1 xv3 xy0 (mh W s h) := by
  subst ev1
  subst ev3
  subst ey0
  exact G hB bv1 bv3 by0 h
theorem p_X3_needs {D : qD} {W : mW} {X : String → qH → Prop} {K : Int → mS → Prop} (hW : mOK D W) {s : mS} (hB : MB s) {p0 : Int} (bp0 : bd p0) {p1 : Int} (bp1 : bd p1) (G : pI D W X m_X3_takes [p0, p1] s (fun z1 s2 => ((0 ≤ p0 ∧ p0 < 120) ∧ ((¬ (s2.2 19 p0) = 0 → PL_X3_needs_34 D W X K s2 p0 z1) ∧ ((s2.2 19 p0) = 0 → ((0 ≤ p0 ∧ p0 < 120) ∧ (((s2.2 20 p0) = 0 → PL_X3_needs_38 D W X K s2 p0 z1) ∧ (¬ (s2.2 20 p0) = 0 → ((0 ≤ p0 ∧ p0 < 120) ∧ (((s2.2 21 p0) = 0 → PL_X3_needs_38 D W X K s2 p0 z1) ∧ (¬ (s2.2 21 p0) = 0 → PL_X3_needs_34 D W X K s2 p0 z1))))))))))) : pI D W X m_X3_needs [p0, p1] s K := by
  intro h
  refine f_X3_needs _ _ _ _ ?_
  refine ⟨mrc hW, mcI G (mv2 rfl rfl) (fun z1 s2 b3 hB4 G => ?_)⟩
  refine mgR hW rfl ?_
  have c10 := G.1
  have G := G.2
  refine maI hW rfl rfl rfl rfl c10 ?_
  refine ⟨fun w9 => ?_, fun w9 => ?_⟩
  · have G := G.1 (fun u => w9 ((mz_eq rfl zl_0 (hB4.2 19 p0) (bdl rfl)).mpr u))
    exact PLu_X3_needs_34 G hB4 rfl bp0 rfl b3 h
  · have G := G.2 ((mz_eq rfl zl_0 (hB4.2 19 p0) (bdl rfl)).mp w9)
    refine mgR hW rfl ?_
    have c8 := G.1
    have G := G.2
    refine maI hW rfl rfl rfl rfl c8 ?_
    refine ⟨fun w7 => ?_, fun w7 => ?_⟩
    · have G := G.1 ((mz_eq rfl zl_0 (hB4.2 20 p0) (bdl rfl)).mp w7)
      exact PLu_X3_needs_38 G hB4 rfl bp0 rfl b3 h
    · have G := G.2 (fun u => w7 ((mz_eq rfl zl_0 (hB4.2 20 p0) (bdl rfl)).mpr u))
      refine mgR hW rfl ?_
      have c6 := G.1
      have G := G.2
      refine maI hW rfl rfl rfl rfl c6 ?_
      refine ⟨fun w5 => ?_, fun w5 => ?_⟩
      · have G := G.1 ((mz_eq rfl zl_0 (hB4.2 21 p0) (bdl rfl)).mp w5)
        exact PLu_X3_needs_38 G hB4 rfl bp0 rfl b3 h
      · have G := G.2 (fun u => w5 ((mz_eq rfl zl_0 (hB4.2 21 p0) (bdl rfl)).mpr u))
        exact PLu_X3_needs_34 G hB4 rfl bp0 rfl b3 h
theorem p_X3_needs_34 {D : qD} {W : mW} {X : String → qH → Prop} {K : Int → mS → Prop} (hW : mOK D W) {s : mS} {v1 : Int} {v3 : Int} (G : MB s → bd v1 → bd v3 → PL_X3_needs_39 D W X K s v1 v3 1) : PL_X3_needs_34 D W X K s v1 v3 := by
  intro hB bv1 bv3 h
  have G := G hB bv1 bv3
  refine f_X3_needs_34 _ _ _ _ ?_
  exact PLu_X3_needs_39 G hB rfl bv1 rfl bv3 zl_1 (bdl rfl) h
theorem p_X3_needs_38 {D : qD} {W : mW} {X : String → qH → Prop} {K : Int → mS → Prop} (hW : mOK D W) {s : mS} {v1 : Int} {v3 : Int} (G : MB s → bd v1 → bd v3 → PL_X3_needs_39 D W X K s v1 v3 0) : PL_X3_needs_38 D W X K s v1 v3 := by
  intro hB bv1 bv3 h
  have G := G hB bv1 bv3
  refine f_X3_needs_38 _ _ _ _ ?_
  exact PLu_X3_needs_39 G hB rfl bv1 rfl bv3 zl_0 (bdl rfl) h
theorem p_X3_needs_39 {D : qD} {W : mW} {X : String → qH → Prop} {K : Int → mS → Prop} (hW : mOK D W) {s : mS} {v1 : Int} {v3 : Int} {y0 : Int} (G : MB s → bd v1 → bd v3 → bd y0 → ((y0 = 0 → K v3 s) ∧ (¬ y0 = 0 → (bd (v1 + 1) ∧ (((s.1 14) ≤ (v1 + 1) → K v3 s) ∧ (¬ (s.1 14) ≤ (v1 + 1) → pI D W X m_X3_takes [(v1 + 1), 1] s (fun z12 s13 => ((0 ≤ v1 ∧ v1 < 120) ∧ (((s13.2 19 v1) = 0 → (bd (v3 + z12) ∧ K (v3 + z12) s13)) ∧ (¬ (s13.2 19 v1) = 0 → ((0 ≤ (v1 + 1) ∧ (v1 + 1) < 120) ∧ ((¬ (s13.2 19 (v1 + 1)) = 0 → (bd (v3 + z12) ∧ K (v3 + z12) s13)) ∧ ((s13.2 19 (v1 + 1)) = 0 → ((0 ≤ (v1 + 1) ∧ (v1 + 1) < 120) ∧ (((s13.2 20 (v1 + 1)) = 0 → (bd (v3 + z12) ∧ K (v3 + z12) s13)) ∧ (¬ (s13.2 20 (v1 + 1)) = 0 → ((0 ≤ (v1 + 1) ∧ (v1 + 1) < 120) ∧ (((s13.2 21 (v1 + 1)) = 0 → (bd (v3 + z12) ∧ K (v3 + z12) s13)) ∧ (¬ (s13.2 21 (v1 + 1)) = 0 → pI D W X m_X3_takes [(v1 + 2), 1] s13 (fun z20 s21 => (bd ((v3 + z12) + z20) ∧ K ((v3 + z12) + z20) s21))))))))))))))))))))) : PL_X3_needs_39 D W X K s v1 v3 y0 := by
  intro hB bv1 bv3 by0 h
  have G := G hB bv1 bv3 by0
  refine f_X3_needs_39 _ _ _ _ _ ?_
  refine ⟨fun w34 => ?_, fun w34 => ?_⟩
  · have G := G.1 ((mz_eq rfl zl_0 by0 (bdl rfl)).mp w34)
    exact mretI rfl bv3 hB G
  · have G := G.2 (fun u => w34 ((mz_eq rfl zl_0 by0 (bdl rfl)).mpr u))
    refine mgI hW rfl ?_
    have b11 := G.1
    have G := G.2
    refine ⟨fun w33 => ?_, fun w33 => ?_⟩
    · have G := G.1 ((mz_le rfl (mz_add rfl zl_1) (hB.1 14) b11).mp w33)
      exact mretI rfl bv3 hB G
    · have G := G.2 (fun u => w33 ((mz_le rfl (mz_add rfl zl_1) (hB.1 14) b11).mpr u))
      refine ⟨mrc hW, mcI G (mv2 (mz_add rfl zl_1) zl_1) (fun z12 s13 b14 hB15 G => ?_)⟩
      refine mgR hW rfl ?_
      have c32 := G.1
      have G := G.2
      refine maI hW rfl rfl rfl rfl c32 ?_
      refine ⟨fun w31 => ?_, fun w31 => ?_⟩
      · have G := G.1 ((mz_eq rfl zl_0 (hB15.2 19 v1) (bdl rfl)).mp w31)
        have b16 := G.1
        have G := G.2
        exact mretI (mz_add rfl rfl) b16 hB15 G
      · have G := G.2 (fun u => w31 ((mz_eq rfl zl_0 (hB15.2 19 v1) (bdl rfl)).mpr u))
        refine mgR hW rfl ?_
        have c30 := G.1
        have G := G.2
        refine maI hW rfl rfl (mz_add rfl zl_1) rfl c30 ?_
        refine ⟨fun w29 => ?_, fun w29 => ?_⟩
        · have G := G.1 (fun u => w29 ((mz_eq rfl zl_0 (hB15.2 19 (v1 + 1)) (bdl rfl)).mpr u))
          have b17 := G.1
          have G := G.2
          exact mretI (mz_add rfl rfl) b17 hB15 G
        · have G := G.2 ((mz_eq rfl zl_0 (hB15.2 19 (v1 + 1)) (bdl rfl)).mp w29)
          refine mgR hW rfl ?_
          have c28 := G.1
          have G := G.2
          refine maI hW rfl rfl (mz_add rfl zl_1) rfl c28 ?_
          refine ⟨fun w27 => ?_, fun w27 => ?_⟩
          · have G := G.1 ((mz_eq rfl zl_0 (hB15.2 20 (v1 + 1)) (bdl rfl)).mp w27)
            have b18 := G.1
            have G := G.2
            exact mretI (mz_add rfl rfl) b18 hB15 G
          · have G := G.2 (fun u => w27 ((mz_eq rfl zl_0 (hB15.2 20 (v1 + 1)) (bdl rfl)).mpr u))
            refine mgR hW rfl ?_
            have c26 := G.1
            have G := G.2
            refine maI hW rfl rfl (mz_add rfl zl_1) rfl c26 ?_
            refine ⟨fun w25 => ?_, fun w25 => ?_⟩
            · have G := G.1 ((mz_eq rfl zl_0 (hB15.2 21 (v1 + 1)) (bdl rfl)).mp w25)
              have b19 := G.1
              have G := G.2
              exact mretI (mz_add rfl rfl) b19 hB15 G
            · have G := G.2 (fun u => w25 ((mz_eq rfl zl_0 (hB15.2 21 (v1 + 1)) (bdl rfl)).mpr u))
              refine ⟨mrc hW, mcI G (mv2 (mz_add rfl zl_2) zl_1) (fun z20 s21 b22 hB23 G => ?_)⟩
              have b24 := G.1
              have G := G.2
              exact mretI (mz_add (mz_add rfl rfl) rfl) b24 hB23 G
def PL_X3_frontBy_7 (D : qD) (W : mW) (X : String → qH → Prop) (K : Int → mS → Prop) (s : mS) (v1 v2 v3 v4 : Int) : Prop := MB s → bd v1 → bd v2 → bd v3 → bd v4 → ∀ h, L_X3_frontBy_7 D (pQI W h K) X (W.1 100) (zI v1) (zI v2) (zI v3) (zI v4) (mh W s h)
theorem PLu_X3_frontBy_7 {D : qD} {W : mW} {X : String → qH → Prop} {K : Int → mS → Prop} {s : mS} {v1 : Int} {xv1 : Int32} {v2 : Int} {xv2 : Int32} {v3 : Int} {xv3 : Int32} {v4 : Int} {xv4 : Int32} (G : PL_X3_frontBy_7 D W X K s v1 v2 v3 v4) (hB : MB s) (ev1 : xv1 = zI v1) (bv1 : bd v1) (ev2 : xv2 = zI v2) (bv2 : bd v2) (ev3 : xv3 = zI v3) (bv3 : bd v3) (ev4 : xv4 = zI v4) (bv4 : bd v4) (h : qH) : L_X3_frontBy_7 D (pQI W h K) X (W.1 100) xv1 xv2 xv3 xv4 (mh W s h) := by
  subst ev1
  subst ev2
  subst ev3
  subst ev4
  exact G hB bv1 bv2 bv3 bv4 h
def PL_X3_frontBy_61 (D : qD) (W : mW) (X : String → qH → Prop) (K : Int → mS → Prop) (s : mS) (v1 v2 v3 v4 : Int) : Prop := MB s → bd v1 → bd v2 → bd v3 → bd v4 → ∀ h, L_X3_frontBy_61 D (pQI W h K) X (W.1 100) (zI v1) (zI v2) (zI v3) (zI v4) (mh W s h)
theorem PLu_X3_frontBy_61 {D : qD} {W : mW} {X : String → qH → Prop} {K : Int → mS → Prop} {s : mS} {v1 : Int} {xv1 : Int32} {v2 : Int} {xv2 : Int32} {v3 : Int} {xv3 : Int32} {v4 : Int} {xv4 : Int32} (G : PL_X3_frontBy_61 D W X K s v1 v2 v3 v4) (hB : MB s) (ev1 : xv1 = zI v1) (bv1 : bd v1) (ev2 : xv2 = zI v2) (bv2 : bd v2) (ev3 : xv3 = zI v3) (bv3 : bd v3) (ev4 : xv4 = zI v4) (bv4 : bd v4) (h : qH) : L_X3_frontBy_61 D (pQI W h K) X (W.1 100) xv1 xv2 xv3 xv4 (mh W s h) := by
  subst ev1
  subst ev2
  subst ev3
  subst ev4
  exact G hB bv1 bv2 bv3 bv4 h
def PL_X3_frontBy_48 (D : qD) (W : mW) (X : String → qH → Prop) (K : Int → mS → Prop) (s : mS) (v1 v2 v4 v5 : Int) : Prop := MB s → bd v1 → bd v2 → bd v4 → bd v5 → ∀ h, L_X3_frontBy_48 D (pQI W h K) X (W.1 100) (zI v1) (zI v2) (zI v4) (zI v5) (mh W s h)
theorem PLu_X3_frontBy_48 {D : qD} {W : mW} {X : String → qH → Prop} {K : Int → mS → Prop} {s : mS} {v1 : Int} {xv1 : Int32} {v2 : Int} {xv2 : Int32} {v4 : Int} {xv4 : Int32} {v5 : Int} {xv5 : Int32} (G : PL_X3_frontBy_48 D W X K s v1 v2 v4 v5) (hB : MB s) (ev1 : xv1 = zI v1) (bv1 : bd v1) (ev2 : xv2 = zI v2) (bv2 : bd v2) (ev4 : xv4 = zI v4) (bv4 : bd v4) (ev5 : xv5 = zI v5) (bv5 : bd v5) (h : qH) : L_X3_frontBy_48 D (pQI W h K) X (W.1 100) xv1 xv2 xv4 xv5 (mh W s h) := by
  subst ev1
  subst ev2
  subst ev4
  subst ev5
  exact G hB bv1 bv2 bv4 bv5 h
def PL_X3_frontBy_56 (D : qD) (W : mW) (X : String → qH → Prop) (K : Int → mS → Prop) (s : mS) (v1 v2 v3 v4 v5 : Int) : Prop := MB s → bd v1 → bd v2 → bd v3 → bd v4 → bd v5 → ∀ h, L_X3_frontBy_56 D (pQI W h K) X (W.1 100) (zI v1) (zI v2) (zI v3) (zI v4) (zI v5) (mh W s h)
theorem PLu_X3_frontBy_56 {D : qD} {W : mW} {X : String → qH → Prop} {K : Int → mS → Prop} {s : mS} {v1 : Int} {xv1 : Int32} {v2 : Int} {xv2 : Int32} {v3 : Int} {xv3 : Int32} {v4 : Int} {xv4 : Int32} {v5 : Int} {xv5 : Int32} (G : PL_X3_frontBy_56 D W X K s v1 v2 v3 v4 v5) (hB : MB s) (ev1 : xv1 = zI v1) (bv1 : bd v1) (ev2 : xv2 = zI v2) (bv2 : bd v2) (ev3 : xv3 = zI v3) (bv3 : bd v3) (ev4 : xv4 = zI v4) (bv4 : bd v4) (ev5 : xv5 = zI v5) (bv5 : bd v5) (h : qH) : L_X3_frontBy_56 D (pQI W h K) X (W.1 100) xv1 xv2 xv3 xv4 xv5 (mh W s h) := by
  subst ev1
  subst ev2
  subst ev3
  subst ev4
  subst ev5
  exact G hB bv1 bv2 bv3 bv4 bv5 h
theorem p_X3_frontBy {D : qD} {W : mW} {X : String → qH → Prop} {K : Int → mS → Prop} (hW : mOK D W) {s : mS} (hB : MB s) {p0 : Int} (bp0 : bd p0) (G : PL_X3_frontBy_7 D W X K s p0 0 0 0) : pI D W X m_X3_frontBy [p0] s K := by
  intro h
  refine f_X3_frontBy _ _ _ ?_
  exact PLu_X3_frontBy_7 G hB rfl bp0 zl_0 (bdl rfl) zl_0 (bdl rfl) zl_0 (bdl rfl) h
theorem p_X3_frontBy_7 {D : qD} {W : mW} {X : String → qH → Prop} {K : Int → mS → Prop} (hW : mOK D W) {s : mS} {v1 : Int} {v2 : Int} {v3 : Int} {v4 : Int} (G : MB s → bd v1 → bd v2 → bd v3 → bd v4 → (((s.1 14) ≤ v4 → pI D W X m_X3_pagesOf [v2] s (fun z1 s2 => ((0 ≤ z1 ∧ (0 : Int) < 2) ∧ (bd (z1 + (z1 % 2)) ∧ K (z1 + (z1 % 2)) s2)))) ∧ (¬ (s.1 14) ≤ v4 → ((0 ≤ v4 ∧ v4 < 120) ∧ (((s.2 19 v4) = 0 → PL_X3_frontBy_61 D W X K s v1 v2 v3 v4) ∧ (¬ (s.2 19 v4) = 0 → pI D W X m_X3_pageBy [v4, v1] s (fun z7 s8 => pIS D W X m_X3_figures [z7] s8 (fun z11 s12 => ((v2 = 0 → PL_X3_frontBy_48 D W X K s12 v1 v2 v4 z11) ∧ (¬ v2 = 0 → ((z11 ≤ v3 → PL_X3_frontBy_56 D W X K s12 v1 v2 v3 v4 z11) ∧ (¬ z11 ≤ v3 → PL_X3_frontBy_48 D W X K s12 v1 v2 v4 z11)))))))))))) : PL_X3_frontBy_7 D W X K s v1 v2 v3 v4 := by
  intro hB bv1 bv2 bv3 bv4 h
  have G := G hB bv1 bv2 bv3 bv4
  refine f_X3_frontBy_7 _ _ _ _ _ _ ?_
  refine mgI hW rfl ?_
  refine ⟨fun w19 => ?_, fun w19 => ?_⟩
  · have G := G.1 ((mz_le rfl rfl (hB.1 14) bv4).mp w19)
    refine ⟨mrc hW, mcI G (mv1 rfl) (fun z1 s2 b3 hB4 G => ?_)⟩
    have c5 := G.1
    have G := G.2
    have b6 := G.1
    have G := G.2
    exact mretI (mz_add rfl (mz_rem rfl zl_2 ⟨c5, b3, (bdl rfl)⟩)) b6 hB4 G
  · have G := G.2 (fun u => w19 ((mz_le rfl rfl (hB.1 14) bv4).mpr u))
    refine mgR hW rfl ?_
    have c18 := G.1
    have G := G.2
    refine maI hW rfl rfl rfl rfl c18 ?_
    refine ⟨fun w17 => ?_, fun w17 => ?_⟩
    · have G := G.1 ((mz_eq rfl zl_0 (hB.2 19 v4) (bdl rfl)).mp w17)
      exact PLu_X3_frontBy_61 G hB rfl bv1 rfl bv2 rfl bv3 rfl bv4 h
    · have G := G.2 (fun u => w17 ((mz_eq rfl zl_0 (hB.2 19 v4) (bdl rfl)).mpr u))
      refine ⟨mrc hW, mcI G (mv2 rfl rfl) (fun z7 s8 b9 hB10 G => ?_)⟩
      refine mcIS G (mv1 rfl) (fun z11 s12 b13 hB14 G => ?_)
      refine ⟨fun w16 => ?_, fun w16 => ?_⟩
      · have G := G.1 ((mz_eq rfl zl_0 bv2 (bdl rfl)).mp w16)
        exact PLu_X3_frontBy_48 G hB14 rfl bv1 rfl bv2 rfl bv4 rfl b13 h
      · have G := G.2 (fun u => w16 ((mz_eq rfl zl_0 bv2 (bdl rfl)).mpr u))
        refine ⟨fun w15 => ?_, fun w15 => ?_⟩
        · have G := G.1 ((mz_le rfl rfl b13 bv3).mp w15)
          exact PLu_X3_frontBy_56 G hB14 rfl bv1 rfl bv2 rfl bv3 rfl bv4 rfl b13 h
        · have G := G.2 (fun u => w15 ((mz_le rfl rfl b13 bv3).mpr u))
          exact PLu_X3_frontBy_48 G hB14 rfl bv1 rfl bv2 rfl bv4 rfl b13 h
theorem p_X3_frontBy_61 {D : qD} {W : mW} {X : String → qH → Prop} {K : Int → mS → Prop} (hW : mOK D W) {s : mS} {v1 : Int} {v2 : Int} {v3 : Int} {v4 : Int} (G : MB s → bd v1 → bd v2 → bd v3 → bd v4 → (bd (v4 + 1) ∧ PL_X3_frontBy_7 D W X K s v1 v2 v3 (v4 + 1))) : PL_X3_frontBy_61 D W X K s v1 v2 v3 v4 := by
  intro hB bv1 bv2 bv3 bv4 h
  have G := G hB bv1 bv2 bv3 bv4
  refine f_X3_frontBy_61 _ _ _ _ _ _ ?_
  have b20 := G.1
  have G := G.2
  exact PLu_X3_frontBy_7 G hB rfl bv1 rfl bv2 rfl bv3 (mz_add rfl zl_1) b20 h
theorem p_X3_frontBy_48 {D : qD} {W : mW} {X : String → qH → Prop} {K : Int → mS → Prop} (hW : mOK D W) {s : mS} {v1 : Int} {v2 : Int} {v4 : Int} {v5 : Int} (G : MB s → bd v1 → bd v2 → bd v4 → bd v5 → (bd (v2 + 1) ∧ PL_X3_frontBy_56 D W X K s v1 (v2 + 1) (s.1 9) v4 v5)) : PL_X3_frontBy_48 D W X K s v1 v2 v4 v5 := by
  intro hB bv1 bv2 bv4 bv5 h
  have G := G hB bv1 bv2 bv4 bv5
  refine f_X3_frontBy_48 _ _ _ _ _ _ ?_
  refine mgI hW rfl ?_
  have b21 := G.1
  have G := G.2
  exact PLu_X3_frontBy_56 G hB rfl bv1 (mz_add rfl zl_1) b21 rfl (hB.1 9) rfl bv4 rfl bv5 h
theorem p_X3_frontBy_56 {D : qD} {W : mW} {X : String → qH → Prop} {K : Int → mS → Prop} (hW : mOK D W) {s : mS} {v1 : Int} {v2 : Int} {v3 : Int} {v4 : Int} {v5 : Int} (G : MB s → bd v1 → bd v2 → bd v3 → bd v4 → bd v5 → (bd (v3 - v5) ∧ PL_X3_frontBy_61 D W X K s v1 v2 (v3 - v5) v4)) : PL_X3_frontBy_56 D W X K s v1 v2 v3 v4 v5 := by
  intro hB bv1 bv2 bv3 bv4 bv5 h
  have G := G hB bv1 bv2 bv3 bv4 bv5
  refine f_X3_frontBy_56 _ _ _ _ _ _ _ ?_
  have b22 := G.1
  have G := G.2
  exact PLu_X3_frontBy_61 G hB rfl bv1 rfl bv2 (mz_sub rfl rfl) b22 rfl bv4 h
theorem p_X3_page {D : qD} {W : mW} {X : String → qH → Prop} {K : Int → mS → Prop} (hW : mOK D W) {s : mS} (hB : MB s) {p0 : Int} (bp0 : bd p0) (G : (((s.1 24) = 0 → K (-1) s) ∧ (¬ (s.1 24) = 0 → pI D W X m_X3_pageBy [p0, (s.1 23)] s (fun z1 s2 => K z1 s2)))) : pI D W X m_X3_page [p0] s K := by
  intro h
  refine f_X3_page _ _ _ ?_
  refine mgI hW rfl ?_
  refine ⟨fun w5 => ?_, fun w5 => ?_⟩
  · have G := G.1 ((mz_eq rfl zl_0 (hB.1 24) (bdl rfl)).mp w5)
    exact mretI zl_m1 (bdl rfl) hB G
  · have G := G.2 (fun u => w5 ((mz_eq rfl zl_0 (hB.1 24) (bdl rfl)).mpr u))
    refine mgI hW rfl ?_
    refine ⟨mrc hW, mcI G (mv2 rfl rfl) (fun z1 s2 b3 hB4 G => ?_)⟩
    exact mretI rfl b3 hB4 G
theorem p_X3_counts {D : qD} {W : mW} {X : String → qH → Prop} {K : Int → mS → Prop} (hW : mOK D W) {s : mS} (hB : MB s) {p0 : Int} (bp0 : bd p0) {p1 : Int} (bp1 : bd p1) (G : ((0 ≤ p0 ∧ p0 < 120) ∧ ((¬ (s.2 1 p0) = 6 → K 0 s) ∧ ((s.2 1 p0) = 6 → ((0 ≤ p0 ∧ p0 < 120) ∧ (((s.2 15 p0) = (-1) → K 0 s) ∧ (¬ (s.2 15 p0) = (-1) → ((0 ≤ p0 ∧ p0 < 120) ∧ pI D W X m_X3_lastOf [(s.2 2 p0)] s (fun z1 s2 => ((¬ z1 = p1 → K 0 s2) ∧ (z1 = p1 → K 1 s2))))))))))) : pI D W X m_X3_counts [p0, p1] s K := by
  intro h
  refine f_X3_counts _ _ _ _ ?_
  refine mgR hW rfl ?_
  have c10 := G.1
  have G := G.2
  refine maI hW rfl rfl rfl rfl c10 ?_
  refine ⟨fun w9 => ?_, fun w9 => ?_⟩
  · have G := G.1 (fun u => w9 ((mz_eq rfl zl_6 (hB.2 1 p0) (bdl rfl)).mpr u))
    exact mretI zl_0 (bdl rfl) hB G
  · have G := G.2 ((mz_eq rfl zl_6 (hB.2 1 p0) (bdl rfl)).mp w9)
    refine mgR hW rfl ?_
    have c8 := G.1
    have G := G.2
    refine maI hW rfl rfl rfl rfl c8 ?_
    refine ⟨fun w7 => ?_, fun w7 => ?_⟩
    · have G := G.1 ((mz_eq rfl zl_m1 (hB.2 15 p0) (bdl rfl)).mp w7)
      exact mretI zl_0 (bdl rfl) hB G
    · have G := G.2 (fun u => w7 ((mz_eq rfl zl_m1 (hB.2 15 p0) (bdl rfl)).mpr u))
      refine mgR hW rfl ?_
      have c6 := G.1
      have G := G.2
      refine maI hW rfl rfl rfl rfl c6 ?_
      refine ⟨mrc hW, mcI G (mv1 rfl) (fun z1 s2 b3 hB4 G => ?_)⟩
      refine ⟨fun w5 => ?_, fun w5 => ?_⟩
      · have G := G.1 (fun u => w5 ((mz_eq rfl rfl b3 bp1).mpr u))
        exact mretI zl_0 (bdl rfl) hB4 G
      · have G := G.2 ((mz_eq rfl rfl b3 bp1).mp w5)
        exact mretI zl_1 (bdl rfl) hB4 G
theorem p_X3_sheetOf {D : qD} {W : mW} {X : String → qH → Prop} {K : Int → mS → Prop} (hW : mOK D W) {s : mS} (hB : MB s) {p0 : Int} (bp0 : bd p0) (G : (bd (p0 - 1) ∧ ((0 ≤ (p0 - 1) ∧ (0 : Int) < (s.1 12)) ∧ ((0 ≤ (s.1 12) ∧ (0 : Int) < 4) ∧ pI D W X m_X3_within [p0] s (fun z4 s5 => (bd ((((p0 - 1) / (s.1 12)) * ((s.1 12) / 4)) + z4) ∧ K ((((p0 - 1) / (s.1 12)) * ((s.1 12) / 4)) + z4) s5)))))) : pI D W X m_X3_sheetOf [p0] s K := by
  intro h
  refine f_X3_sheetOf _ _ _ ?_
  refine mgI hW rfl ?_
  have b1 := G.1
  have G := G.2
  have c2 := G.1
  have G := G.2
  refine ⟨fun w => absurd ((mz_eq rfl zl_0 (hB.1 12) (bdl rfl)).mp w) (by omega), ?_⟩
  refine mgI hW rfl ?_
  have c3 := G.1
  have G := G.2
  refine ⟨mrc hW, mcI G (mv1 rfl) (fun z4 s5 b6 hB7 G => ?_)⟩
  have b8 := G.1
  have G := G.2
  exact mretI (mz_add (mz_mul (mz_div (mz_sub rfl zl_1) rfl ⟨c2, b1, (hB.1 12)⟩) (mz_div rfl zl_4 ⟨c3, (hB.1 12), (bdl rfl)⟩)) rfl) b8 hB7 G
def PL_X3_sideOf_38 (D : qD) (W : mW) (X : String → qH → Prop) (K : Int → mS → Prop) (s : mS) : Prop := MB s → ∀ h, L_X3_sideOf_38 D (pQI W h K) X  (mh W s h)
theorem PLu_X3_sideOf_38 {D : qD} {W : mW} {X : String → qH → Prop} {K : Int → mS → Prop} {s : mS} (G : PL_X3_sideOf_38 D W X K s) (hB : MB s) (h : qH) : L_X3_sideOf_38 D (pQI W h K) X  (mh W s h) := by
  exact G hB h
theorem p_X3_sideOf {D : qD} {W : mW} {X : String → qH → Prop} {K : Int → mS → Prop} (hW : mOK D W) {s : mS} (hB : MB s) {p0 : Int} (bp0 : bd p0) (G : (bd (p0 - 1) ∧ ((0 ≤ (p0 - 1) ∧ (0 : Int) < (s.1 12)) ∧ pI D W X m_X3_within [p0] s (fun z3 s4 => (bd (((p0 - 1) % (s.1 12)) + 1) ∧ (bd ((s4.1 12) - (2 * z3)) ∧ (((((p0 - 1) % (s.1 12)) + 1) = ((s4.1 12) - (2 * z3)) → PL_X3_sideOf_38 D W X K s4) ∧ (¬ (((p0 - 1) % (s.1 12)) + 1) = ((s4.1 12) - (2 * z3)) → (bd (((p0 - 1) % (s.1 12)) + 1) ∧ (bd ((2 * z3) + 1) ∧ ((¬ (((p0 - 1) % (s.1 12)) + 1) = ((2 * z3) + 1) → K 1 s4) ∧ ((((p0 - 1) % (s.1 12)) + 1) = ((2 * z3) + 1) → PL_X3_sideOf_38 D W X K s4)))))))))))) : pI D W X m_X3_sideOf [p0] s K := by
  intro h
  refine f_X3_sideOf _ _ _ ?_
  refine mgI hW rfl ?_
  have b1 := G.1
  have G := G.2
  have c2 := G.1
  have G := G.2
  refine ⟨fun w => absurd ((mz_eq rfl zl_0 (hB.1 12) (bdl rfl)).mp w) (by omega), ?_⟩
  refine ⟨mrc hW, mcI G (mv1 rfl) (fun z3 s4 b5 hB6 G => ?_)⟩
  refine mgI hW rfl ?_
  have b7 := G.1
  have G := G.2
  have b8 := G.1
  have G := G.2
  refine ⟨fun w12 => ?_, fun w12 => ?_⟩
  · have G := G.1 ((mz_eq (mz_add (mz_rem (mz_sub rfl zl_1) rfl ⟨c2, b1, (hB.1 12)⟩) zl_1) (mz_sub rfl (mz_mul zl_2 rfl)) b7 b8).mp w12)
    exact PLu_X3_sideOf_38 G hB6 h
  · have G := G.2 (fun u => w12 ((mz_eq (mz_add (mz_rem (mz_sub rfl zl_1) rfl ⟨c2, b1, (hB.1 12)⟩) zl_1) (mz_sub rfl (mz_mul zl_2 rfl)) b7 b8).mpr u))
    have b9 := G.1
    have G := G.2
    have b10 := G.1
    have G := G.2
    refine ⟨fun w11 => ?_, fun w11 => ?_⟩
    · have G := G.1 (fun u => w11 ((mz_eq (mz_add (mz_rem (mz_sub rfl zl_1) rfl ⟨c2, b1, (hB.1 12)⟩) zl_1) (mz_add (mz_mul zl_2 rfl) zl_1) b9 b10).mpr u))
      exact mretI zl_1 (bdl rfl) hB6 G
    · have G := G.2 ((mz_eq (mz_add (mz_rem (mz_sub rfl zl_1) rfl ⟨c2, b1, (hB.1 12)⟩) zl_1) (mz_add (mz_mul zl_2 rfl) zl_1) b9 b10).mp w11)
      exact PLu_X3_sideOf_38 G hB6 h
theorem p_X3_sideOf_38 {D : qD} {W : mW} {X : String → qH → Prop} {K : Int → mS → Prop} (hW : mOK D W) {s : mS} (G : MB s → K 0 s) : PL_X3_sideOf_38 D W X K s := by
  intro hB h
  have G := G hB
  refine f_X3_sideOf_38  _ ?_
  exact mretI zl_0 (bdl rfl) hB G
def PL_X3_nextOn_2 (D : qD) (W : mW) (X : String → qH → Prop) (K : Int → mS → Prop) (s : mS) (v1 v3 : Int) : Prop := MB s → bd v1 → bd v3 → ∀ h, L_X3_nextOn_2 D (pQI W h K) X (W.1 100) (zI v1) (zI v3) (mh W s h)
theorem PLu_X3_nextOn_2 {D : qD} {W : mW} {X : String → qH → Prop} {K : Int → mS → Prop} {s : mS} {v1 : Int} {xv1 : Int32} {v3 : Int} {xv3 : Int32} (G : PL_X3_nextOn_2 D W X K s v1 v3) (hB : MB s) (ev1 : xv1 = zI v1) (bv1 : bd v1) (ev3 : xv3 = zI v3) (bv3 : bd v3) (h : qH) : L_X3_nextOn_2 D (pQI W h K) X (W.1 100) xv1 xv3 (mh W s h) := by
  subst ev1
  subst ev3
  exact G hB bv1 bv3 h
def PL_X3_nextOn_28 (D : qD) (W : mW) (X : String → qH → Prop) (K : Int → mS → Prop) (s : mS) (v1 v3 : Int) : Prop := MB s → bd v1 → bd v3 → ∀ h, L_X3_nextOn_28 D (pQI W h K) X (W.1 100) (zI v1) (zI v3) (mh W s h)
theorem PLu_X3_nextOn_28 {D : qD} {W : mW} {X : String → qH → Prop} {K : Int → mS → Prop} {s : mS} {v1 : Int} {xv1 : Int32} {v3 : Int} {xv3 : Int32} (G : PL_X3_nextOn_28 D W X K s v1 v3) (hB : MB s) (ev1 : xv1 = zI v1) (bv1 : bd v1) (ev3 : xv3 = zI v3) (bv3 : bd v3) (h : qH) : L_X3_nextOn_28 D (pQI W h K) X (W.1 100) xv1 xv3 (mh W s h) := by
  subst ev1
  subst ev3
  exact G hB bv1 bv3 h
theorem p_X3_nextOn {D : qD} {W : mW} {X : String → qH → Prop} {K : Int → mS → Prop} (hW : mOK D W) {s : mS} (hB : MB s) {p0 : Int} (bp0 : bd p0) {p1 : Int} (bp1 : bd p1) (G : PL_X3_nextOn_2 D W X K s p0 p1) : pI D W X m_X3_nextOn [p0, p1] s K := by
  intro h
  refine f_X3_nextOn _ _ _ _ ?_
  exact PLu_X3_nextOn_2 G hB rfl bp0 rfl bp1 h
theorem p_X3_nextOn_2 {D : qD} {W : mW} {X : String → qH → Prop} {K : Int → mS → Prop} (hW : mOK D W) {s : mS} {v1 : Int} {v3 : Int} (G : MB s → bd v1 → bd v3 → (((s.1 0) ≤ v3 → K v3 s) ∧ (¬ (s.1 0) ≤ v3 → ((0 ≤ v3 ∧ v3 < 120) ∧ ((¬ (s.2 15 v3) = v1 → PL_X3_nextOn_28 D W X K s v1 v3) ∧ ((s.2 15 v3) = v1 → pI D W X m_X3_hangs [v3] s (fun z1 s2 => ((z1 = 0 → K v3 s2) ∧ (¬ z1 = 0 → PL_X3_nextOn_28 D W X K s2 v1 v3))))))))) : PL_X3_nextOn_2 D W X K s v1 v3 := by
  intro hB bv1 bv3 h
  have G := G hB bv1 bv3
  refine f_X3_nextOn_2 _ _ _ _ ?_
  refine mgI hW rfl ?_
  refine ⟨fun w8 => ?_, fun w8 => ?_⟩
  · have G := G.1 ((mz_le rfl rfl (hB.1 0) bv3).mp w8)
    exact mretI rfl bv3 hB G
  · have G := G.2 (fun u => w8 ((mz_le rfl rfl (hB.1 0) bv3).mpr u))
    refine mgR hW rfl ?_
    have c7 := G.1
    have G := G.2
    refine maI hW rfl rfl rfl rfl c7 ?_
    refine ⟨fun w6 => ?_, fun w6 => ?_⟩
    · have G := G.1 (fun u => w6 ((mz_eq rfl rfl (hB.2 15 v3) bv1).mpr u))
      exact PLu_X3_nextOn_28 G hB rfl bv1 rfl bv3 h
    · have G := G.2 ((mz_eq rfl rfl (hB.2 15 v3) bv1).mp w6)
      refine ⟨mrc hW, mcI G (mv1 rfl) (fun z1 s2 b3 hB4 G => ?_)⟩
      refine ⟨fun w5 => ?_, fun w5 => ?_⟩
      · have G := G.1 ((mz_eq rfl zl_0 b3 (bdl rfl)).mp w5)
        exact mretI rfl bv3 hB4 G
      · have G := G.2 (fun u => w5 ((mz_eq rfl zl_0 b3 (bdl rfl)).mpr u))
        exact PLu_X3_nextOn_28 G hB4 rfl bv1 rfl bv3 h
theorem p_X3_nextOn_28 {D : qD} {W : mW} {X : String → qH → Prop} {K : Int → mS → Prop} (hW : mOK D W) {s : mS} {v1 : Int} {v3 : Int} (G : MB s → bd v1 → bd v3 → (bd (v3 + 1) ∧ PL_X3_nextOn_2 D W X K s v1 (v3 + 1))) : PL_X3_nextOn_28 D W X K s v1 v3 := by
  intro hB bv1 bv3 h
  have G := G hB bv1 bv3
  refine f_X3_nextOn_28 _ _ _ _ ?_
  have b9 := G.1
  have G := G.2
  exact PLu_X3_nextOn_2 G hB rfl bv1 (mz_add rfl zl_1) b9 h
def PL_X3_put_43 (D : qD) (W : mW) (X : String → qH → Prop) (K : Int → mS → Prop) (s : mS) : Prop := MB s → ∀ h, L_X3_put_43 D (pQI W h K) X (W.1 100) (mh W s h)
theorem PLu_X3_put_43 {D : qD} {W : mW} {X : String → qH → Prop} {K : Int → mS → Prop} {s : mS} (G : PL_X3_put_43 D W X K s) (hB : MB s) (h : qH) : L_X3_put_43 D (pQI W h K) X (W.1 100) (mh W s h) := by
  exact G hB h
def PL_X3_put_75 (D : qD) (W : mW) (X : String → qH → Prop) (K : Int → mS → Prop) (s : mS) (v1 v2 v3 v4 v5 : Int) : Prop := MB s → bd v1 → bd v2 → bd v3 → bd v4 → bd v5 → ∀ h, L_X3_put_75 D (pQI W h K) X (W.1 100) (zI v1) (zI v2) (zI v3) (zI v4) (zI v5) (mh W s h)
theorem PLu_X3_put_75 {D : qD} {W : mW} {X : String → qH → Prop} {K : Int → mS → Prop} {s : mS} {v1 : Int} {xv1 : Int32} {v2 : Int} {xv2 : Int32} {v3 : Int} {xv3 : Int32} {v4 : Int} {xv4 : Int32} {v5 : Int} {xv5 : Int32} (G : PL_X3_put_75 D W X K s v1 v2 v3 v4 v5) (hB : MB s) (ev1 : xv1 = zI v1) (bv1 : bd v1) (ev2 : xv2 = zI v2) (bv2 : bd v2) (ev3 : xv3 = zI v3) (bv3 : bd v3) (ev4 : xv4 = zI v4) (bv4 : bd v4) (ev5 : xv5 = zI v5) (bv5 : bd v5) (h : qH) : L_X3_put_75 D (pQI W h K) X (W.1 100) xv1 xv2 xv3 xv4 xv5 (mh W s h) := by
  subst ev1
  subst ev2
  subst ev3
  subst ev4
  subst ev5
  exact G hB bv1 bv2 bv3 bv4 bv5 h
theorem p_X3_put {D : qD} {W : mW} {X : String → qH → Prop} {K : Int → mS → Prop} (hW : mOK D W) {s : mS} (hB : MB s) {p0 : Int} (bp0 : bd p0) {p1 : Int} (bp1 : bd p1) {p2 : Int} (bp2 : bd p2) {p3 : Int} (bp3 : bd p3) (G : ((¬ (mIn p0 0 (s.1 0)) = 0 → (((mIn p1 0 6) = 0 → PL_X3_put_43 D W X K s) ∧ (¬ (mIn p1 0 6) = 0 → pI D W X m_X3_isFine [p1, p2, p3] s (fun z1 s2 => ((¬ z1 = 0 → ((¬ (s2.1 0) = 120 → PL_X3_put_75 D W X K (mF s2 37 0) p0 p1 p2 p3 (s2.1 0)) ∧ ((s2.1 0) = 120 → pI D W X m_X3_fails [3] s2 (fun z5 s6 => K z5 s6)))) ∧ (z1 = 0 → PL_X3_put_43 D W X K s2)))))) ∧ ((mIn p0 0 (s.1 0)) = 0 → pI D W X m_X3_fails [1] s (fun z12 s13 => K z12 s13)))) : pI D W X m_X3_put [p0, p1, p2, p3] s K := by
  intro h
  refine f_X3_put _ _ _ _ _ _ ?_
  refine mgI hW rfl ?_
  refine mcIn (a := p0) (b := 0) (c := (s.1 0)) (mz_l rfl bp0) rfl (mz_l rfl (hB.1 0)) bp0 (bdl rfl) (hB.1 0) ?_
  refine ⟨fun w16 => ?_, fun w16 => ?_⟩
  · have G := G.1 (fun u => w16 ((mz_eq rfl zl_0 bdIn (bdl rfl)).mpr u))
    refine mcIn (a := p1) (b := 0) (c := 6) (mz_l rfl bp1) rfl rfl bp1 (bdl rfl) (bdl rfl) ?_
    refine ⟨fun w11 => ?_, fun w11 => ?_⟩
    · have G := G.1 ((mz_eq rfl zl_0 bdIn (bdl rfl)).mp w11)
      exact PLu_X3_put_43 G hB h
    · have G := G.2 (fun u => w11 ((mz_eq rfl zl_0 bdIn (bdl rfl)).mpr u))
      refine ⟨mrc hW, mcI G (mv3 rfl rfl rfl) (fun z1 s2 b3 hB4 G => ?_)⟩
      refine ⟨fun w10 => ?_, fun w10 => ?_⟩
      · have G := G.1 (fun u => w10 ((mz_eq rfl zl_0 b3 (bdl rfl)).mpr u))
        refine mgI hW rfl ?_
        refine ⟨fun w9 => ?_, fun w9 => ?_⟩
        · have G := G.1 (fun u => w9 ((mz_eq rfl zl_120 (hB4.1 0) (bdl rfl)).mpr u))
          refine mpF hW rfl zl_0 ?_
          refine mgI hW rfl ?_
          exact PLu_X3_put_75 G (MB.F hB4 (bdl rfl)) rfl bp0 rfl bp1 rfl bp2 rfl bp3 rfl (hB4.1 0) h
        · have G := G.2 ((mz_eq rfl zl_120 (hB4.1 0) (bdl rfl)).mp w9)
          refine ⟨mrc hW, mcI G (mv1 zl_3) (fun z5 s6 b7 hB8 G => ?_)⟩
          exact mretI rfl b7 hB8 G
      · have G := G.2 ((mz_eq rfl zl_0 b3 (bdl rfl)).mp w10)
        exact PLu_X3_put_43 G hB4 h
  · have G := G.2 ((mz_eq rfl zl_0 bdIn (bdl rfl)).mp w16)
    refine ⟨mrc hW, mcI G (mv1 zl_1) (fun z12 s13 b14 hB15 G => ?_)⟩
    exact mretI rfl b14 hB15 G
theorem p_X3_put_43 {D : qD} {W : mW} {X : String → qH → Prop} {K : Int → mS → Prop} (hW : mOK D W) {s : mS} (G : MB s → pI D W X m_X3_fails [2] s (fun z17 s18 => K z17 s18)) : PL_X3_put_43 D W X K s := by
  intro hB h
  have G := G hB
  refine f_X3_put_43 _ _ ?_
  refine ⟨mrc hW, mcI G (mv1 zl_2) (fun z17 s18 b19 hB20 G => ?_)⟩
  exact mretI rfl b19 hB20 G
theorem p_X3_put_75 {D : qD} {W : mW} {X : String → qH → Prop} {K : Int → mS → Prop} (hW : mOK D W) {s : mS} {v1 : Int} {v2 : Int} {v3 : Int} {v4 : Int} {v5 : Int} (G : MB s → bd v1 → bd v2 → bd v3 → bd v4 → bd v5 → ((v5 ≤ v1 → ((0 ≤ v1 ∧ v1 < 120) ∧ ((0 ≤ v1 ∧ v1 < 120) ∧ ((0 ≤ v1 ∧ v1 < 120) ∧ (bd ((s.1 0) + 1) ∧ K ((s.1 0) + 1) (mF (mA (mA (mA s 1 v1 v2) 2 v1 v3) 3 v1 v4) 0 ((s.1 0) + 1))))))) ∧ (¬ v5 ≤ v1 → ((0 ≤ (v5 - 1) ∧ (v5 - 1) < 120) ∧ ((0 ≤ v5 ∧ v5 < 120) ∧ ((0 ≤ (v5 - 1) ∧ (v5 - 1) < 120) ∧ ((0 ≤ v5 ∧ v5 < 120) ∧ ((0 ≤ (v5 - 1) ∧ (v5 - 1) < 120) ∧ ((0 ≤ v5 ∧ v5 < 120) ∧ (bd (v5 + (-1)) ∧ PL_X3_put_75 D W X K (mA (mA (mA s 1 v5 (s.2 1 (v5 - 1))) 2 v5 (s.2 2 (v5 - 1))) 3 v5 (s.2 3 (v5 - 1))) v1 v2 v3 v4 (v5 + (-1)))))))))))) : PL_X3_put_75 D W X K s v1 v2 v3 v4 v5 := by
  intro hB bv1 bv2 bv3 bv4 bv5 h
  have G := G hB bv1 bv2 bv3 bv4 bv5
  refine f_X3_put_75 _ _ _ _ _ _ _ ?_
  refine ⟨fun w32 => ?_, fun w32 => ?_⟩
  · have G := G.1 ((mz_le rfl rfl bv5 bv1).mp w32)
    refine mgR hW rfl ?_
    have c24 := G.1
    have G := G.2
    refine msI hW rfl rfl rfl rfl rfl c24 ?_
    refine mgR hW rfl ?_
    have c23 := G.1
    have G := G.2
    refine msI hW rfl rfl rfl rfl rfl c23 ?_
    refine mgR hW rfl ?_
    have c22 := G.1
    have G := G.2
    refine msI hW rfl rfl rfl rfl rfl c22 ?_
    refine mgI hW rfl ?_
    have b21 := G.1
    have G := G.2
    refine mpF hW rfl (mz_add rfl zl_1) ?_
    refine mgI hW rfl ?_
    exact mretI rfl b21 (MB.F (MB.A (MB.A (MB.A hB bv2) bv3) bv4) b21) G
  · have G := G.2 (fun u => w32 ((mz_le rfl rfl bv5 bv1).mpr u))
    refine mgR hW rfl ?_
    refine mgR hW rfl ?_
    have c31 := G.1
    have G := G.2
    refine maI hW rfl rfl (mz_sub rfl zl_1) rfl c31 ?_
    have c30 := G.1
    have G := G.2
    refine msI hW rfl rfl rfl rfl rfl c30 ?_
    refine mgR hW rfl ?_
    refine mgR hW rfl ?_
    have c29 := G.1
    have G := G.2
    refine maI hW rfl rfl (mz_sub rfl zl_1) rfl c29 ?_
    have c28 := G.1
    have G := G.2
    refine msI hW rfl rfl rfl rfl rfl c28 ?_
    refine mgR hW rfl ?_
    refine mgR hW rfl ?_
    have c27 := G.1
    have G := G.2
    refine maI hW rfl rfl (mz_sub rfl zl_1) rfl c27 ?_
    have c26 := G.1
    have G := G.2
    refine msI hW rfl rfl rfl rfl rfl c26 ?_
    have b25 := G.1
    have G := G.2
    exact PLu_X3_put_75 G (MB.A (MB.A (MB.A hB (hB.2 1 (v5 - 1))) (hB.2 2 (v5 - 1))) (hB.2 3 (v5 - 1))) rfl bv1 rfl bv2 rfl bv3 rfl bv4 (mz_add rfl zl_m1) b25 h
def PL_X3_layLines_15 (D : qD) (W : mW) (X : String → qH → Prop) (K : mS → Prop) (s : mS) (v1 v2 v3 v4 v5 : Int) : Prop := MB s → bd v1 → bd v2 → bd v3 → bd v4 → bd v5 → ∀ h, L_X3_layLines_15 D (pQV W h K) X (W.1 100) (zI v1) (zI v2) (zI v3) (zI v4) (zI v5) (mh W s h)
theorem PLu_X3_layLines_15 {D : qD} {W : mW} {X : String → qH → Prop} {K : mS → Prop} {s : mS} {v1 : Int} {xv1 : Int32} {v2 : Int} {xv2 : Int32} {v3 : Int} {xv3 : Int32} {v4 : Int} {xv4 : Int32} {v5 : Int} {xv5 : Int32} (G : PL_X3_layLines_15 D W X K s v1 v2 v3 v4 v5) (hB : MB s) (ev1 : xv1 = zI v1) (bv1 : bd v1) (ev2 : xv2 = zI v2) (bv2 : bd v2) (ev3 : xv3 = zI v3) (bv3 : bd v3) (ev4 : xv4 = zI v4) (bv4 : bd v4) (ev5 : xv5 = zI v5) (bv5 : bd v5) (h : qH) : L_X3_layLines_15 D (pQV W h K) X (W.1 100) xv1 xv2 xv3 xv4 xv5 (mh W s h) := by
  subst ev1
  subst ev2
  subst ev3
  subst ev4
  subst ev5
  exact G hB bv1 bv2 bv3 bv4 bv5 h
def PL_X3_layLines_179 (D : qD) (W : mW) (X : String → qH → Prop) (K : mS → Prop) (s : mS) (v1 v2 v3 v4 v5 : Int) : Prop := MB s → bd v1 → bd v2 → bd v3 → bd v4 → bd v5 → ∀ h, L_X3_layLines_179 D (pQV W h K) X (W.1 100) (zI v1) (zI v2) (zI v3) (zI v4) (zI v5) (mh W s h)
theorem PLu_X3_layLines_179 {D : qD} {W : mW} {X : String → qH → Prop} {K : mS → Prop} {s : mS} {v1 : Int} {xv1 : Int32} {v2 : Int} {xv2 : Int32} {v3 : Int} {xv3 : Int32} {v4 : Int} {xv4 : Int32} {v5 : Int} {xv5 : Int32} (G : PL_X3_layLines_179 D W X K s v1 v2 v3 v4 v5) (hB : MB s) (ev1 : xv1 = zI v1) (bv1 : bd v1) (ev2 : xv2 = zI v2) (bv2 : bd v2) (ev3 : xv3 = zI v3) (bv3 : bd v3) (ev4 : xv4 = zI v4) (bv4 : bd v4) (ev5 : xv5 = zI v5) (bv5 : bd v5) (h : qH) : L_X3_layLines_179 D (pQV W h K) X (W.1 100) xv1 xv2 xv3 xv4 xv5 (mh W s h) := by
  subst ev1
  subst ev2
  subst ev3
  subst ev4
  subst ev5
  exact G hB bv1 bv2 bv3 bv4 bv5 h
def PL_X3_layLines_166 (D : qD) (W : mW) (X : String → qH → Prop) (K : mS → Prop) (s : mS) (v1 v2 v3 v4 v5 : Int) : Prop := MB s → bd v1 → bd v2 → bd v3 → bd v4 → bd v5 → ∀ h, L_X3_layLines_166 D (pQV W h K) X (W.1 100) (zI v1) (zI v2) (zI v3) (zI v4) (zI v5) (mh W s h)
theorem PLu_X3_layLines_166 {D : qD} {W : mW} {X : String → qH → Prop} {K : mS → Prop} {s : mS} {v1 : Int} {xv1 : Int32} {v2 : Int} {xv2 : Int32} {v3 : Int} {xv3 : Int32} {v4 : Int} {xv4 : Int32} {v5 : Int} {xv5 : Int32} (G : PL_X3_layLines_166 D W X K s v1 v2 v3 v4 v5) (hB : MB s) (ev1 : xv1 = zI v1) (bv1 : bd v1) (ev2 : xv2 = zI v2) (bv2 : bd v2) (ev3 : xv3 = zI v3) (bv3 : bd v3) (ev4 : xv4 = zI v4) (bv4 : bd v4) (ev5 : xv5 = zI v5) (bv5 : bd v5) (h : qH) : L_X3_layLines_166 D (pQV W h K) X (W.1 100) xv1 xv2 xv3 xv4 xv5 (mh W s h) := by
  subst ev1
  subst ev2
  subst ev3
  subst ev4
  subst ev5
  exact G hB bv1 bv2 bv3 bv4 bv5 h
theorem p_X3_layLines {D : qD} {W : mW} {X : String → qH → Prop} {K : mS → Prop} (hW : mOK D W) {s : mS} (hB : MB s) {p0 : Int} (bp0 : bd p0) (G : PL_X3_layLines_15 D W X K (mF s 14 0) p0 0 0 0 0) : pV D W X m_X3_layLines [p0] s K := by
  intro h
  refine f_X3_layLines _ _ _ ?_
  refine mpF hW rfl zl_0 ?_
  exact PLu_X3_layLines_15 G (MB.F hB (bdl rfl)) rfl bp0 zl_0 (bdl rfl) zl_0 (bdl rfl) zl_0 (bdl rfl) zl_0 (bdl rfl) h
theorem p_X3_layLines_15 {D : qD} {W : mW} {X : String → qH → Prop} {K : mS → Prop} (hW : mOK D W) {s : mS} {v1 : Int} {v2 : Int} {v3 : Int} {v4 : Int} {v5 : Int} (G : MB s → bd v1 → bd v2 → bd v3 → bd v4 → bd v5 → (((s.1 0) ≤ v5 → pV D W X m_X3_hang [] s (fun s2 => K s2)) ∧ (¬ (s.1 0) ≤ v5 → ((0 ≤ v5 ∧ v5 < 120) ∧ ((0 ≤ v5 ∧ v5 < 120) ∧ ((¬ (s.2 1 v5) = 2 → ((0 ≤ v5 ∧ v5 < 120) ∧ ((¬ (s.2 1 v5) = 3 → pI D W X m_X3_isPrinted [v1, v5] (mA s 15 v5 (-1)) (fun z5 s6 => ((z5 = 0 → PL_X3_layLines_179 D W X K s6 v1 v2 v3 v4 v5) ∧ (¬ z5 = 0 → pI D W X m_X3_wide [v1, v5] s6 (fun z9 s10 => ((¬ v3 = 0 → (bd ((v2 + 1) + z9) ∧ (((s10.1 8) < ((v2 + 1) + z9) → pV D W X m_X3_newLine [0, 0] s10 (fun s15 => ((0 ≤ v4 ∧ v4 < 120) ∧ PL_X3_layLines_166 D W X K (mA s15 21 v4 1) v1 z9 v3 v4 v5))) ∧ (¬ (s10.1 8) < ((v2 + 1) + z9) → (bd (v2 + (1 + z9)) ∧ PL_X3_layLines_166 D W X K s10 v1 (v2 + (1 + z9)) v3 v4 v5))))) ∧ (v3 = 0 → pV D W X m_X3_newLine [0, 1] s10 (fun s22 => PL_X3_layLines_166 D W X K s22 v1 z9 1 (s10.1 14) v5)))))))) ∧ ((s.2 1 v5) = 3 → pV D W X m_X3_newLine [1, 1] (mA s 15 v5 (-1)) (fun s28 => (bd ((s28.1 14) - 1) ∧ ((0 ≤ v5 ∧ v5 < 120) ∧ PL_X3_layLines_179 D W X K (mA s28 15 v5 ((s28.1 14) - 1)) v1 v2 0 v4 v5))))))) ∧ ((s.2 1 v5) = 2 → PL_X3_layLines_179 D W X K (mA s 15 v5 (-1)) v1 v2 0 v4 v5))))))) : PL_X3_layLines_15 D W X K s v1 v2 v3 v4 v5 := by
  intro hB bv1 bv2 bv3 bv4 bv5 h
  have G := G hB bv1 bv2 bv3 bv4 bv5
  refine f_X3_layLines_15 _ _ _ _ _ _ _ ?_
  refine mgI hW rfl ?_
  refine ⟨fun w38 => ?_, fun w38 => ?_⟩
  · have G := G.1 ((mz_le rfl rfl (hB.1 0) bv5).mp w38)
    refine ⟨mrc hW, mcV G rfl (fun s2 hB4 G => ?_)⟩
    exact mretV hB4 G
  · have G := G.2 (fun u => w38 ((mz_le rfl rfl (hB.1 0) bv5).mpr u))
    refine mgR hW rfl ?_
    have c37 := G.1
    have G := G.2
    refine msI hW rfl rfl rfl zl_m1 rfl c37 ?_
    refine mgR hW rfl ?_
    have c36 := G.1
    have G := G.2
    refine maI hW rfl rfl rfl rfl c36 ?_
    refine ⟨fun w35 => ?_, fun w35 => ?_⟩
    · have G := G.1 (fun u => w35 ((mz_eq rfl zl_2 (hB.2 1 v5) (bdl rfl)).mpr u))
      refine mgR hW rfl ?_
      have c34 := G.1
      have G := G.2
      refine maI hW rfl rfl rfl rfl c34 ?_
      refine ⟨fun w33 => ?_, fun w33 => ?_⟩
      · have G := G.1 (fun u => w33 ((mz_eq rfl zl_3 (hB.2 1 v5) (bdl rfl)).mpr u))
        refine ⟨mrc hW, mcI G (mv2 rfl rfl) (fun z5 s6 b7 hB8 G => ?_)⟩
        refine ⟨fun w26 => ?_, fun w26 => ?_⟩
        · have G := G.1 ((mz_eq rfl zl_0 b7 (bdl rfl)).mp w26)
          exact PLu_X3_layLines_179 G hB8 rfl bv1 rfl bv2 rfl bv3 rfl bv4 rfl bv5 h
        · have G := G.2 (fun u => w26 ((mz_eq rfl zl_0 b7 (bdl rfl)).mpr u))
          refine ⟨mrc hW, mcI G (mv2 rfl rfl) (fun z9 s10 b11 hB12 G => ?_)⟩
          refine ⟨fun w25 => ?_, fun w25 => ?_⟩
          · have G := G.1 (fun u => w25 ((mz_eq rfl zl_0 bv3 (bdl rfl)).mpr u))
            refine mgI hW rfl ?_
            have b13 := G.1
            have G := G.2
            refine ⟨fun w20 => ?_, fun w20 => ?_⟩
            · have G := G.1 ((mz_lt rfl (mz_add (mz_add rfl zl_1) rfl) (hB12.1 8) b13).mp w20)
              refine ⟨mrc hW, mcV G (mv2 zl_0 zl_0) (fun s15 hB17 G => ?_)⟩
              refine mgR hW rfl ?_
              have c18 := G.1
              have G := G.2
              refine msI hW rfl rfl rfl zl_1 rfl c18 ?_
              exact PLu_X3_layLines_166 G (MB.A hB17 (bdl rfl)) rfl bv1 rfl b11 rfl bv3 rfl bv4 rfl bv5 h
            · have G := G.2 (fun u => w20 ((mz_lt rfl (mz_add (mz_add rfl zl_1) rfl) (hB12.1 8) b13).mpr u))
              have b19 := G.1
              have G := G.2
              exact PLu_X3_layLines_166 G hB12 rfl bv1 (mz_add rfl (mz_add zl_1 rfl)) b19 rfl bv3 rfl bv4 rfl bv5 h
          · have G := G.2 ((mz_eq rfl zl_0 bv3 (bdl rfl)).mp w25)
            refine mgI hW rfl ?_
            refine ⟨mrc hW, mcV G (mv2 zl_0 zl_1) (fun s22 hB24 G => ?_)⟩
            exact PLu_X3_layLines_166 G hB24 rfl bv1 rfl b11 zl_1 (bdl rfl) rfl (hB12.1 14) rfl bv5 h
      · have G := G.2 ((mz_eq rfl zl_3 (hB.2 1 v5) (bdl rfl)).mp w33)
        refine ⟨mrc hW, mcV G (mv2 zl_1 zl_1) (fun s28 hB30 G => ?_)⟩
        refine mgR hW rfl ?_
        refine mgI hW rfl ?_
        have b31 := G.1
        have G := G.2
        have c32 := G.1
        have G := G.2
        refine msI hW rfl rfl rfl (mz_sub rfl zl_1) rfl c32 ?_
        exact PLu_X3_layLines_179 G (MB.A hB30 b31) rfl bv1 rfl bv2 zl_0 (bdl rfl) rfl bv4 rfl bv5 h
    · have G := G.2 ((mz_eq rfl zl_2 (hB.2 1 v5) (bdl rfl)).mp w35)
      exact PLu_X3_layLines_179 G (MB.A hB (bdl rfl)) rfl bv1 rfl bv2 zl_0 (bdl rfl) rfl bv4 rfl bv5 h
theorem p_X3_layLines_179 {D : qD} {W : mW} {X : String → qH → Prop} {K : mS → Prop} (hW : mOK D W) {s : mS} {v1 : Int} {v2 : Int} {v3 : Int} {v4 : Int} {v5 : Int} (G : MB s → bd v1 → bd v2 → bd v3 → bd v4 → bd v5 → (bd (v5 + 1) ∧ PL_X3_layLines_15 D W X K s v1 v2 v3 v4 (v5 + 1))) : PL_X3_layLines_179 D W X K s v1 v2 v3 v4 v5 := by
  intro hB bv1 bv2 bv3 bv4 bv5 h
  have G := G hB bv1 bv2 bv3 bv4 bv5
  refine f_X3_layLines_179 _ _ _ _ _ _ _ ?_
  have b39 := G.1
  have G := G.2
  exact PLu_X3_layLines_15 G hB rfl bv1 rfl bv2 rfl bv3 rfl bv4 (mz_add rfl zl_1) b39 h
theorem p_X3_layLines_166 {D : qD} {W : mW} {X : String → qH → Prop} {K : mS → Prop} (hW : mOK D W) {s : mS} {v1 : Int} {v2 : Int} {v3 : Int} {v4 : Int} {v5 : Int} (G : MB s → bd v1 → bd v2 → bd v3 → bd v4 → bd v5 → (bd ((s.1 14) - 1) ∧ ((0 ≤ v5 ∧ v5 < 120) ∧ PL_X3_layLines_179 D W X K (mA s 15 v5 ((s.1 14) - 1)) v1 v2 v3 v4 v5))) : PL_X3_layLines_166 D W X K s v1 v2 v3 v4 v5 := by
  intro hB bv1 bv2 bv3 bv4 bv5 h
  have G := G hB bv1 bv2 bv3 bv4 bv5
  refine f_X3_layLines_166 _ _ _ _ _ _ _ ?_
  refine mgR hW rfl ?_
  refine mgI hW rfl ?_
  have b40 := G.1
  have G := G.2
  have c41 := G.1
  have G := G.2
  refine msI hW rfl rfl rfl (mz_sub rfl zl_1) rfl c41 ?_
  exact PLu_X3_layLines_179 G (MB.A hB b40) rfl bv1 rfl bv2 rfl bv3 rfl bv4 rfl bv5 h
def PL_X3_layColumns_29 (D : qD) (W : mW) (X : String → qH → Prop) (K : mS → Prop) (s : mS) (v1 : Int) : Prop := MB s → bd v1 → ∀ h, L_X3_layColumns_29 D (pQV W h K) X (W.1 100) (zI v1) (mh W s h)
theorem PLu_X3_layColumns_29 {D : qD} {W : mW} {X : String → qH → Prop} {K : mS → Prop} {s : mS} {v1 : Int} {xv1 : Int32} (G : PL_X3_layColumns_29 D W X K s v1) (hB : MB s) (ev1 : xv1 = zI v1) (bv1 : bd v1) (h : qH) : L_X3_layColumns_29 D (pQV W h K) X (W.1 100) xv1 (mh W s h) := by
  subst ev1
  exact G hB bv1 h
def PL_X3_layColumns_201 (D : qD) (W : mW) (X : String → qH → Prop) (K : mS → Prop) (s : mS) : Prop := MB s → ∀ h, L_X3_layColumns_201 D (pQV W h K) X (W.1 100) (mh W s h)
theorem PLu_X3_layColumns_201 {D : qD} {W : mW} {X : String → qH → Prop} {K : mS → Prop} {s : mS} (G : PL_X3_layColumns_201 D W X K s) (hB : MB s) (h : qH) : L_X3_layColumns_201 D (pQV W h K) X (W.1 100) (mh W s h) := by
  exact G hB h
def PL_X3_layColumns_37 (D : qD) (W : mW) (X : String → qH → Prop) (K : mS → Prop) (s : mS) (v1 : Int) : Prop := MB s → bd v1 → ∀ h, L_X3_layColumns_37 D (pQV W h K) X (W.1 100) (zI v1) (mh W s h)
theorem PLu_X3_layColumns_37 {D : qD} {W : mW} {X : String → qH → Prop} {K : mS → Prop} {s : mS} {v1 : Int} {xv1 : Int32} (G : PL_X3_layColumns_37 D W X K s v1) (hB : MB s) (ev1 : xv1 = zI v1) (bv1 : bd v1) (h : qH) : L_X3_layColumns_37 D (pQV W h K) X (W.1 100) xv1 (mh W s h) := by
  subst ev1
  exact G hB bv1 h
def PL_X3_layColumns_67 (D : qD) (W : mW) (X : String → qH → Prop) (K : mS → Prop) (s : mS) (v1 : Int) : Prop := MB s → bd v1 → ∀ h, L_X3_layColumns_67 D (pQV W h K) X (W.1 100) (zI v1) (mh W s h)
theorem PLu_X3_layColumns_67 {D : qD} {W : mW} {X : String → qH → Prop} {K : mS → Prop} {s : mS} {v1 : Int} {xv1 : Int32} (G : PL_X3_layColumns_67 D W X K s v1) (hB : MB s) (ev1 : xv1 = zI v1) (bv1 : bd v1) (h : qH) : L_X3_layColumns_67 D (pQV W h K) X (W.1 100) xv1 (mh W s h) := by
  subst ev1
  exact G hB bv1 h
def PL_X3_layColumns_109 (D : qD) (W : mW) (X : String → qH → Prop) (K : mS → Prop) (s : mS) (v1 v2 : Int) : Prop := MB s → bd v1 → bd v2 → ∀ h, L_X3_layColumns_109 D (pQV W h K) X (W.1 100) (zI v1) (zI v2) (mh W s h)
theorem PLu_X3_layColumns_109 {D : qD} {W : mW} {X : String → qH → Prop} {K : mS → Prop} {s : mS} {v1 : Int} {xv1 : Int32} {v2 : Int} {xv2 : Int32} (G : PL_X3_layColumns_109 D W X K s v1 v2) (hB : MB s) (ev1 : xv1 = zI v1) (bv1 : bd v1) (ev2 : xv2 = zI v2) (bv2 : bd v2) (h : qH) : L_X3_layColumns_109 D (pQV W h K) X (W.1 100) xv1 xv2 (mh W s h) := by
  subst ev1
  subst ev2
  exact G hB bv1 bv2 h
def PL_X3_layColumns_189 (D : qD) (W : mW) (X : String → qH → Prop) (K : mS → Prop) (s : mS) (v1 v2 : Int) : Prop := MB s → bd v1 → bd v2 → ∀ h, L_X3_layColumns_189 D (pQV W h K) X (W.1 100) (zI v1) (zI v2) (mh W s h)
theorem PLu_X3_layColumns_189 {D : qD} {W : mW} {X : String → qH → Prop} {K : mS → Prop} {s : mS} {v1 : Int} {xv1 : Int32} {v2 : Int} {xv2 : Int32} (G : PL_X3_layColumns_189 D W X K s v1 v2) (hB : MB s) (ev1 : xv1 = zI v1) (bv1 : bd v1) (ev2 : xv2 = zI v2) (bv2 : bd v2) (h : qH) : L_X3_layColumns_189 D (pQV W h K) X (W.1 100) xv1 xv2 (mh W s h) := by
  subst ev1
  subst ev2
  exact G hB bv1 bv2 h
def PL_X3_layColumns_169 (D : qD) (W : mW) (X : String → qH → Prop) (K : mS → Prop) (s : mS) (v1 v2 : Int) : Prop := MB s → bd v1 → bd v2 → ∀ h, L_X3_layColumns_169 D (pQV W h K) X (W.1 100) (zI v1) (zI v2) (mh W s h)
theorem PLu_X3_layColumns_169 {D : qD} {W : mW} {X : String → qH → Prop} {K : mS → Prop} {s : mS} {v1 : Int} {xv1 : Int32} {v2 : Int} {xv2 : Int32} (G : PL_X3_layColumns_169 D W X K s v1 v2) (hB : MB s) (ev1 : xv1 = zI v1) (bv1 : bd v1) (ev2 : xv2 = zI v2) (bv2 : bd v2) (h : qH) : L_X3_layColumns_169 D (pQV W h K) X (W.1 100) xv1 xv2 (mh W s h) := by
  subst ev1
  subst ev2
  exact G hB bv1 bv2 h
theorem p_X3_layColumns {D : qD} {W : mW} {X : String → qH → Prop} {K : mS → Prop} (hW : mOK D W) {s : mS} (hB : MB s) (G : ((¬ (s.1 14) = 0 → pV D W X m_X3_begins [] (mF (mF (mF s 22 0) 26 0) 27 0) (fun s2 => PL_X3_layColumns_29 D W X K s2 0)) ∧ ((s.1 14) = 0 → K (mF (mF (mF s 22 0) 26 0) 27 0)))) : pV D W X m_X3_layColumns [] s K := by
  intro h
  refine f_X3_layColumns _ _ ?_
  refine mpF hW rfl zl_0 ?_
  refine mpF hW rfl zl_0 ?_
  refine mpF hW rfl zl_0 ?_
  refine mgI hW rfl ?_
  refine ⟨fun w5 => ?_, fun w5 => ?_⟩
  · have G := G.1 (fun u => w5 ((mz_eq rfl zl_0 (hB.1 14) (bdl rfl)).mpr u))
    refine ⟨mrc hW, mcV G rfl (fun s2 hB4 G => ?_)⟩
    exact PLu_X3_layColumns_29 G hB4 zl_0 (bdl rfl) h
  · have G := G.2 ((mz_eq rfl zl_0 (hB.1 14) (bdl rfl)).mp w5)
    exact mretV (MB.F (MB.F (MB.F hB (bdl rfl)) (bdl rfl)) (bdl rfl)) G
theorem p_X3_layColumns_29 {D : qD} {W : mW} {X : String → qH → Prop} {K : mS → Prop} (hW : mOK D W) {s : mS} {v1 : Int} (G : MB s → bd v1 → (((s.1 14) ≤ v1 → PL_X3_layColumns_201 D W X K s) ∧ (¬ (s.1 14) ≤ v1 → PL_X3_layColumns_37 D W X K s v1))) : PL_X3_layColumns_29 D W X K s v1 := by
  intro hB bv1 h
  have G := G hB bv1
  refine f_X3_layColumns_29 _ _ _ ?_
  refine mgI hW rfl ?_
  refine ⟨fun w6 => ?_, fun w6 => ?_⟩
  · have G := G.1 ((mz_le rfl rfl (hB.1 14) bv1).mp w6)
    exact PLu_X3_layColumns_201 G hB h
  · have G := G.2 (fun u => w6 ((mz_le rfl rfl (hB.1 14) bv1).mpr u))
    exact PLu_X3_layColumns_37 G hB rfl bv1 h
theorem p_X3_layColumns_201 {D : qD} {W : mW} {X : String → qH → Prop} {K : mS → Prop} (hW : mOK D W) {s : mS} (G : MB s → (((s.1 27) ≤ (s.1 26) → K s) ∧ (¬ (s.1 27) ≤ (s.1 26) → pV D W X m_X3_begins [] s (fun s8 => PL_X3_layColumns_201 D W X K s8)))) : PL_X3_layColumns_201 D W X K s := by
  intro hB h
  have G := G hB
  refine f_X3_layColumns_201 _ _ ?_
  refine mgI hW rfl ?_
  refine mgI hW rfl ?_
  refine ⟨fun w11 => ?_, fun w11 => ?_⟩
  · have G := G.1 ((mz_le rfl rfl (hB.1 27) (hB.1 26)).mp w11)
    exact mretV hB G
  · have G := G.2 (fun u => w11 ((mz_le rfl rfl (hB.1 27) (hB.1 26)).mpr u))
    refine ⟨mrc hW, mcV G rfl (fun s8 hB10 G => ?_)⟩
    exact PLu_X3_layColumns_201 G hB10 h
theorem p_X3_layColumns_37 {D : qD} {W : mW} {X : String → qH → Prop} {K : mS → Prop} (hW : mOK D W) {s : mS} {v1 : Int} (G : MB s → bd v1 → (((s.1 30) = 0 → PL_X3_layColumns_67 D W X K s v1) ∧ (¬ (s.1 30) = 0 → pI D W X m_X3_needs [v1, (s.1 29)] s (fun z12 s13 => ((z12 ≤ (s13.1 28) → PL_X3_layColumns_67 D W X K s13 v1) ∧ (¬ z12 ≤ (s13.1 28) → pV D W X m_X3_begins [] s13 (fun s17 => PL_X3_layColumns_37 D W X K s17 v1))))))) : PL_X3_layColumns_37 D W X K s v1 := by
  intro hB bv1 h
  have G := G hB bv1
  refine f_X3_layColumns_37 _ _ _ ?_
  refine mgI hW rfl ?_
  refine ⟨fun w21 => ?_, fun w21 => ?_⟩
  · have G := G.1 ((mz_eq rfl zl_0 (hB.1 30) (bdl rfl)).mp w21)
    exact PLu_X3_layColumns_67 G hB rfl bv1 h
  · have G := G.2 (fun u => w21 ((mz_eq rfl zl_0 (hB.1 30) (bdl rfl)).mpr u))
    refine mgI hW rfl ?_
    refine ⟨mrc hW, mcI G (mv2 rfl rfl) (fun z12 s13 b14 hB15 G => ?_)⟩
    refine mgI hW rfl ?_
    refine ⟨fun w20 => ?_, fun w20 => ?_⟩
    · have G := G.1 ((mz_le rfl rfl b14 (hB15.1 28)).mp w20)
      exact PLu_X3_layColumns_67 G hB15 rfl bv1 h
    · have G := G.2 (fun u => w20 ((mz_le rfl rfl b14 (hB15.1 28)).mpr u))
      refine ⟨mrc hW, mcV G rfl (fun s17 hB19 G => ?_)⟩
      exact PLu_X3_layColumns_37 G hB19 rfl bv1 h
theorem p_X3_layColumns_67 {D : qD} {W : mW} {X : String → qH → Prop} {K : mS → Prop} (hW : mOK D W) {s : mS} {v1 : Int} (G : MB s → bd v1 → (bd ((s.1 22) - 1) ∧ ((0 ≤ v1 ∧ v1 < 120) ∧ pI D W X m_X3_takes [v1, (s.1 29)] (mA s 17 v1 ((s.1 22) - 1)) (fun z23 s24 => (bd ((s.1 28) - z23) ∧ PL_X3_layColumns_109 D W X K (mF (mF (mF s24 28 ((s.1 28) - z23)) 29 1) 30 1) v1 0))))) : PL_X3_layColumns_67 D W X K s v1 := by
  intro hB bv1 h
  have G := G hB bv1
  refine f_X3_layColumns_67 _ _ _ ?_
  refine mgR hW rfl ?_
  refine mgI hW rfl ?_
  have b22 := G.1
  have G := G.2
  have c28 := G.1
  have G := G.2
  refine msI hW rfl rfl rfl (mz_sub rfl zl_1) rfl c28 ?_
  refine mgI hW rfl ?_
  refine mgI hW rfl ?_
  refine ⟨mrc hW, mcI G (mv2 rfl rfl) (fun z23 s24 b25 hB26 G => ?_)⟩
  have b27 := G.1
  have G := G.2
  refine mpF hW rfl (mz_sub rfl rfl) ?_
  refine mpF hW rfl zl_1 ?_
  refine mpF hW rfl zl_1 ?_
  exact PLu_X3_layColumns_109 G (MB.F (MB.F (MB.F hB26 b27) (bdl rfl)) (bdl rfl)) rfl bv1 zl_0 (bdl rfl) h
theorem p_X3_layColumns_109 {D : qD} {W : mW} {X : String → qH → Prop} {K : mS → Prop} (hW : mOK D W) {s : mS} {v1 : Int} {v2 : Int} (G : MB s → bd v1 → bd v2 → (((s.1 0) ≤ v2 → (bd (v1 + 1) ∧ PL_X3_layColumns_29 D W X K s (v1 + 1))) ∧ (¬ (s.1 0) ≤ v2 → ((0 ≤ v2 ∧ v2 < 120) ∧ ((¬ (s.2 1 v2) = 4 → PL_X3_layColumns_189 D W X K s v1 v2) ∧ ((s.2 1 v2) = 4 → ((0 ≤ v2 ∧ v2 < 120) ∧ ((¬ (s.2 15 v2) = v1 → PL_X3_layColumns_189 D W X K s v1 v2) ∧ ((s.2 15 v2) = v1 → ((¬ (s.1 26) = (s.1 27) → PL_X3_layColumns_169 D W X K s v1 v2) ∧ ((s.1 26) = (s.1 27) → ((0 ≤ v2 ∧ v2 < 120) ∧ (((s.1 28) < (s.2 2 v2) → PL_X3_layColumns_169 D W X K s v1 v2) ∧ (¬ (s.1 28) < (s.2 2 v2) → pV D W X m_X3_tops [v2] s (fun s31 => PL_X3_layColumns_189 D W X K s31 v1 v2))))))))))))))) : PL_X3_layColumns_109 D W X K s v1 v2 := by
  intro hB bv1 bv2 h
  have G := G hB bv1 bv2
  refine f_X3_layColumns_109 _ _ _ _ ?_
  refine mgI hW rfl ?_
  refine ⟨fun w41 => ?_, fun w41 => ?_⟩
  · have G := G.1 ((mz_le rfl rfl (hB.1 0) bv2).mp w41)
    have b29 := G.1
    have G := G.2
    exact PLu_X3_layColumns_29 G hB (mz_add rfl zl_1) b29 h
  · have G := G.2 (fun u => w41 ((mz_le rfl rfl (hB.1 0) bv2).mpr u))
    refine mgR hW rfl ?_
    have c40 := G.1
    have G := G.2
    refine maI hW rfl rfl rfl rfl c40 ?_
    refine ⟨fun w39 => ?_, fun w39 => ?_⟩
    · have G := G.1 (fun u => w39 ((mz_eq rfl zl_4 (hB.2 1 v2) (bdl rfl)).mpr u))
      exact PLu_X3_layColumns_189 G hB rfl bv1 rfl bv2 h
    · have G := G.2 ((mz_eq rfl zl_4 (hB.2 1 v2) (bdl rfl)).mp w39)
      refine mgR hW rfl ?_
      have c38 := G.1
      have G := G.2
      refine maI hW rfl rfl rfl rfl c38 ?_
      refine ⟨fun w37 => ?_, fun w37 => ?_⟩
      · have G := G.1 (fun u => w37 ((mz_eq rfl rfl (hB.2 15 v2) bv1).mpr u))
        exact PLu_X3_layColumns_189 G hB rfl bv1 rfl bv2 h
      · have G := G.2 ((mz_eq rfl rfl (hB.2 15 v2) bv1).mp w37)
        refine mgI hW rfl ?_
        refine mgI hW rfl ?_
        refine ⟨fun w36 => ?_, fun w36 => ?_⟩
        · have G := G.1 (fun u => w36 ((mz_eq rfl rfl (hB.1 26) (hB.1 27)).mpr u))
          exact PLu_X3_layColumns_169 G hB rfl bv1 rfl bv2 h
        · have G := G.2 ((mz_eq rfl rfl (hB.1 26) (hB.1 27)).mp w36)
          refine mgR hW rfl ?_
          have c35 := G.1
          have G := G.2
          refine maI hW rfl rfl rfl rfl c35 ?_
          refine mgI hW rfl ?_
          refine ⟨fun w34 => ?_, fun w34 => ?_⟩
          · have G := G.1 ((mz_lt rfl rfl (hB.1 28) (hB.2 2 v2)).mp w34)
            exact PLu_X3_layColumns_169 G hB rfl bv1 rfl bv2 h
          · have G := G.2 (fun u => w34 ((mz_lt rfl rfl (hB.1 28) (hB.2 2 v2)).mpr u))
            refine ⟨mrc hW, mcV G (mv1 rfl) (fun s31 hB33 G => ?_)⟩
            exact PLu_X3_layColumns_189 G hB33 rfl bv1 rfl bv2 h
theorem p_X3_layColumns_189 {D : qD} {W : mW} {X : String → qH → Prop} {K : mS → Prop} (hW : mOK D W) {s : mS} {v1 : Int} {v2 : Int} (G : MB s → bd v1 → bd v2 → (bd (v2 + 1) ∧ PL_X3_layColumns_109 D W X K s v1 (v2 + 1))) : PL_X3_layColumns_189 D W X K s v1 v2 := by
  intro hB bv1 bv2 h
  have G := G hB bv1 bv2
  refine f_X3_layColumns_189 _ _ _ _ ?_
  have b42 := G.1
  have G := G.2
  exact PLu_X3_layColumns_109 G hB rfl bv1 (mz_add rfl zl_1) b42 h
theorem p_X3_layColumns_169 {D : qD} {W : mW} {X : String → qH → Prop} {K : mS → Prop} (hW : mOK D W) {s : mS} {v1 : Int} {v2 : Int} (G : MB s → bd v1 → bd v2 → ((0 ≤ (s.1 27) ∧ (s.1 27) < 120) ∧ (bd ((s.1 27) + 1) ∧ PL_X3_layColumns_189 D W X K (mF (mA s 25 (s.1 27) v2) 27 ((s.1 27) + 1)) v1 v2))) : PL_X3_layColumns_169 D W X K s v1 v2 := by
  intro hB bv1 bv2 h
  have G := G hB bv1 bv2
  refine f_X3_layColumns_169 _ _ _ _ ?_
  refine mgR hW rfl ?_
  refine mgI hW rfl ?_
  have c44 := G.1
  have G := G.2
  refine msI hW rfl rfl rfl rfl rfl c44 ?_
  refine mgI hW rfl ?_
  have b43 := G.1
  have G := G.2
  refine mpF hW rfl (mz_add rfl zl_1) ?_
  exact PLu_X3_layColumns_189 G (MB.F (MB.A hB bv2) b43) rfl bv1 rfl bv2 h
def PL_X3_layFront_12 (D : qD) (W : mW) (X : String → qH → Prop) (K : mS → Prop) (s : mS) (v1 : Int) : Prop := MB s → bd v1 → ∀ h, L_X3_layFront_12 D (pQV W h K) X (W.1 100) (zI v1) (mh W s h)
theorem PLu_X3_layFront_12 {D : qD} {W : mW} {X : String → qH → Prop} {K : mS → Prop} {s : mS} {v1 : Int} {xv1 : Int32} (G : PL_X3_layFront_12 D W X K s v1) (hB : MB s) (ev1 : xv1 = zI v1) (bv1 : bd v1) (h : qH) : L_X3_layFront_12 D (pQV W h K) X (W.1 100) xv1 (mh W s h) := by
  subst ev1
  exact G hB bv1 h
def PL_X3_layFront_48 (D : qD) (W : mW) (X : String → qH → Prop) (K : mS → Prop) (s : mS) (v1 v2 y0 : Int) : Prop := MB s → bd v1 → bd v2 → bd y0 → ∀ h, L_X3_layFront_48 D (pQV W h K) X (W.1 100) (zI v1) (zI v2) (zI y0) (W.1 100) (mh W s h)
theorem PLu_X3_layFront_48 {D : qD} {W : mW} {X : String → qH → Prop} {K : mS → Prop} {s : mS} {v1 : Int} {xv1 : Int32} {v2 : Int} {xv2 : Int32} {y0 : Int} {xy0 : Int32} (G : PL_X3_layFront_48 D W X K s v1 v2 y0) (hB : MB s) (ev1 : xv1 = zI v1) (bv1 : bd v1) (ev2 : xv2 = zI v2) (bv2 : bd v2) (ey0 : xy0 = zI y0) (by0 : bd y0) (h : qH) : L_X3_layFront_48 D (pQV W h K) X (W.1 100) xv1 xv2 xy0 (W.1 100) (mh W s h) := by
  subst ev1
  subst ev2
  subst ey0
  exact G hB bv1 bv2 by0 h
theorem p_X3_layFront {D : qD} {W : mW} {X : String → qH → Prop} {K : mS → Prop} (hW : mOK D W) {s : mS} (hB : MB s) (G : PL_X3_layFront_12 D W X K (mF (mF s 23 0) 24 0) 0) : pV D W X m_X3_layFront [] s K := by
  intro h
  refine f_X3_layFront _ _ ?_
  refine mpF hW rfl zl_0 ?_
  refine mpF hW rfl zl_0 ?_
  exact PLu_X3_layFront_12 G (MB.F (MB.F hB (bdl rfl)) (bdl rfl)) zl_0 (bdl rfl) h
theorem p_X3_layFront_12 {D : qD} {W : mW} {X : String → qH → Prop} {K : mS → Prop} (hW : mOK D W) {s : mS} {v1 : Int} (G : MB s → bd v1 → ((10 ≤ v1 → K s) ∧ (¬ 10 ≤ v1 → ((¬ (s.1 24) = 0 → K s) ∧ ((s.1 24) = 0 → pI D W X m_X3_frontBy [(s.1 23)] s (fun z1 s2 => ((¬ z1 = (s2.1 23) → PL_X3_layFront_48 D W X K s2 v1 z1 0) ∧ (z1 = (s2.1 23) → PL_X3_layFront_48 D W X K s2 v1 z1 1)))))))) : PL_X3_layFront_12 D W X K s v1 := by
  intro hB bv1 h
  have G := G hB bv1
  refine f_X3_layFront_12 _ _ _ ?_
  refine ⟨fun w7 => ?_, fun w7 => ?_⟩
  · have G := G.1 ((mz_le zl_10 rfl (bdl rfl) bv1).mp w7)
    exact mretV hB G
  · have G := G.2 (fun u => w7 ((mz_le zl_10 rfl (bdl rfl) bv1).mpr u))
    refine mgI hW rfl ?_
    refine ⟨fun w6 => ?_, fun w6 => ?_⟩
    · have G := G.1 (fun u => w6 ((mz_eq rfl zl_0 (hB.1 24) (bdl rfl)).mpr u))
      exact mretV hB G
    · have G := G.2 ((mz_eq rfl zl_0 (hB.1 24) (bdl rfl)).mp w6)
      refine mgI hW rfl ?_
      refine ⟨mrc hW, mcI G (mv1 rfl) (fun z1 s2 b3 hB4 G => ?_)⟩
      refine mgI hW rfl ?_
      refine ⟨fun w5 => ?_, fun w5 => ?_⟩
      · have G := G.1 (fun u => w5 ((mz_eq rfl rfl b3 (hB4.1 23)).mpr u))
        exact PLu_X3_layFront_48 G hB4 rfl bv1 rfl b3 zl_0 (bdl rfl) h
      · have G := G.2 ((mz_eq rfl rfl b3 (hB4.1 23)).mp w5)
        exact PLu_X3_layFront_48 G hB4 rfl bv1 rfl b3 zl_1 (bdl rfl) h
theorem p_X3_layFront_48 {D : qD} {W : mW} {X : String → qH → Prop} {K : mS → Prop} (hW : mOK D W) {s : mS} {v1 : Int} {v2 : Int} {y0 : Int} (G : MB s → bd v1 → bd v2 → bd y0 → ((y0 = 0 ∨ y0 = 1) ∧ (bd (v1 + 1) ∧ PL_X3_layFront_12 D W X K (mF (mF s 24 y0) 23 v2) (v1 + 1)))) : PL_X3_layFront_48 D W X K s v1 v2 y0 := by
  intro hB bv1 bv2 by0 h
  have G := G hB bv1 bv2 by0
  refine f_X3_layFront_48 _ _ _ _ _ _ ?_
  have c8 := G.1
  have G := G.2
  refine ⟨mz_01 rfl c8, mpF hW rfl rfl ?_⟩
  refine mpF hW rfl rfl ?_
  have b9 := G.1
  have G := G.2
  exact PLu_X3_layFront_12 G (MB.F (MB.F hB (bd01 c8)) bv2) (mz_add rfl zl_1) b9 h
def PL_X3_sheet_24 (D : qD) (W : mW) (X : String → qH → Prop) (K : Int → mS → Prop) (s : mS) : Prop := MB s → ∀ h, L_X3_sheet_24 D (pQI W h K) X (W.1 100) (mh W s h)
theorem PLu_X3_sheet_24 {D : qD} {W : mW} {X : String → qH → Prop} {K : Int → mS → Prop} {s : mS} (G : PL_X3_sheet_24 D W X K s) (hB : MB s) (h : qH) : L_X3_sheet_24 D (pQI W h K) X (W.1 100) (mh W s h) := by
  exact G hB h
def PL_X3_sheet_117 (D : qD) (W : mW) (X : String → qH → Prop) (K : Int → mS → Prop) (s : mS) : Prop := MB s → ∀ h, L_X3_sheet_117 D (pQI W h K) X  (mh W s h)
theorem PLu_X3_sheet_117 {D : qD} {W : mW} {X : String → qH → Prop} {K : Int → mS → Prop} {s : mS} (G : PL_X3_sheet_117 D W X K s) (hB : MB s) (h : qH) : L_X3_sheet_117 D (pQI W h K) X  (mh W s h) := by
  exact G hB h
theorem p_X3_sheet {D : qD} {W : mW} {X : String → qH → Prop} {K : Int → mS → Prop} (hW : mOK D W) {s : mS} (hB : MB s) {p0 : Int} (bp0 : bd p0) {p1 : Int} (bp1 : bd p1) (G : (((mIn p0 1 999) = 0 → PL_X3_sheet_24 D W X K s) ∧ (¬ (mIn p0 1 999) = 0 → ((¬ (mIn p1 0 3) = 0 → (bd (p0 - 1) ∧ ((0 ≤ (p0 - 1) ∧ (0 : Int) < (s.1 12)) ∧ pI D W X m_X3_within [p0] (mF s 37 0) (fun z3 s4 => ((p1 = 0 → pI D W X m_X3_sheetOf [p0] s4 (fun z7 s8 => K z7 s8)) ∧ (p1 = 1 → pI D W X m_X3_sideOf [p0] s4 (fun z11 s12 => K z11 s12)) ∧ (p1 = 2 → (bd (((p0 - 1) % (s.1 12)) + 1) ∧ (bd ((2 * z3) + 1) ∧ (((((p0 - 1) % (s.1 12)) + 1) = ((2 * z3) + 1) → PL_X3_sheet_117 D W X K s4) ∧ (¬ (((p0 - 1) % (s.1 12)) + 1) = ((2 * z3) + 1) → (bd (((p0 - 1) % (s.1 12)) + 1) ∧ (bd (((s4.1 12) - (2 * z3)) - 1) ∧ ((¬ (((p0 - 1) % (s.1 12)) + 1) = (((s4.1 12) - (2 * z3)) - 1) → K 0 s4) ∧ ((((p0 - 1) % (s.1 12)) + 1) = (((s4.1 12) - (2 * z3)) - 1) → PL_X3_sheet_117 D W X K s4))))))))) ∧ (¬ p1 = 0 → ¬ p1 = 1 → ¬ p1 = 2 → (bd (z3 * (s4.1 13)) ∧ K (z3 * (s4.1 13)) s4))))))) ∧ ((mIn p1 0 3) = 0 → PL_X3_sheet_24 D W X K s))))) : pI D W X m_X3_sheet [p0, p1] s K := by
  intro h
  refine f_X3_sheet _ _ _ _ ?_
  refine mcIn (a := p0) (b := 1) (c := 999) (mz_l rfl bp0) rfl rfl bp0 (bdl rfl) (bdl rfl) ?_
  refine ⟨fun w23 => ?_, fun w23 => ?_⟩
  · have G := G.1 ((mz_eq rfl zl_0 bdIn (bdl rfl)).mp w23)
    exact PLu_X3_sheet_24 G hB h
  · have G := G.2 (fun u => w23 ((mz_eq rfl zl_0 bdIn (bdl rfl)).mpr u))
    refine mcIn (a := p1) (b := 0) (c := 3) (mz_l rfl bp1) rfl rfl bp1 (bdl rfl) (bdl rfl) ?_
    refine ⟨fun w22 => ?_, fun w22 => ?_⟩
    · have G := G.1 (fun u => w22 ((mz_eq rfl zl_0 bdIn (bdl rfl)).mpr u))
      refine mpF hW rfl zl_0 ?_
      refine mgI hW rfl ?_
      have b1 := G.1
      have G := G.2
      have c2 := G.1
      have G := G.2
      refine ⟨fun w => absurd ((mz_eq rfl zl_0 (hB.1 12) (bdl rfl)).mp w) (by omega), ?_⟩
      refine ⟨mrc hW, mcI G (mv1 rfl) (fun z3 s4 b5 hB6 G => ?_)⟩
      refine ⟨fun w => ?_, fun w => ?_, fun w => ?_, fun w0 w1 w2 => ?_⟩
      · have G := G.1 ((mz_eq rfl zl_0 bp1 (bdl rfl)).mp w)
        refine ⟨mrc hW, mcI G (mv1 rfl) (fun z7 s8 b9 hB10 G => ?_)⟩
        exact mretI rfl b9 hB10 G
      · have G := G.2.1 ((mz_eq rfl zl_1 bp1 (bdl rfl)).mp w)
        refine ⟨mrc hW, mcI G (mv1 rfl) (fun z11 s12 b13 hB14 G => ?_)⟩
        exact mretI rfl b13 hB14 G
      · have G := G.2.2.1 ((mz_eq rfl zl_2 bp1 (bdl rfl)).mp w)
        have b15 := G.1
        have G := G.2
        have b16 := G.1
        have G := G.2
        refine ⟨fun w20 => ?_, fun w20 => ?_⟩
        · have G := G.1 ((mz_eq (mz_add (mz_rem (mz_sub rfl zl_1) rfl ⟨c2, b1, (hB.1 12)⟩) zl_1) (mz_add (mz_mul zl_2 rfl) zl_1) b15 b16).mp w20)
          exact PLu_X3_sheet_117 G hB6 h
        · have G := G.2 (fun u => w20 ((mz_eq (mz_add (mz_rem (mz_sub rfl zl_1) rfl ⟨c2, b1, (hB.1 12)⟩) zl_1) (mz_add (mz_mul zl_2 rfl) zl_1) b15 b16).mpr u))
          refine mgI hW rfl ?_
          have b17 := G.1
          have G := G.2
          have b18 := G.1
          have G := G.2
          refine ⟨fun w19 => ?_, fun w19 => ?_⟩
          · have G := G.1 (fun u => w19 ((mz_eq (mz_add (mz_rem (mz_sub rfl zl_1) rfl ⟨c2, b1, (hB.1 12)⟩) zl_1) (mz_sub (mz_sub rfl (mz_mul zl_2 rfl)) zl_1) b17 b18).mpr u))
            exact mretI zl_0 (bdl rfl) hB6 G
          · have G := G.2 ((mz_eq (mz_add (mz_rem (mz_sub rfl zl_1) rfl ⟨c2, b1, (hB.1 12)⟩) zl_1) (mz_sub (mz_sub rfl (mz_mul zl_2 rfl)) zl_1) b17 b18).mp w19)
            exact PLu_X3_sheet_117 G hB6 h
      · have G := G.2.2.2 (fun u => w0 ((mz_eq rfl zl_0 bp1 (bdl rfl)).mpr u)) (fun u => w1 ((mz_eq rfl zl_1 bp1 (bdl rfl)).mpr u)) (fun u => w2 ((mz_eq rfl zl_2 bp1 (bdl rfl)).mpr u))
        refine mgI hW rfl ?_
        have b21 := G.1
        have G := G.2
        exact mretI (mz_mul rfl rfl) b21 hB6 G
    · have G := G.2 ((mz_eq rfl zl_0 bdIn (bdl rfl)).mp w22)
      exact PLu_X3_sheet_24 G hB h
theorem p_X3_sheet_24 {D : qD} {W : mW} {X : String → qH → Prop} {K : Int → mS → Prop} (hW : mOK D W) {s : mS} (G : MB s → pI D W X m_X3_fails [1] s (fun z24 s25 => K z24 s25)) : PL_X3_sheet_24 D W X K s := by
  intro hB h
  have G := G hB
  refine f_X3_sheet_24 _ _ ?_
  refine ⟨mrc hW, mcI G (mv1 zl_1) (fun z24 s25 b26 hB27 G => ?_)⟩
  exact mretI rfl b26 hB27 G
theorem p_X3_sheet_117 {D : qD} {W : mW} {X : String → qH → Prop} {K : Int → mS → Prop} (hW : mOK D W) {s : mS} (G : MB s → K 1 s) : PL_X3_sheet_117 D W X K s := by
  intro hB h
  have G := G hB
  refine f_X3_sheet_117  _ ?_
  exact mretI zl_1 (bdl rfl) hB G
def PL_X3_isMarked_4 (D : qD) (W : mW) (X : String → qH → Prop) (K : Int → mS → Prop) (s : mS) (v1 v2 v3 : Int) : Prop := MB s → bd v1 → bd v2 → bd v3 → ∀ h, L_X3_isMarked_4 D (pQI W h K) X (W.1 100) (zI v1) (zI v2) (zI v3) (mh W s h)
theorem PLu_X3_isMarked_4 {D : qD} {W : mW} {X : String → qH → Prop} {K : Int → mS → Prop} {s : mS} {v1 : Int} {xv1 : Int32} {v2 : Int} {xv2 : Int32} {v3 : Int} {xv3 : Int32} (G : PL_X3_isMarked_4 D W X K s v1 v2 v3) (hB : MB s) (ev1 : xv1 = zI v1) (bv1 : bd v1) (ev2 : xv2 = zI v2) (bv2 : bd v2) (ev3 : xv3 = zI v3) (bv3 : bd v3) (h : qH) : L_X3_isMarked_4 D (pQI W h K) X (W.1 100) xv1 xv2 xv3 (mh W s h) := by
  subst ev1
  subst ev2
  subst ev3
  exact G hB bv1 bv2 bv3 h
theorem p_X3_isMarked {D : qD} {W : mW} {X : String → qH → Prop} {K : Int → mS → Prop} (hW : mOK D W) {s : mS} (hB : MB s) {p0 : Int} (bp0 : bd p0) (G : PL_X3_isMarked_4 D W X K s p0 0 0) : pI D W X m_X3_isMarked [p0] s K := by
  intro h
  refine f_X3_isMarked _ _ _ ?_
  exact PLu_X3_isMarked_4 G hB rfl bp0 zl_0 (bdl rfl) zl_0 (bdl rfl) h
theorem p_X3_isMarked_4 {D : qD} {W : mW} {X : String → qH → Prop} {K : Int → mS → Prop} (hW : mOK D W) {s : mS} {v1 : Int} {v2 : Int} {v3 : Int} (G : MB s → bd v1 → bd v2 → bd v3 → (((s.1 0) ≤ v3 → ((v2 = 0 ∨ v2 = 1) ∧ K v2 s)) ∧ (¬ (s.1 0) ≤ v3 → pI D W X m_X3_counts [v3, v1] s (fun z1 s2 => (((v2 = 0 ∨ v2 = 1) ∧ (z1 = 0 ∨ z1 = 1)) ∧ (bd (v3 + 1) ∧ PL_X3_isMarked_4 D W X K s2 v1 (if v2 = 0 then z1 else v2) (v3 + 1))))))) : PL_X3_isMarked_4 D W X K s v1 v2 v3 := by
  intro hB bv1 bv2 bv3 h
  have G := G hB bv1 bv2 bv3
  refine f_X3_isMarked_4 _ _ _ _ _ ?_
  refine mgI hW rfl ?_
  refine ⟨fun w7 => ?_, fun w7 => ?_⟩
  · have G := G.1 ((mz_le rfl rfl (hB.1 0) bv3).mp w7)
    exact ⟨mz_01 rfl G.1, mretI rfl (bd01 G.1) hB G.2⟩
  · have G := G.2 (fun u => w7 ((mz_le rfl rfl (hB.1 0) bv3).mpr u))
    refine ⟨mrc hW, mcI G (mv2 rfl rfl) (fun z1 s2 b3 hB4 G => ?_)⟩
    have c5 := G.1
    have G := G.2
    have b6 := G.1
    have G := G.2
    exact PLu_X3_isMarked_4 G hB4 rfl bv1 (mz_or rfl rfl c5) (bdor c5) (mz_add rfl zl_1) b6 h
def PL_X3_isKept_6 (D : qD) (W : mW) (X : String → qH → Prop) (K : Int → mS → Prop) (s : mS) (v1 v2 v4 v5 v6 : Int) : Prop := MB s → bd v1 → bd v2 → bd v4 → bd v5 → bd v6 → ∀ h, L_X3_isKept_6 D (pQI W h K) X (W.1 100) (zI v1) (zI v2) (zI v4) (zI v5) (zI v6) (mh W s h)
theorem PLu_X3_isKept_6 {D : qD} {W : mW} {X : String → qH → Prop} {K : Int → mS → Prop} {s : mS} {v1 : Int} {xv1 : Int32} {v2 : Int} {xv2 : Int32} {v4 : Int} {xv4 : Int32} {v5 : Int} {xv5 : Int32} {v6 : Int} {xv6 : Int32} (G : PL_X3_isKept_6 D W X K s v1 v2 v4 v5 v6) (hB : MB s) (ev1 : xv1 = zI v1) (bv1 : bd v1) (ev2 : xv2 = zI v2) (bv2 : bd v2) (ev4 : xv4 = zI v4) (bv4 : bd v4) (ev5 : xv5 = zI v5) (bv5 : bd v5) (ev6 : xv6 = zI v6) (bv6 : bd v6) (h : qH) : L_X3_isKept_6 D (pQI W h K) X (W.1 100) xv1 xv2 xv4 xv5 xv6 (mh W s h) := by
  subst ev1
  subst ev2
  subst ev4
  subst ev5
  subst ev6
  exact G hB bv1 bv2 bv4 bv5 bv6 h
def PL_X3_isKept_102 (D : qD) (W : mW) (X : String → qH → Prop) (K : Int → mS → Prop) (s : mS) (v1 v2 v4 v5 v6 : Int) : Prop := MB s → bd v1 → bd v2 → bd v4 → bd v5 → bd v6 → ∀ h, L_X3_isKept_102 D (pQI W h K) X (W.1 100) (zI v1) (zI v2) (zI v4) (zI v5) (zI v6) (mh W s h)
theorem PLu_X3_isKept_102 {D : qD} {W : mW} {X : String → qH → Prop} {K : Int → mS → Prop} {s : mS} {v1 : Int} {xv1 : Int32} {v2 : Int} {xv2 : Int32} {v4 : Int} {xv4 : Int32} {v5 : Int} {xv5 : Int32} {v6 : Int} {xv6 : Int32} (G : PL_X3_isKept_102 D W X K s v1 v2 v4 v5 v6) (hB : MB s) (ev1 : xv1 = zI v1) (bv1 : bd v1) (ev2 : xv2 = zI v2) (bv2 : bd v2) (ev4 : xv4 = zI v4) (bv4 : bd v4) (ev5 : xv5 = zI v5) (bv5 : bd v5) (ev6 : xv6 = zI v6) (bv6 : bd v6) (h : qH) : L_X3_isKept_102 D (pQI W h K) X (W.1 100) xv1 xv2 xv4 xv5 xv6 (mh W s h) := by
  subst ev1
  subst ev2
  subst ev4
  subst ev5
  subst ev6
  exact G hB bv1 bv2 bv4 bv5 bv6 h
theorem p_X3_isKept {D : qD} {W : mW} {X : String → qH → Prop} {K : Int → mS → Prop} (hW : mOK D W) {s : mS} (hB : MB s) {p0 : Int} (bp0 : bd p0) {p1 : Int} (bp1 : bd p1) {p2 : Int} (bp2 : bd p2) {p3 : Int} (bp3 : bd p3) (G : PL_X3_isKept_6 D W X K s p0 p1 p3 p2 0) : pI D W X m_X3_isKept [p0, p1, p2, p3] s K := by
  intro h
  refine f_X3_isKept _ _ _ _ _ _ ?_
  exact PLu_X3_isKept_6 G hB rfl bp0 rfl bp1 rfl bp3 rfl bp2 zl_0 (bdl rfl) h
theorem p_X3_isKept_6 {D : qD} {W : mW} {X : String → qH → Prop} {K : Int → mS → Prop} (hW : mOK D W) {s : mS} {v1 : Int} {v2 : Int} {v4 : Int} {v5 : Int} {v6 : Int} (G : MB s → bd v1 → bd v2 → bd v4 → bd v5 → bd v6 → (((s.1 0) ≤ v6 → ((¬ v5 = v4 → K 0 s) ∧ (v5 = v4 → K 1 s))) ∧ (¬ (s.1 0) ≤ v6 → ((0 ≤ v6 ∧ v6 < 120) ∧ ((¬ (s.2 15 v6) = v2 → PL_X3_isKept_102 D W X K s v1 v2 v4 v5 v6) ∧ ((s.2 15 v6) = v2 → pI D W X m_X3_hangs [v6] s (fun z2 s3 => ((¬ z2 = 0 → PL_X3_isKept_102 D W X K s3 v1 v2 v4 v5 v6) ∧ (z2 = 0 → ((v5 = v4 → K 0 s3) ∧ (¬ v5 = v4 → ((0 ≤ v5 ∧ v5 < 120) ∧ ((0 ≤ v6 ∧ v6 < 120) ∧ ((¬ (s3.2 33 v5) = (s3.2 1 v6) → K 0 s3) ∧ ((s3.2 33 v5) = (s3.2 1 v6) → ((0 ≤ v5 ∧ v5 < 120) ∧ pI D W X m_X3_wide [v1, v6] s3 (fun z6 s7 => ((¬ (s3.2 34 v5) = z6 → K 0 s7) ∧ ((s3.2 34 v5) = z6 → ((0 ≤ v5 ∧ v5 < 120) ∧ ((0 ≤ v6 ∧ v6 < 120) ∧ pI D W X m_X3_colourOf [(s7.2 3 v6)] s7 (fun z10 s11 => (((s7.2 35 v5) = z10 → (bd (v5 + 1) ∧ PL_X3_isKept_102 D W X K s11 v1 v2 v4 (v5 + 1) v6)) ∧ (¬ (s7.2 35 v5) = z10 → K 0 s11)))))))))))))))))))))))) : PL_X3_isKept_6 D W X K s v1 v2 v4 v5 v6 := by
  intro hB bv1 bv2 bv4 bv5 bv6 h
  have G := G hB bv1 bv2 bv4 bv5 bv6
  refine f_X3_isKept_6 _ _ _ _ _ _ _ ?_
  refine mgI hW rfl ?_
  refine ⟨fun w27 => ?_, fun w27 => ?_⟩
  · have G := G.1 ((mz_le rfl rfl (hB.1 0) bv6).mp w27)
    refine ⟨fun w1 => ?_, fun w1 => ?_⟩
    · have G := G.1 (fun u => w1 ((mz_eq rfl rfl bv5 bv4).mpr u))
      exact mretI zl_0 (bdl rfl) hB G
    · have G := G.2 ((mz_eq rfl rfl bv5 bv4).mp w1)
      exact mretI zl_1 (bdl rfl) hB G
  · have G := G.2 (fun u => w27 ((mz_le rfl rfl (hB.1 0) bv6).mpr u))
    refine mgR hW rfl ?_
    have c26 := G.1
    have G := G.2
    refine maI hW rfl rfl rfl rfl c26 ?_
    refine ⟨fun w25 => ?_, fun w25 => ?_⟩
    · have G := G.1 (fun u => w25 ((mz_eq rfl rfl (hB.2 15 v6) bv2).mpr u))
      exact PLu_X3_isKept_102 G hB rfl bv1 rfl bv2 rfl bv4 rfl bv5 rfl bv6 h
    · have G := G.2 ((mz_eq rfl rfl (hB.2 15 v6) bv2).mp w25)
      refine ⟨mrc hW, mcI G (mv1 rfl) (fun z2 s3 b4 hB5 G => ?_)⟩
      refine ⟨fun w24 => ?_, fun w24 => ?_⟩
      · have G := G.1 (fun u => w24 ((mz_eq rfl zl_0 b4 (bdl rfl)).mpr u))
        exact PLu_X3_isKept_102 G hB5 rfl bv1 rfl bv2 rfl bv4 rfl bv5 rfl bv6 h
      · have G := G.2 ((mz_eq rfl zl_0 b4 (bdl rfl)).mp w24)
        refine ⟨fun w23 => ?_, fun w23 => ?_⟩
        · have G := G.1 ((mz_eq rfl rfl bv5 bv4).mp w23)
          exact mretI zl_0 (bdl rfl) hB5 G
        · have G := G.2 (fun u => w23 ((mz_eq rfl rfl bv5 bv4).mpr u))
          refine mgR hW rfl ?_
          have c22 := G.1
          have G := G.2
          refine maI hW rfl rfl rfl rfl c22 ?_
          refine mgR hW rfl ?_
          have c21 := G.1
          have G := G.2
          refine maI hW rfl rfl rfl rfl c21 ?_
          refine ⟨fun w20 => ?_, fun w20 => ?_⟩
          · have G := G.1 (fun u => w20 ((mz_eq rfl rfl (hB5.2 33 v5) (hB5.2 1 v6)).mpr u))
            exact mretI zl_0 (bdl rfl) hB5 G
          · have G := G.2 ((mz_eq rfl rfl (hB5.2 33 v5) (hB5.2 1 v6)).mp w20)
            refine mgR hW rfl ?_
            have c19 := G.1
            have G := G.2
            refine maI hW rfl rfl rfl rfl c19 ?_
            refine ⟨mrc hW, mcI G (mv2 rfl rfl) (fun z6 s7 b8 hB9 G => ?_)⟩
            refine ⟨fun w18 => ?_, fun w18 => ?_⟩
            · have G := G.1 (fun u => w18 ((mz_eq rfl rfl (hB5.2 34 v5) b8).mpr u))
              exact mretI zl_0 (bdl rfl) hB9 G
            · have G := G.2 ((mz_eq rfl rfl (hB5.2 34 v5) b8).mp w18)
              refine mgR hW rfl ?_
              have c17 := G.1
              have G := G.2
              refine maI hW rfl rfl rfl rfl c17 ?_
              refine mgR hW rfl ?_
              have c16 := G.1
              have G := G.2
              refine maI hW rfl rfl rfl rfl c16 ?_
              refine ⟨mrc hW, mcI G (mv1 rfl) (fun z10 s11 b12 hB13 G => ?_)⟩
              refine ⟨fun w15 => ?_, fun w15 => ?_⟩
              · have G := G.1 ((mz_eq rfl rfl (hB9.2 35 v5) b12).mp w15)
                have b14 := G.1
                have G := G.2
                exact PLu_X3_isKept_102 G hB13 rfl bv1 rfl bv2 rfl bv4 (mz_add rfl zl_1) b14 rfl bv6 h
              · have G := G.2 (fun u => w15 ((mz_eq rfl rfl (hB9.2 35 v5) b12).mpr u))
                exact mretI zl_0 (bdl rfl) hB13 G
theorem p_X3_isKept_102 {D : qD} {W : mW} {X : String → qH → Prop} {K : Int → mS → Prop} (hW : mOK D W) {s : mS} {v1 : Int} {v2 : Int} {v4 : Int} {v5 : Int} {v6 : Int} (G : MB s → bd v1 → bd v2 → bd v4 → bd v5 → bd v6 → (bd (v6 + 1) ∧ PL_X3_isKept_6 D W X K s v1 v2 v4 v5 (v6 + 1))) : PL_X3_isKept_102 D W X K s v1 v2 v4 v5 v6 := by
  intro hB bv1 bv2 bv4 bv5 bv6 h
  have G := G hB bv1 bv2 bv4 bv5 bv6
  refine f_X3_isKept_102 _ _ _ _ _ _ _ ?_
  have b28 := G.1
  have G := G.2
  exact PLu_X3_isKept_6 G hB rfl bv1 rfl bv2 rfl bv4 rfl bv5 (mz_add rfl zl_1) b28 h
def PL_X3_areAlike_19 (D : qD) (W : mW) (X : String → qH → Prop) (K : Int → mS → Prop) (s : mS) (v1 v2 v3 v4 v5 v6 : Int) : Prop := MB s → bd v1 → bd v2 → bd v3 → bd v4 → bd v5 → bd v6 → ∀ h, L_X3_areAlike_19 D (pQI W h K) X (W.1 100) (zI v1) (zI v2) (zI v3) (zI v4) (zI v5) (zI v6) (mh W s h)
theorem PLu_X3_areAlike_19 {D : qD} {W : mW} {X : String → qH → Prop} {K : Int → mS → Prop} {s : mS} {v1 : Int} {xv1 : Int32} {v2 : Int} {xv2 : Int32} {v3 : Int} {xv3 : Int32} {v4 : Int} {xv4 : Int32} {v5 : Int} {xv5 : Int32} {v6 : Int} {xv6 : Int32} (G : PL_X3_areAlike_19 D W X K s v1 v2 v3 v4 v5 v6) (hB : MB s) (ev1 : xv1 = zI v1) (bv1 : bd v1) (ev2 : xv2 = zI v2) (bv2 : bd v2) (ev3 : xv3 = zI v3) (bv3 : bd v3) (ev4 : xv4 = zI v4) (bv4 : bd v4) (ev5 : xv5 = zI v5) (bv5 : bd v5) (ev6 : xv6 = zI v6) (bv6 : bd v6) (h : qH) : L_X3_areAlike_19 D (pQI W h K) X (W.1 100) xv1 xv2 xv3 xv4 xv5 xv6 (mh W s h) := by
  subst ev1
  subst ev2
  subst ev3
  subst ev4
  subst ev5
  subst ev6
  exact G hB bv1 bv2 bv3 bv4 bv5 bv6 h
def PL_X3_areAlike_133 (D : qD) (W : mW) (X : String → qH → Prop) (K : Int → mS → Prop) (s : mS) (v4 v5 v6 : Int) : Prop := MB s → bd v4 → bd v5 → bd v6 → ∀ h, L_X3_areAlike_133 D (pQI W h K) X (W.1 100) (zI v4) (zI v5) (zI v6) (mh W s h)
theorem PLu_X3_areAlike_133 {D : qD} {W : mW} {X : String → qH → Prop} {K : Int → mS → Prop} {s : mS} {v4 : Int} {xv4 : Int32} {v5 : Int} {xv5 : Int32} {v6 : Int} {xv6 : Int32} (G : PL_X3_areAlike_133 D W X K s v4 v5 v6) (hB : MB s) (ev4 : xv4 = zI v4) (bv4 : bd v4) (ev5 : xv5 = zI v5) (bv5 : bd v5) (ev6 : xv6 = zI v6) (bv6 : bd v6) (h : qH) : L_X3_areAlike_133 D (pQI W h K) X (W.1 100) xv4 xv5 xv6 (mh W s h) := by
  subst ev4
  subst ev5
  subst ev6
  exact G hB bv4 bv5 bv6 h
def PL_X3_areAlike_105 (D : qD) (W : mW) (X : String → qH → Prop) (K : Int → mS → Prop) (s : mS) (v1 v2 v3 v4 v5 : Int) : Prop := MB s → bd v1 → bd v2 → bd v3 → bd v4 → bd v5 → ∀ h, L_X3_areAlike_105 D (pQI W h K) X (W.1 100) (zI v1) (zI v2) (zI v3) (zI v4) (zI v5) (mh W s h)
theorem PLu_X3_areAlike_105 {D : qD} {W : mW} {X : String → qH → Prop} {K : Int → mS → Prop} {s : mS} {v1 : Int} {xv1 : Int32} {v2 : Int} {xv2 : Int32} {v3 : Int} {xv3 : Int32} {v4 : Int} {xv4 : Int32} {v5 : Int} {xv5 : Int32} (G : PL_X3_areAlike_105 D W X K s v1 v2 v3 v4 v5) (hB : MB s) (ev1 : xv1 = zI v1) (bv1 : bd v1) (ev2 : xv2 = zI v2) (bv2 : bd v2) (ev3 : xv3 = zI v3) (bv3 : bd v3) (ev4 : xv4 = zI v4) (bv4 : bd v4) (ev5 : xv5 = zI v5) (bv5 : bd v5) (h : qH) : L_X3_areAlike_105 D (pQI W h K) X (W.1 100) xv1 xv2 xv3 xv4 xv5 (mh W s h) := by
  subst ev1
  subst ev2
  subst ev3
  subst ev4
  subst ev5
  exact G hB bv1 bv2 bv3 bv4 bv5 h
def PL_X3_areAlike_106 (D : qD) (W : mW) (X : String → qH → Prop) (K : Int → mS → Prop) (s : mS) (v1 v2 v3 v4 v5 y0 : Int) : Prop := MB s → bd v1 → bd v2 → bd v3 → bd v4 → bd v5 → bd y0 → ∀ h, L_X3_areAlike_106 D (pQI W h K) X (W.1 100) (zI v1) (zI v2) (zI v3) (zI v4) (zI v5) (zI y0) (mh W s h)
theorem PLu_X3_areAlike_106 {D : qD} {W : mW} {X : String → qH → Prop} {K : Int → mS → Prop} {s : mS} {v1 : Int} {xv1 : Int32} {v2 : Int} {xv2 : Int32} {v3 : Int} {xv3 : Int32} {v4 : Int} {xv4 : Int32} {v5 : Int} {xv5 : Int32} {y0 : Int} {xy0 : Int32} (G : PL_X3_areAlike_106 D W X K s v1 v2 v3 v4 v5 y0) (hB : MB s) (ev1 : xv1 = zI v1) (bv1 : bd v1) (ev2 : xv2 = zI v2) (bv2 : bd v2) (ev3 : xv3 = zI v3) (bv3 : bd v3) (ev4 : xv4 = zI v4) (bv4 : bd v4) (ev5 : xv5 = zI v5) (bv5 : bd v5) (ey0 : xy0 = zI y0) (by0 : bd y0) (h : qH) : L_X3_areAlike_106 D (pQI W h K) X (W.1 100) xv1 xv2 xv3 xv4 xv5 xy0 (mh W s h) := by
  subst ev1
  subst ev2
  subst ev3
  subst ev4
  subst ev5
  subst ey0
  exact G hB bv1 bv2 bv3 bv4 bv5 by0 h
theorem p_X3_areAlike {D : qD} {W : mW} {X : String → qH → Prop} {K : Int → mS → Prop} (hW : mOK D W) {s : mS} (hB : MB s) {p0 : Int} (bp0 : bd p0) {p1 : Int} (bp1 : bd p1) {p2 : Int} (bp2 : bd p2) (G : pI D W X m_X3_nextOn [p1, 0] s (fun z1 s2 => pI D W X m_X3_nextOn [p2, 0] s2 (fun z5 s6 => PL_X3_areAlike_19 D W X K s6 p0 p1 p2 z1 z5 1))) : pI D W X m_X3_areAlike [p0, p1, p2] s K := by
  intro h
  refine f_X3_areAlike _ _ _ _ _ ?_
  refine ⟨mrc hW, mcI G (mv2 rfl zl_0) (fun z1 s2 b3 hB4 G => ?_)⟩
  refine ⟨mrc hW, mcI G (mv2 rfl zl_0) (fun z5 s6 b7 hB8 G => ?_)⟩
  exact PLu_X3_areAlike_19 G hB8 rfl bp0 rfl bp1 rfl bp2 rfl b3 rfl b7 zl_1 (bdl rfl) h
theorem p_X3_areAlike_19 {D : qD} {W : mW} {X : String → qH → Prop} {K : Int → mS → Prop} (hW : mOK D W) {s : mS} {v1 : Int} {v2 : Int} {v3 : Int} {v4 : Int} {v5 : Int} {v6 : Int} (G : MB s → bd v1 → bd v2 → bd v3 → bd v4 → bd v5 → bd v6 → ((v6 = 0 → PL_X3_areAlike_133 D W X K s v4 v5 v6) ∧ (¬ v6 = 0 → (((s.1 0) ≤ v4 → PL_X3_areAlike_133 D W X K s v4 v5 v6) ∧ (¬ (s.1 0) ≤ v4 → (((s.1 0) ≤ v5 → PL_X3_areAlike_133 D W X K s v4 v5 v6) ∧ (¬ (s.1 0) ≤ v5 → ((0 ≤ v4 ∧ v4 < 120) ∧ ((0 ≤ v5 ∧ v5 < 120) ∧ ((¬ (s.2 1 v4) = (s.2 1 v5) → PL_X3_areAlike_105 D W X K s v1 v2 v3 v4 v5) ∧ ((s.2 1 v4) = (s.2 1 v5) → pI D W X m_X3_wide [v1, v4] s (fun z9 s10 => pI D W X m_X3_wide [v1, v5] s10 (fun z13 s14 => ((¬ z9 = z13 → PL_X3_areAlike_105 D W X K s14 v1 v2 v3 v4 v5) ∧ (z9 = z13 → ((0 ≤ v4 ∧ v4 < 120) ∧ pI D W X m_X3_colourOf [(s14.2 3 v4)] s14 (fun z17 s18 => ((0 ≤ v5 ∧ v5 < 120) ∧ pI D W X m_X3_colourOf [(s18.2 3 v5)] s18 (fun z21 s22 => ((¬ z17 = z21 → PL_X3_areAlike_105 D W X K s22 v1 v2 v3 v4 v5) ∧ (z17 = z21 → PL_X3_areAlike_106 D W X K s22 v1 v2 v3 v4 v5 1))))))))))))))))))))) : PL_X3_areAlike_19 D W X K s v1 v2 v3 v4 v5 v6 := by
  intro hB bv1 bv2 bv3 bv4 bv5 bv6 h
  have G := G hB bv1 bv2 bv3 bv4 bv5 bv6
  refine f_X3_areAlike_19 _ _ _ _ _ _ _ _ ?_
  refine ⟨fun w34 => ?_, fun w34 => ?_⟩
  · have G := G.1 ((mz_eq rfl zl_0 bv6 (bdl rfl)).mp w34)
    exact PLu_X3_areAlike_133 G hB rfl bv4 rfl bv5 rfl bv6 h
  · have G := G.2 (fun u => w34 ((mz_eq rfl zl_0 bv6 (bdl rfl)).mpr u))
    refine mgI hW rfl ?_
    refine ⟨fun w33 => ?_, fun w33 => ?_⟩
    · have G := G.1 ((mz_le rfl rfl (hB.1 0) bv4).mp w33)
      exact PLu_X3_areAlike_133 G hB rfl bv4 rfl bv5 rfl bv6 h
    · have G := G.2 (fun u => w33 ((mz_le rfl rfl (hB.1 0) bv4).mpr u))
      refine mgI hW rfl ?_
      refine ⟨fun w32 => ?_, fun w32 => ?_⟩
      · have G := G.1 ((mz_le rfl rfl (hB.1 0) bv5).mp w32)
        exact PLu_X3_areAlike_133 G hB rfl bv4 rfl bv5 rfl bv6 h
      · have G := G.2 (fun u => w32 ((mz_le rfl rfl (hB.1 0) bv5).mpr u))
        refine mgR hW rfl ?_
        have c31 := G.1
        have G := G.2
        refine maI hW rfl rfl rfl rfl c31 ?_
        refine mgR hW rfl ?_
        have c30 := G.1
        have G := G.2
        refine maI hW rfl rfl rfl rfl c30 ?_
        refine ⟨fun w29 => ?_, fun w29 => ?_⟩
        · have G := G.1 (fun u => w29 ((mz_eq rfl rfl (hB.2 1 v4) (hB.2 1 v5)).mpr u))
          exact PLu_X3_areAlike_105 G hB rfl bv1 rfl bv2 rfl bv3 rfl bv4 rfl bv5 h
        · have G := G.2 ((mz_eq rfl rfl (hB.2 1 v4) (hB.2 1 v5)).mp w29)
          refine ⟨mrc hW, mcI G (mv2 rfl rfl) (fun z9 s10 b11 hB12 G => ?_)⟩
          refine ⟨mrc hW, mcI G (mv2 rfl rfl) (fun z13 s14 b15 hB16 G => ?_)⟩
          refine ⟨fun w28 => ?_, fun w28 => ?_⟩
          · have G := G.1 (fun u => w28 ((mz_eq rfl rfl b11 b15).mpr u))
            exact PLu_X3_areAlike_105 G hB16 rfl bv1 rfl bv2 rfl bv3 rfl bv4 rfl bv5 h
          · have G := G.2 ((mz_eq rfl rfl b11 b15).mp w28)
            refine mgR hW rfl ?_
            have c27 := G.1
            have G := G.2
            refine maI hW rfl rfl rfl rfl c27 ?_
            refine ⟨mrc hW, mcI G (mv1 rfl) (fun z17 s18 b19 hB20 G => ?_)⟩
            refine mgR hW rfl ?_
            have c26 := G.1
            have G := G.2
            refine maI hW rfl rfl rfl rfl c26 ?_
            refine ⟨mrc hW, mcI G (mv1 rfl) (fun z21 s22 b23 hB24 G => ?_)⟩
            refine ⟨fun w25 => ?_, fun w25 => ?_⟩
            · have G := G.1 (fun u => w25 ((mz_eq rfl rfl b19 b23).mpr u))
              exact PLu_X3_areAlike_105 G hB24 rfl bv1 rfl bv2 rfl bv3 rfl bv4 rfl bv5 h
            · have G := G.2 ((mz_eq rfl rfl b19 b23).mp w25)
              exact PLu_X3_areAlike_106 G hB24 rfl bv1 rfl bv2 rfl bv3 rfl bv4 rfl bv5 zl_1 (bdl rfl) h
theorem p_X3_areAlike_133 {D : qD} {W : mW} {X : String → qH → Prop} {K : Int → mS → Prop} (hW : mOK D W) {s : mS} {v4 : Int} {v5 : Int} {v6 : Int} (G : MB s → bd v4 → bd v5 → bd v6 → ((v6 = 0 → K 0 s) ∧ (¬ v6 = 0 → ((v4 < (s.1 0) → K 0 s) ∧ (¬ v4 < (s.1 0) → ((v5 < (s.1 0) → K 0 s) ∧ (¬ v5 < (s.1 0) → K 1 s))))))) : PL_X3_areAlike_133 D W X K s v4 v5 v6 := by
  intro hB bv4 bv5 bv6 h
  have G := G hB bv4 bv5 bv6
  refine f_X3_areAlike_133 _ _ _ _ _ ?_
  refine ⟨fun w37 => ?_, fun w37 => ?_⟩
  · have G := G.1 ((mz_eq rfl zl_0 bv6 (bdl rfl)).mp w37)
    exact mretI zl_0 (bdl rfl) hB G
  · have G := G.2 (fun u => w37 ((mz_eq rfl zl_0 bv6 (bdl rfl)).mpr u))
    refine mgI hW rfl ?_
    refine ⟨fun w36 => ?_, fun w36 => ?_⟩
    · have G := G.1 ((mz_lt rfl rfl bv4 (hB.1 0)).mp w36)
      exact mretI zl_0 (bdl rfl) hB G
    · have G := G.2 (fun u => w36 ((mz_lt rfl rfl bv4 (hB.1 0)).mpr u))
      refine mgI hW rfl ?_
      refine ⟨fun w35 => ?_, fun w35 => ?_⟩
      · have G := G.1 ((mz_lt rfl rfl bv5 (hB.1 0)).mp w35)
        exact mretI zl_0 (bdl rfl) hB G
      · have G := G.2 (fun u => w35 ((mz_lt rfl rfl bv5 (hB.1 0)).mpr u))
        exact mretI zl_1 (bdl rfl) hB G
theorem p_X3_areAlike_105 {D : qD} {W : mW} {X : String → qH → Prop} {K : Int → mS → Prop} (hW : mOK D W) {s : mS} {v1 : Int} {v2 : Int} {v3 : Int} {v4 : Int} {v5 : Int} (G : MB s → bd v1 → bd v2 → bd v3 → bd v4 → bd v5 → PL_X3_areAlike_106 D W X K s v1 v2 v3 v4 v5 0) : PL_X3_areAlike_105 D W X K s v1 v2 v3 v4 v5 := by
  intro hB bv1 bv2 bv3 bv4 bv5 h
  have G := G hB bv1 bv2 bv3 bv4 bv5
  refine f_X3_areAlike_105 _ _ _ _ _ _ _ ?_
  exact PLu_X3_areAlike_106 G hB rfl bv1 rfl bv2 rfl bv3 rfl bv4 rfl bv5 zl_0 (bdl rfl) h
theorem p_X3_areAlike_106 {D : qD} {W : mW} {X : String → qH → Prop} {K : Int → mS → Prop} (hW : mOK D W) {s : mS} {v1 : Int} {v2 : Int} {v3 : Int} {v4 : Int} {v5 : Int} {y0 : Int} (G : MB s → bd v1 → bd v2 → bd v3 → bd v4 → bd v5 → bd y0 → pI D W X m_X3_nextOn [v2, (v4 + 1)] s (fun z38 s39 => pI D W X m_X3_nextOn [v3, (v5 + 1)] s39 (fun z42 s43 => PL_X3_areAlike_19 D W X K s43 v1 v2 v3 z38 z42 y0))) : PL_X3_areAlike_106 D W X K s v1 v2 v3 v4 v5 y0 := by
  intro hB bv1 bv2 bv3 bv4 bv5 by0 h
  have G := G hB bv1 bv2 bv3 bv4 bv5 by0
  refine f_X3_areAlike_106 _ _ _ _ _ _ _ _ ?_
  refine ⟨mrc hW, mcI G (mv2 rfl (mz_add rfl zl_1)) (fun z38 s39 b40 hB41 G => ?_)⟩
  refine ⟨mrc hW, mcI G (mv2 rfl (mz_add rfl zl_1)) (fun z42 s43 b44 hB45 G => ?_)⟩
  exact PLu_X3_areAlike_19 G hB45 rfl bv1 rfl bv2 rfl bv3 rfl b40 rfl b44 rfl by0 h
def PL_X3_keep_40 (D : qD) (W : mW) (X : String → qH → Prop) (K : Int → mS → Prop) (s : mS) (v1 v2 v3 : Int) : Prop := MB s → bd v1 → bd v2 → bd v3 → ∀ h, L_X3_keep_40 D (pQI W h K) X (W.1 100) (zI v1) (zI v2) (zI v3) (mh W s h)
theorem PLu_X3_keep_40 {D : qD} {W : mW} {X : String → qH → Prop} {K : Int → mS → Prop} {s : mS} {v1 : Int} {xv1 : Int32} {v2 : Int} {xv2 : Int32} {v3 : Int} {xv3 : Int32} (G : PL_X3_keep_40 D W X K s v1 v2 v3) (hB : MB s) (ev1 : xv1 = zI v1) (bv1 : bd v1) (ev2 : xv2 = zI v2) (bv2 : bd v2) (ev3 : xv3 = zI v3) (bv3 : bd v3) (h : qH) : L_X3_keep_40 D (pQI W h K) X (W.1 100) xv1 xv2 xv3 (mh W s h) := by
  subst ev1
  subst ev2
  subst ev3
  exact G hB bv1 bv2 bv3 h
def PL_X3_keep_58 (D : qD) (W : mW) (X : String → qH → Prop) (K : Int → mS → Prop) (s : mS) (v1 v2 v3 v4 : Int) : Prop := MB s → bd v1 → bd v2 → bd v3 → bd v4 → ∀ h, L_X3_keep_58 D (pQI W h K) X (W.1 100) (zI v1) (zI v2) (zI v3) (zI v4) (mh W s h)
theorem PLu_X3_keep_58 {D : qD} {W : mW} {X : String → qH → Prop} {K : Int → mS → Prop} {s : mS} {v1 : Int} {xv1 : Int32} {v2 : Int} {xv2 : Int32} {v3 : Int} {xv3 : Int32} {v4 : Int} {xv4 : Int32} (G : PL_X3_keep_58 D W X K s v1 v2 v3 v4) (hB : MB s) (ev1 : xv1 = zI v1) (bv1 : bd v1) (ev2 : xv2 = zI v2) (bv2 : bd v2) (ev3 : xv3 = zI v3) (bv3 : bd v3) (ev4 : xv4 = zI v4) (bv4 : bd v4) (h : qH) : L_X3_keep_58 D (pQI W h K) X (W.1 100) xv1 xv2 xv3 xv4 (mh W s h) := by
  subst ev1
  subst ev2
  subst ev3
  subst ev4
  exact G hB bv1 bv2 bv3 bv4 h
def PL_X3_keep_133 (D : qD) (W : mW) (X : String → qH → Prop) (K : Int → mS → Prop) (s : mS) (v1 v2 v3 v4 : Int) : Prop := MB s → bd v1 → bd v2 → bd v3 → bd v4 → ∀ h, L_X3_keep_133 D (pQI W h K) X (W.1 100) (zI v1) (zI v2) (zI v3) (zI v4) (mh W s h)
theorem PLu_X3_keep_133 {D : qD} {W : mW} {X : String → qH → Prop} {K : Int → mS → Prop} {s : mS} {v1 : Int} {xv1 : Int32} {v2 : Int} {xv2 : Int32} {v3 : Int} {xv3 : Int32} {v4 : Int} {xv4 : Int32} (G : PL_X3_keep_133 D W X K s v1 v2 v3 v4) (hB : MB s) (ev1 : xv1 = zI v1) (bv1 : bd v1) (ev2 : xv2 = zI v2) (bv2 : bd v2) (ev3 : xv3 = zI v3) (bv3 : bd v3) (ev4 : xv4 = zI v4) (bv4 : bd v4) (h : qH) : L_X3_keep_133 D (pQI W h K) X (W.1 100) xv1 xv2 xv3 xv4 (mh W s h) := by
  subst ev1
  subst ev2
  subst ev3
  subst ev4
  exact G hB bv1 bv2 bv3 bv4 h
theorem p_X3_keep {D : qD} {W : mW} {X : String → qH → Prop} {K : Int → mS → Prop} (hW : mOK D W) {s : mS} (hB : MB s) {p0 : Int} (bp0 : bd p0) (G : ((¬ (mIn p0 0 3) = 0 → pV D W X m_X3_layLines [p0] (mF s 37 0) (fun s2 => PL_X3_keep_40 D W X K (mF s2 31 (s2.1 14)) p0 0 0)) ∧ ((mIn p0 0 3) = 0 → pI D W X m_X3_fails [1] s (fun z5 s6 => K z5 s6)))) : pI D W X m_X3_keep [p0] s K := by
  intro h
  refine f_X3_keep _ _ _ ?_
  refine mcIn (a := p0) (b := 0) (c := 3) (mz_l rfl bp0) rfl rfl bp0 (bdl rfl) (bdl rfl) ?_
  refine ⟨fun w9 => ?_, fun w9 => ?_⟩
  · have G := G.1 (fun u => w9 ((mz_eq rfl zl_0 bdIn (bdl rfl)).mpr u))
    refine mpF hW rfl zl_0 ?_
    refine ⟨mrc hW, mcV G (mv1 rfl) (fun s2 hB4 G => ?_)⟩
    refine mgI hW rfl ?_
    refine mpF hW rfl rfl ?_
    exact PLu_X3_keep_40 G (MB.F hB4 (hB4.1 14)) rfl bp0 zl_0 (bdl rfl) zl_0 (bdl rfl) h
  · have G := G.2 ((mz_eq rfl zl_0 bdIn (bdl rfl)).mp w9)
    refine ⟨mrc hW, mcI G (mv1 zl_1) (fun z5 s6 b7 hB8 G => ?_)⟩
    exact mretI rfl b7 hB8 G
theorem p_X3_keep_40 {D : qD} {W : mW} {X : String → qH → Prop} {K : Int → mS → Prop} (hW : mOK D W) {s : mS} {v1 : Int} {v2 : Int} {v3 : Int} (G : MB s → bd v1 → bd v2 → bd v3 → (((s.1 14) ≤ v3 → ((0 ≤ (s.1 14) ∧ (s.1 14) < 121) ∧ K (s.1 14) (mA s 32 (s.1 14) v2))) ∧ (¬ (s.1 14) ≤ v3 → ((0 ≤ v3 ∧ v3 < 121) ∧ PL_X3_keep_58 D W X K (mA s 32 v3 v2) v1 v2 v3 0)))) : PL_X3_keep_40 D W X K s v1 v2 v3 := by
  intro hB bv1 bv2 bv3 h
  have G := G hB bv1 bv2 bv3
  refine f_X3_keep_40 _ _ _ _ _ ?_
  refine mgI hW rfl ?_
  refine ⟨fun w12 => ?_, fun w12 => ?_⟩
  · have G := G.1 ((mz_le rfl rfl (hB.1 14) bv3).mp w12)
    refine mgR hW rfl ?_
    refine mgI hW rfl ?_
    have c10 := G.1
    have G := G.2
    refine msI hW rfl rfl rfl rfl rfl c10 ?_
    refine mgI hW rfl ?_
    exact mretI rfl (hB.1 14) (MB.A hB bv2) G
  · have G := G.2 (fun u => w12 ((mz_le rfl rfl (hB.1 14) bv3).mpr u))
    refine mgR hW rfl ?_
    have c11 := G.1
    have G := G.2
    refine msI hW rfl rfl rfl rfl rfl c11 ?_
    exact PLu_X3_keep_58 G (MB.A hB bv2) rfl bv1 rfl bv2 rfl bv3 zl_0 (bdl rfl) h
theorem p_X3_keep_58 {D : qD} {W : mW} {X : String → qH → Prop} {K : Int → mS → Prop} (hW : mOK D W) {s : mS} {v1 : Int} {v2 : Int} {v3 : Int} {v4 : Int} (G : MB s → bd v1 → bd v2 → bd v3 → bd v4 → (((s.1 0) ≤ v4 → (bd (v3 + 1) ∧ PL_X3_keep_40 D W X K s v1 v2 (v3 + 1))) ∧ (¬ (s.1 0) ≤ v4 → ((0 ≤ v4 ∧ v4 < 120) ∧ ((¬ (s.2 15 v4) = v3 → PL_X3_keep_133 D W X K s v1 v2 v3 v4) ∧ ((s.2 15 v4) = v3 → pI D W X m_X3_hangs [v4] s (fun z14 s15 => ((¬ z14 = 0 → PL_X3_keep_133 D W X K s15 v1 v2 v3 v4) ∧ (z14 = 0 → ((0 ≤ v4 ∧ v4 < 120) ∧ ((0 ≤ v2 ∧ v2 < 120) ∧ pI D W X m_X3_wide [v1, v4] (mA s15 33 v2 (s15.2 1 v4)) (fun z18 s19 => ((0 ≤ v2 ∧ v2 < 120) ∧ ((0 ≤ v4 ∧ v4 < 120) ∧ pI D W X m_X3_colourOf [(s19.2 3 v4)] (mA s19 34 v2 z18) (fun z22 s23 => ((0 ≤ v2 ∧ v2 < 120) ∧ (bd (v2 + 1) ∧ PL_X3_keep_133 D W X K (mA s23 35 v2 z22) v1 (v2 + 1) v3 v4))))))))))))))))) : PL_X3_keep_58 D W X K s v1 v2 v3 v4 := by
  intro hB bv1 bv2 bv3 bv4 h
  have G := G hB bv1 bv2 bv3 bv4
  refine f_X3_keep_58 _ _ _ _ _ _ ?_
  refine mgI hW rfl ?_
  refine ⟨fun w35 => ?_, fun w35 => ?_⟩
  · have G := G.1 ((mz_le rfl rfl (hB.1 0) bv4).mp w35)
    have b13 := G.1
    have G := G.2
    exact PLu_X3_keep_40 G hB rfl bv1 rfl bv2 (mz_add rfl zl_1) b13 h
  · have G := G.2 (fun u => w35 ((mz_le rfl rfl (hB.1 0) bv4).mpr u))
    refine mgR hW rfl ?_
    have c34 := G.1
    have G := G.2
    refine maI hW rfl rfl rfl rfl c34 ?_
    refine ⟨fun w33 => ?_, fun w33 => ?_⟩
    · have G := G.1 (fun u => w33 ((mz_eq rfl rfl (hB.2 15 v4) bv3).mpr u))
      exact PLu_X3_keep_133 G hB rfl bv1 rfl bv2 rfl bv3 rfl bv4 h
    · have G := G.2 ((mz_eq rfl rfl (hB.2 15 v4) bv3).mp w33)
      refine ⟨mrc hW, mcI G (mv1 rfl) (fun z14 s15 b16 hB17 G => ?_)⟩
      refine ⟨fun w32 => ?_, fun w32 => ?_⟩
      · have G := G.1 (fun u => w32 ((mz_eq rfl zl_0 b16 (bdl rfl)).mpr u))
        exact PLu_X3_keep_133 G hB17 rfl bv1 rfl bv2 rfl bv3 rfl bv4 h
      · have G := G.2 ((mz_eq rfl zl_0 b16 (bdl rfl)).mp w32)
        refine mgR hW rfl ?_
        refine mgR hW rfl ?_
        have c31 := G.1
        have G := G.2
        refine maI hW rfl rfl rfl rfl c31 ?_
        have c30 := G.1
        have G := G.2
        refine msI hW rfl rfl rfl rfl rfl c30 ?_
        refine mgR hW rfl ?_
        refine ⟨mrc hW, mcI G (mv2 rfl rfl) (fun z18 s19 b20 hB21 G => ?_)⟩
        have c29 := G.1
        have G := G.2
        refine msI hW rfl rfl rfl rfl rfl c29 ?_
        refine mgR hW rfl ?_
        refine mgR hW rfl ?_
        have c28 := G.1
        have G := G.2
        refine maI hW rfl rfl rfl rfl c28 ?_
        refine ⟨mrc hW, mcI G (mv1 rfl) (fun z22 s23 b24 hB25 G => ?_)⟩
        have c27 := G.1
        have G := G.2
        refine msI hW rfl rfl rfl rfl rfl c27 ?_
        have b26 := G.1
        have G := G.2
        exact PLu_X3_keep_133 G (MB.A hB25 b24) rfl bv1 (mz_add rfl zl_1) b26 rfl bv3 rfl bv4 h
theorem p_X3_keep_133 {D : qD} {W : mW} {X : String → qH → Prop} {K : Int → mS → Prop} (hW : mOK D W) {s : mS} {v1 : Int} {v2 : Int} {v3 : Int} {v4 : Int} (G : MB s → bd v1 → bd v2 → bd v3 → bd v4 → (bd (v4 + 1) ∧ PL_X3_keep_58 D W X K s v1 v2 v3 (v4 + 1))) : PL_X3_keep_133 D W X K s v1 v2 v3 v4 := by
  intro hB bv1 bv2 bv3 bv4 h
  have G := G hB bv1 bv2 bv3 bv4
  refine f_X3_keep_133 _ _ _ _ _ _ ?_
  have b36 := G.1
  have G := G.2
  exact PLu_X3_keep_58 G hB rfl bv1 rfl bv2 rfl bv3 (mz_add rfl zl_1) b36 h
theorem p_X3_lines {D : qD} {W : mW} {X : String → qH → Prop} {K : Int → mS → Prop} (hW : mOK D W) {s : mS} (hB : MB s) {p0 : Int} (bp0 : bd p0) (G : ((¬ (mIn p0 0 3) = 0 → pV D W X m_X3_layLines [p0] (mF s 37 0) (fun s2 => K (s2.1 14) s2)) ∧ ((mIn p0 0 3) = 0 → pI D W X m_X3_fails [1] s (fun z5 s6 => K z5 s6)))) : pI D W X m_X3_lines [p0] s K := by
  intro h
  refine f_X3_lines _ _ _ ?_
  refine mcIn (a := p0) (b := 0) (c := 3) (mz_l rfl bp0) rfl rfl bp0 (bdl rfl) (bdl rfl) ?_
  refine ⟨fun w9 => ?_, fun w9 => ?_⟩
  · have G := G.1 (fun u => w9 ((mz_eq rfl zl_0 bdIn (bdl rfl)).mpr u))
    refine mpF hW rfl zl_0 ?_
    refine ⟨mrc hW, mcV G (mv1 rfl) (fun s2 hB4 G => ?_)⟩
    refine mgI hW rfl ?_
    exact mretI rfl (hB4.1 14) hB4 G
  · have G := G.2 ((mz_eq rfl zl_0 bdIn (bdl rfl)).mp w9)
    refine ⟨mrc hW, mcI G (mv1 zl_1) (fun z5 s6 b7 hB8 G => ?_)⟩
    exact mretI rfl b7 hB8 G
def PL_X3_lineOf_28 (D : qD) (W : mW) (X : String → qH → Prop) (K : Int → mS → Prop) (s : mS) : Prop := MB s → ∀ h, L_X3_lineOf_28 D (pQI W h K) X (W.1 100) (mh W s h)
theorem PLu_X3_lineOf_28 {D : qD} {W : mW} {X : String → qH → Prop} {K : Int → mS → Prop} {s : mS} (G : PL_X3_lineOf_28 D W X K s) (hB : MB s) (h : qH) : L_X3_lineOf_28 D (pQI W h K) X (W.1 100) (mh W s h) := by
  exact G hB h
theorem p_X3_lineOf {D : qD} {W : mW} {X : String → qH → Prop} {K : Int → mS → Prop} (hW : mOK D W) {s : mS} (hB : MB s) {p0 : Int} (bp0 : bd p0) {p1 : Int} (bp1 : bd p1) (G : (((mIn p0 0 3) = 0 → PL_X3_lineOf_28 D W X K s) ∧ (¬ (mIn p0 0 3) = 0 → (bd ((s.1 0) - 1) ∧ ((¬ (mIn p1 0 ((s.1 0) - 1)) = 0 → pV D W X m_X3_layLines [p0] (mF s 37 0) (fun s3 => ((0 ≤ p1 ∧ p1 < 120) ∧ K (s3.2 15 p1) s3))) ∧ ((mIn p1 0 ((s.1 0) - 1)) = 0 → PL_X3_lineOf_28 D W X K s)))))) : pI D W X m_X3_lineOf [p0, p1] s K := by
  intro h
  refine f_X3_lineOf _ _ _ _ ?_
  refine mcIn (a := p0) (b := 0) (c := 3) (mz_l rfl bp0) rfl rfl bp0 (bdl rfl) (bdl rfl) ?_
  refine ⟨fun w8 => ?_, fun w8 => ?_⟩
  · have G := G.1 ((mz_eq rfl zl_0 bdIn (bdl rfl)).mp w8)
    exact PLu_X3_lineOf_28 G hB h
  · have G := G.2 (fun u => w8 ((mz_eq rfl zl_0 bdIn (bdl rfl)).mpr u))
    refine mgI hW rfl ?_
    have b1 := G.1
    have G := G.2
    refine mcIn (a := p1) (b := 0) (c := ((s.1 0) - 1)) (mz_l rfl bp1) rfl (mz_l (mz_sub rfl zl_1) b1) bp1 (bdl rfl) b1 ?_
    refine ⟨fun w7 => ?_, fun w7 => ?_⟩
    · have G := G.1 (fun u => w7 ((mz_eq rfl zl_0 bdIn (bdl rfl)).mpr u))
      refine mpF hW rfl zl_0 ?_
      refine ⟨mrc hW, mcV G (mv1 rfl) (fun s3 hB5 G => ?_)⟩
      refine mgR hW rfl ?_
      have c6 := G.1
      have G := G.2
      refine maI hW rfl rfl rfl rfl c6 ?_
      exact mretI rfl (hB5.2 15 p1) hB5 G
    · have G := G.2 ((mz_eq rfl zl_0 bdIn (bdl rfl)).mp w7)
      exact PLu_X3_lineOf_28 G hB h
theorem p_X3_lineOf_28 {D : qD} {W : mW} {X : String → qH → Prop} {K : Int → mS → Prop} (hW : mOK D W) {s : mS} (G : MB s → pI D W X m_X3_fails [1] s (fun z9 s10 => K z9 s10)) : PL_X3_lineOf_28 D W X K s := by
  intro hB h
  have G := G hB
  refine f_X3_lineOf_28 _ _ ?_
  refine ⟨mrc hW, mcI G (mv1 zl_1) (fun z9 s10 b11 hB12 G => ?_)⟩
  exact mretI rfl b11 hB12 G
theorem p_X3_lay {D : qD} {W : mW} {X : String → qH → Prop} {K : mS → Prop} (hW : mOK D W) {s : mS} (hB : MB s) {p0 : Int} (bp0 : bd p0) (G : pV D W X m_X3_layLines [p0] s (fun s2 => pV D W X m_X3_layColumns [] s2 (fun s6 => pV D W X m_X3_layFront [] s6 (fun s10 => K s10)))) : pV D W X m_X3_lay [p0] s K := by
  intro h
  refine f_X3_lay _ _ _ ?_
  refine ⟨mrc hW, mcV G (mv1 rfl) (fun s2 hB4 G => ?_)⟩
  refine ⟨mrc hW, mcV G rfl (fun s6 hB8 G => ?_)⟩
  refine ⟨mrc hW, mcV G rfl (fun s10 hB12 G => ?_)⟩
  exact mretV hB12 G
def PL_X3_isNew_57 (D : qD) (W : mW) (X : String → qH → Prop) (K : Int → mS → Prop) (s : mS) (v1 v2 v3 v4 : Int) : Prop := MB s → bd v1 → bd v2 → bd v3 → bd v4 → ∀ h, L_X3_isNew_57 D (pQI W h K) X (W.1 100) (zI v1) (zI v2) (zI v3) (zI v4) (mh W s h)
theorem PLu_X3_isNew_57 {D : qD} {W : mW} {X : String → qH → Prop} {K : Int → mS → Prop} {s : mS} {v1 : Int} {xv1 : Int32} {v2 : Int} {xv2 : Int32} {v3 : Int} {xv3 : Int32} {v4 : Int} {xv4 : Int32} (G : PL_X3_isNew_57 D W X K s v1 v2 v3 v4) (hB : MB s) (ev1 : xv1 = zI v1) (bv1 : bd v1) (ev2 : xv2 = zI v2) (bv2 : bd v2) (ev3 : xv3 = zI v3) (bv3 : bd v3) (ev4 : xv4 = zI v4) (bv4 : bd v4) (h : qH) : L_X3_isNew_57 D (pQI W h K) X (W.1 100) xv1 xv2 xv3 xv4 (mh W s h) := by
  subst ev1
  subst ev2
  subst ev3
  subst ev4
  exact G hB bv1 bv2 bv3 bv4 h
def PL_X3_isNew_111 (D : qD) (W : mW) (X : String → qH → Prop) (K : Int → mS → Prop) (s : mS) (v1 v2 v3 v4 v5 : Int) : Prop := MB s → bd v1 → bd v2 → bd v3 → bd v4 → bd v5 → ∀ h, L_X3_isNew_111 D (pQI W h K) X (W.1 100) (zI v1) (zI v2) (zI v3) (zI v4) (zI v5) (mh W s h)
theorem PLu_X3_isNew_111 {D : qD} {W : mW} {X : String → qH → Prop} {K : Int → mS → Prop} {s : mS} {v1 : Int} {xv1 : Int32} {v2 : Int} {xv2 : Int32} {v3 : Int} {xv3 : Int32} {v4 : Int} {xv4 : Int32} {v5 : Int} {xv5 : Int32} (G : PL_X3_isNew_111 D W X K s v1 v2 v3 v4 v5) (hB : MB s) (ev1 : xv1 = zI v1) (bv1 : bd v1) (ev2 : xv2 = zI v2) (bv2 : bd v2) (ev3 : xv3 = zI v3) (bv3 : bd v3) (ev4 : xv4 = zI v4) (bv4 : bd v4) (ev5 : xv5 = zI v5) (bv5 : bd v5) (h : qH) : L_X3_isNew_111 D (pQI W h K) X (W.1 100) xv1 xv2 xv3 xv4 xv5 (mh W s h) := by
  subst ev1
  subst ev2
  subst ev3
  subst ev4
  subst ev5
  exact G hB bv1 bv2 bv3 bv4 bv5 h
def PL_X3_isNew_97 (D : qD) (W : mW) (X : String → qH → Prop) (K : Int → mS → Prop) (s : mS) (v1 v2 v4 y0 y1 : Int) : Prop := MB s → bd v1 → bd v2 → bd v4 → bd y0 → bd y1 → ∀ h, L_X3_isNew_97 D (pQI W h K) X (W.1 100) (zI v1) (zI v2) (zI v4) (zI y0) (zI y1) (mh W s h)
theorem PLu_X3_isNew_97 {D : qD} {W : mW} {X : String → qH → Prop} {K : Int → mS → Prop} {s : mS} {v1 : Int} {xv1 : Int32} {v2 : Int} {xv2 : Int32} {v4 : Int} {xv4 : Int32} {y0 : Int} {xy0 : Int32} {y1 : Int} {xy1 : Int32} (G : PL_X3_isNew_97 D W X K s v1 v2 v4 y0 y1) (hB : MB s) (ev1 : xv1 = zI v1) (bv1 : bd v1) (ev2 : xv2 = zI v2) (bv2 : bd v2) (ev4 : xv4 = zI v4) (bv4 : bd v4) (ey0 : xy0 = zI y0) (by0 : bd y0) (ey1 : xy1 = zI y1) (by1 : bd y1) (h : qH) : L_X3_isNew_97 D (pQI W h K) X (W.1 100) xv1 xv2 xv4 xy0 xy1 (mh W s h) := by
  subst ev1
  subst ev2
  subst ev4
  subst ey0
  subst ey1
  exact G hB bv1 bv2 bv4 by0 by1 h
def PL_X3_isNew_135 (D : qD) (W : mW) (X : String → qH → Prop) (K : Int → mS → Prop) (s : mS) (v1 v2 v3 v5 y0 y1 : Int) : Prop := MB s → bd v1 → bd v2 → bd v3 → bd v5 → bd y0 → bd y1 → ∀ h, L_X3_isNew_135 D (pQI W h K) X (W.1 100) (zI v1) (zI v2) (zI v3) (zI v5) (zI y0) (zI y1) (mh W s h)
theorem PLu_X3_isNew_135 {D : qD} {W : mW} {X : String → qH → Prop} {K : Int → mS → Prop} {s : mS} {v1 : Int} {xv1 : Int32} {v2 : Int} {xv2 : Int32} {v3 : Int} {xv3 : Int32} {v5 : Int} {xv5 : Int32} {y0 : Int} {xy0 : Int32} {y1 : Int} {xy1 : Int32} (G : PL_X3_isNew_135 D W X K s v1 v2 v3 v5 y0 y1) (hB : MB s) (ev1 : xv1 = zI v1) (bv1 : bd v1) (ev2 : xv2 = zI v2) (bv2 : bd v2) (ev3 : xv3 = zI v3) (bv3 : bd v3) (ev5 : xv5 = zI v5) (bv5 : bd v5) (ey0 : xy0 = zI y0) (by0 : bd y0) (ey1 : xy1 = zI y1) (by1 : bd y1) (h : qH) : L_X3_isNew_135 D (pQI W h K) X (W.1 100) xv1 xv2 xv3 xv5 xy0 xy1 (mh W s h) := by
  subst ev1
  subst ev2
  subst ev3
  subst ev5
  subst ey0
  subst ey1
  exact G hB bv1 bv2 bv3 bv5 by0 by1 h
theorem p_X3_isNew {D : qD} {W : mW} {X : String → qH → Prop} {K : Int → mS → Prop} (hW : mOK D W) {s : mS} (hB : MB s) {p0 : Int} (bp0 : bd p0) {p1 : Int} (bp1 : bd p1) (G : ((¬ (mIn p0 0 3) = 0 → pV D W X m_X3_layLines [p0] s (fun s2 => (bd ((s2.1 14) - 1) ∧ ((¬ (mIn p1 0 ((s2.1 14) - 1)) = 0 → PL_X3_isNew_57 D W X K (mF s2 37 0) p0 p1 0 0) ∧ ((mIn p1 0 ((s2.1 14) - 1)) = 0 → K 0 (mF s2 37 1)))))) ∧ ((mIn p0 0 3) = 0 → K 0 (mF s 37 1)))) : pI D W X m_X3_isNew [p0, p1] s K := by
  intro h
  refine f_X3_isNew _ _ _ _ ?_
  refine mcIn (a := p0) (b := 0) (c := 3) (mz_l rfl bp0) rfl rfl bp0 (bdl rfl) (bdl rfl) ?_
  refine ⟨fun w7 => ?_, fun w7 => ?_⟩
  · have G := G.1 (fun u => w7 ((mz_eq rfl zl_0 bdIn (bdl rfl)).mpr u))
    refine ⟨mrc hW, mcV G (mv1 rfl) (fun s2 hB4 G => ?_)⟩
    refine mgI hW rfl ?_
    have b5 := G.1
    have G := G.2
    refine mcIn (a := p1) (b := 0) (c := ((s2.1 14) - 1)) (mz_l rfl bp1) rfl (mz_l (mz_sub rfl zl_1) b5) bp1 (bdl rfl) b5 ?_
    refine ⟨fun w6 => ?_, fun w6 => ?_⟩
    · have G := G.1 (fun u => w6 ((mz_eq rfl zl_0 bdIn (bdl rfl)).mpr u))
      refine mpF hW rfl zl_0 ?_
      exact PLu_X3_isNew_57 G (MB.F hB4 (bdl rfl)) rfl bp0 rfl bp1 zl_0 (bdl rfl) zl_0 (bdl rfl) h
    · have G := G.2 ((mz_eq rfl zl_0 bdIn (bdl rfl)).mp w6)
      refine mpF hW rfl zl_1 ?_
      exact mretI zl_0 (bdl rfl) (MB.F hB4 (bdl rfl)) G
  · have G := G.2 ((mz_eq rfl zl_0 bdIn (bdl rfl)).mp w7)
    refine mpF hW rfl zl_1 ?_
    exact mretI zl_0 (bdl rfl) (MB.F hB (bdl rfl)) G
theorem p_X3_isNew_57 {D : qD} {W : mW} {X : String → qH → Prop} {K : Int → mS → Prop} (hW : mOK D W) {s : mS} {v1 : Int} {v2 : Int} {v3 : Int} {v4 : Int} (G : MB s → bd v1 → bd v2 → bd v3 → bd v4 → (((s.1 31) ≤ v4 → PL_X3_isNew_111 D W X K s v1 v2 v3 0 0) ∧ (¬ (s.1 31) ≤ v4 → ((0 ≤ v4 ∧ v4 < 121) ∧ ((0 ≤ (v4 + 1) ∧ (v4 + 1) < 121) ∧ pI D W X m_X3_isKept [v1, v2, (s.2 32 v4), (s.2 32 (v4 + 1))] s (fun z8 s9 => ((z8 = 0 → PL_X3_isNew_97 D W X K s9 v1 v2 v4 0 v3) ∧ (¬ z8 = 0 → PL_X3_isNew_97 D W X K s9 v1 v2 v4 1 v3)))))))) : PL_X3_isNew_57 D W X K s v1 v2 v3 v4 := by
  intro hB bv1 bv2 bv3 bv4 h
  have G := G hB bv1 bv2 bv3 bv4
  refine f_X3_isNew_57 _ _ _ _ _ _ ?_
  refine mgI hW rfl ?_
  refine ⟨fun w15 => ?_, fun w15 => ?_⟩
  · have G := G.1 ((mz_le rfl rfl (hB.1 31) bv4).mp w15)
    exact PLu_X3_isNew_111 G hB rfl bv1 rfl bv2 rfl bv3 zl_0 (bdl rfl) zl_0 (bdl rfl) h
  · have G := G.2 (fun u => w15 ((mz_le rfl rfl (hB.1 31) bv4).mpr u))
    refine mgR hW rfl ?_
    have c14 := G.1
    have G := G.2
    refine maI hW rfl rfl rfl rfl c14 ?_
    refine mgR hW rfl ?_
    have c13 := G.1
    have G := G.2
    refine maI hW rfl rfl (mz_add rfl zl_1) rfl c13 ?_
    refine ⟨mrc hW, mcI G (mv4 rfl rfl rfl rfl) (fun z8 s9 b10 hB11 G => ?_)⟩
    refine ⟨fun w12 => ?_, fun w12 => ?_⟩
    · have G := G.1 ((mz_eq rfl zl_0 b10 (bdl rfl)).mp w12)
      exact PLu_X3_isNew_97 G hB11 rfl bv1 rfl bv2 rfl bv4 zl_0 (bdl rfl) rfl bv3 h
    · have G := G.2 (fun u => w12 ((mz_eq rfl zl_0 b10 (bdl rfl)).mpr u))
      exact PLu_X3_isNew_97 G hB11 rfl bv1 rfl bv2 rfl bv4 zl_1 (bdl rfl) rfl bv3 h
theorem p_X3_isNew_111 {D : qD} {W : mW} {X : String → qH → Prop} {K : Int → mS → Prop} (hW : mOK D W) {s : mS} {v1 : Int} {v2 : Int} {v3 : Int} {v4 : Int} {v5 : Int} (G : MB s → bd v1 → bd v2 → bd v3 → bd v4 → bd v5 → ((v2 < v5 → ((v4 ≤ v3 → K 0 s) ∧ (¬ v4 ≤ v3 → K 1 s))) ∧ (¬ v2 < v5 → pI D W X m_X3_areAlike [v1, v2, v5] s (fun z17 s18 => ((z17 = 0 → PL_X3_isNew_135 D W X K s18 v1 v2 v3 v5 0 v4) ∧ (¬ z17 = 0 → PL_X3_isNew_135 D W X K s18 v1 v2 v3 v5 1 v4)))))) : PL_X3_isNew_111 D W X K s v1 v2 v3 v4 v5 := by
  intro hB bv1 bv2 bv3 bv4 bv5 h
  have G := G hB bv1 bv2 bv3 bv4 bv5
  refine f_X3_isNew_111 _ _ _ _ _ _ _ ?_
  refine ⟨fun w22 => ?_, fun w22 => ?_⟩
  · have G := G.1 ((mz_lt rfl rfl bv2 bv5).mp w22)
    refine ⟨fun w16 => ?_, fun w16 => ?_⟩
    · have G := G.1 ((mz_le rfl rfl bv4 bv3).mp w16)
      exact mretI zl_0 (bdl rfl) hB G
    · have G := G.2 (fun u => w16 ((mz_le rfl rfl bv4 bv3).mpr u))
      exact mretI zl_1 (bdl rfl) hB G
  · have G := G.2 (fun u => w22 ((mz_lt rfl rfl bv2 bv5).mpr u))
    refine ⟨mrc hW, mcI G (mv3 rfl rfl rfl) (fun z17 s18 b19 hB20 G => ?_)⟩
    refine ⟨fun w21 => ?_, fun w21 => ?_⟩
    · have G := G.1 ((mz_eq rfl zl_0 b19 (bdl rfl)).mp w21)
      exact PLu_X3_isNew_135 G hB20 rfl bv1 rfl bv2 rfl bv3 rfl bv5 zl_0 (bdl rfl) rfl bv4 h
    · have G := G.2 (fun u => w21 ((mz_eq rfl zl_0 b19 (bdl rfl)).mpr u))
      exact PLu_X3_isNew_135 G hB20 rfl bv1 rfl bv2 rfl bv3 rfl bv5 zl_1 (bdl rfl) rfl bv4 h
theorem p_X3_isNew_97 {D : qD} {W : mW} {X : String → qH → Prop} {K : Int → mS → Prop} (hW : mOK D W) {s : mS} {v1 : Int} {v2 : Int} {v4 : Int} {y0 : Int} {y1 : Int} (G : MB s → bd v1 → bd v2 → bd v4 → bd y0 → bd y1 → (bd (y1 + y0) ∧ (bd (v4 + 1) ∧ PL_X3_isNew_57 D W X K s v1 v2 (y1 + y0) (v4 + 1)))) : PL_X3_isNew_97 D W X K s v1 v2 v4 y0 y1 := by
  intro hB bv1 bv2 bv4 by0 by1 h
  have G := G hB bv1 bv2 bv4 by0 by1
  refine f_X3_isNew_97 _ _ _ _ _ _ _ ?_
  have b23 := G.1
  have G := G.2
  have b24 := G.1
  have G := G.2
  exact PLu_X3_isNew_57 G hB rfl bv1 rfl bv2 (mz_add rfl rfl) b23 (mz_add rfl zl_1) b24 h
theorem p_X3_isNew_135 {D : qD} {W : mW} {X : String → qH → Prop} {K : Int → mS → Prop} (hW : mOK D W) {s : mS} {v1 : Int} {v2 : Int} {v3 : Int} {v5 : Int} {y0 : Int} {y1 : Int} (G : MB s → bd v1 → bd v2 → bd v3 → bd v5 → bd y0 → bd y1 → (bd (y1 + y0) ∧ (bd (v5 + 1) ∧ PL_X3_isNew_111 D W X K s v1 v2 v3 (y1 + y0) (v5 + 1)))) : PL_X3_isNew_135 D W X K s v1 v2 v3 v5 y0 y1 := by
  intro hB bv1 bv2 bv3 bv5 by0 by1 h
  have G := G hB bv1 bv2 bv3 bv5 by0 by1
  refine f_X3_isNew_135 _ _ _ _ _ _ _ _ ?_
  have b25 := G.1
  have G := G.2
  have b26 := G.1
  have G := G.2
  exact PLu_X3_isNew_111 G hB rfl bv1 rfl bv2 rfl bv3 (mz_add rfl rfl) b25 (mz_add rfl zl_1) b26 h
def PL_X3_columnOf_72 (D : qD) (W : mW) (X : String → qH → Prop) (K : Int → mS → Prop) (s : mS) : Prop := MB s → ∀ h, L_X3_columnOf_72 D (pQI W h K) X (W.1 100) (mh W s h)
theorem PLu_X3_columnOf_72 {D : qD} {W : mW} {X : String → qH → Prop} {K : Int → mS → Prop} {s : mS} (G : PL_X3_columnOf_72 D W X K s) (hB : MB s) (h : qH) : L_X3_columnOf_72 D (pQI W h K) X (W.1 100) (mh W s h) := by
  exact G hB h
def PL_X3_columnOf_78 (D : qD) (W : mW) (X : String → qH → Prop) (K : Int → mS → Prop) (s : mS) (v2 v3 : Int) : Prop := MB s → bd v2 → bd v3 → ∀ h, L_X3_columnOf_78 D (pQI W h K) X (W.1 100) (zI v2) (zI v3) (mh W s h)
theorem PLu_X3_columnOf_78 {D : qD} {W : mW} {X : String → qH → Prop} {K : Int → mS → Prop} {s : mS} {v2 : Int} {xv2 : Int32} {v3 : Int} {xv3 : Int32} (G : PL_X3_columnOf_78 D W X K s v2 v3) (hB : MB s) (ev2 : xv2 = zI v2) (bv2 : bd v2) (ev3 : xv3 = zI v3) (bv3 : bd v3) (h : qH) : L_X3_columnOf_78 D (pQI W h K) X (W.1 100) xv2 xv3 (mh W s h) := by
  subst ev2
  subst ev3
  exact G hB bv2 bv3 h
theorem p_X3_columnOf {D : qD} {W : mW} {X : String → qH → Prop} {K : Int → mS → Prop} (hW : mOK D W) {s : mS} (hB : MB s) {p0 : Int} (bp0 : bd p0) {p1 : Int} (bp1 : bd p1) {p2 : Int} (bp2 : bd p2) (G : ((¬ (mIn p0 0 3) = 0 → pV D W X m_X3_lay [p0] s (fun s2 => ((p1 = 0 → (bd ((s2.1 0) - 1) ∧ (((mIn p2 0 ((s2.1 0) - 1)) = 0 → PL_X3_columnOf_72 D W X K s2) ∧ (¬ (mIn p2 0 ((s2.1 0) - 1)) = 0 → ((0 ≤ p2 ∧ p2 < 120) ∧ (((s2.2 1 p2) = 4 → PL_X3_columnOf_78 D W X K s2 p1 p2) ∧ (¬ (s2.2 1 p2) = 4 → PL_X3_columnOf_72 D W X K s2))))))) ∧ (¬ p1 = 0 → (bd ((s2.1 14) - 1) ∧ ((¬ (mIn p2 0 ((s2.1 14) - 1)) = 0 → PL_X3_columnOf_78 D W X K s2 p1 p2) ∧ ((mIn p2 0 ((s2.1 14) - 1)) = 0 → PL_X3_columnOf_72 D W X K s2))))))) ∧ ((mIn p0 0 3) = 0 → pI D W X m_X3_fails [1] s (fun z12 s13 => K z12 s13)))) : pI D W X m_X3_columnOf [p0, p1, p2] s K := by
  intro h
  refine f_X3_columnOf _ _ _ _ _ ?_
  refine mcIn (a := p0) (b := 0) (c := 3) (mz_l rfl bp0) rfl rfl bp0 (bdl rfl) (bdl rfl) ?_
  refine ⟨fun w16 => ?_, fun w16 => ?_⟩
  · have G := G.1 (fun u => w16 ((mz_eq rfl zl_0 bdIn (bdl rfl)).mpr u))
    refine ⟨mrc hW, mcV G (mv1 rfl) (fun s2 hB4 G => ?_)⟩
    refine ⟨fun w11 => ?_, fun w11 => ?_⟩
    · have G := G.1 ((mz_eq rfl zl_0 bp1 (bdl rfl)).mp w11)
      refine mgI hW rfl ?_
      have b5 := G.1
      have G := G.2
      refine mcIn (a := p2) (b := 0) (c := ((s2.1 0) - 1)) (mz_l rfl bp2) rfl (mz_l (mz_sub rfl zl_1) b5) bp2 (bdl rfl) b5 ?_
      refine ⟨fun w8 => ?_, fun w8 => ?_⟩
      · have G := G.1 ((mz_eq rfl zl_0 bdIn (bdl rfl)).mp w8)
        exact PLu_X3_columnOf_72 G hB4 h
      · have G := G.2 (fun u => w8 ((mz_eq rfl zl_0 bdIn (bdl rfl)).mpr u))
        refine mgR hW rfl ?_
        have c7 := G.1
        have G := G.2
        refine maI hW rfl rfl rfl rfl c7 ?_
        refine ⟨fun w6 => ?_, fun w6 => ?_⟩
        · have G := G.1 ((mz_eq rfl zl_4 (hB4.2 1 p2) (bdl rfl)).mp w6)
          exact PLu_X3_columnOf_78 G hB4 rfl bp1 rfl bp2 h
        · have G := G.2 (fun u => w6 ((mz_eq rfl zl_4 (hB4.2 1 p2) (bdl rfl)).mpr u))
          exact PLu_X3_columnOf_72 G hB4 h
    · have G := G.2 (fun u => w11 ((mz_eq rfl zl_0 bp1 (bdl rfl)).mpr u))
      refine mgI hW rfl ?_
      have b9 := G.1
      have G := G.2
      refine mcIn (a := p2) (b := 0) (c := ((s2.1 14) - 1)) (mz_l rfl bp2) rfl (mz_l (mz_sub rfl zl_1) b9) bp2 (bdl rfl) b9 ?_
      refine ⟨fun w10 => ?_, fun w10 => ?_⟩
      · have G := G.1 (fun u => w10 ((mz_eq rfl zl_0 bdIn (bdl rfl)).mpr u))
        exact PLu_X3_columnOf_78 G hB4 rfl bp1 rfl bp2 h
      · have G := G.2 ((mz_eq rfl zl_0 bdIn (bdl rfl)).mp w10)
        exact PLu_X3_columnOf_72 G hB4 h
  · have G := G.2 ((mz_eq rfl zl_0 bdIn (bdl rfl)).mp w16)
    refine ⟨mrc hW, mcI G (mv1 zl_1) (fun z12 s13 b14 hB15 G => ?_)⟩
    exact mretI rfl b14 hB15 G
theorem p_X3_columnOf_72 {D : qD} {W : mW} {X : String → qH → Prop} {K : Int → mS → Prop} (hW : mOK D W) {s : mS} (G : MB s → pI D W X m_X3_fails [1] s (fun z17 s18 => K z17 s18)) : PL_X3_columnOf_72 D W X K s := by
  intro hB h
  have G := G hB
  refine f_X3_columnOf_72 _ _ ?_
  refine ⟨mrc hW, mcI G (mv1 zl_1) (fun z17 s18 b19 hB20 G => ?_)⟩
  exact mretI rfl b19 hB20 G
theorem p_X3_columnOf_78 {D : qD} {W : mW} {X : String → qH → Prop} {K : Int → mS → Prop} (hW : mOK D W) {s : mS} {v2 : Int} {v3 : Int} (G : MB s → bd v2 → bd v3 → ((v2 = 0 → ((0 ≤ v3 ∧ v3 < 120) ∧ ((¬ (s.2 15 v3) = (-1) → ((0 ≤ v3 ∧ v3 < 120) ∧ K (s.2 16 v3) (mF s 37 0))) ∧ ((s.2 15 v3) = (-1) → K (-1) (mF s 37 0))))) ∧ (¬ v2 = 0 → ((0 ≤ v3 ∧ v3 < 120) ∧ K (s.2 17 v3) (mF s 37 0))))) : PL_X3_columnOf_78 D W X K s v2 v3 := by
  intro hB bv2 bv3 h
  have G := G hB bv2 bv3
  refine f_X3_columnOf_78 _ _ _ _ ?_
  refine mpF hW rfl zl_0 ?_
  refine ⟨fun w25 => ?_, fun w25 => ?_⟩
  · have G := G.1 ((mz_eq rfl zl_0 bv2 (bdl rfl)).mp w25)
    refine mgR hW rfl ?_
    have c23 := G.1
    have G := G.2
    refine maI hW rfl rfl rfl rfl c23 ?_
    refine ⟨fun w22 => ?_, fun w22 => ?_⟩
    · have G := G.1 (fun u => w22 ((mz_eq rfl zl_m1 (hB.2 15 v3) (bdl rfl)).mpr u))
      refine mgR hW rfl ?_
      have c21 := G.1
      have G := G.2
      refine maI hW rfl rfl rfl rfl c21 ?_
      exact mretI rfl (hB.2 16 v3) (MB.F hB (bdl rfl)) G
    · have G := G.2 ((mz_eq rfl zl_m1 (hB.2 15 v3) (bdl rfl)).mp w22)
      exact mretI zl_m1 (bdl rfl) (MB.F hB (bdl rfl)) G
  · have G := G.2 (fun u => w25 ((mz_eq rfl zl_0 bv2 (bdl rfl)).mpr u))
    refine mgR hW rfl ?_
    have c24 := G.1
    have G := G.2
    refine maI hW rfl rfl rfl rfl c24 ?_
    exact mretI rfl (hB.2 17 v3) (MB.F hB (bdl rfl)) G
theorem p_X3_pageOf {D : qD} {W : mW} {X : String → qH → Prop} {K : Int → mS → Prop} (hW : mOK D W) {s : mS} (hB : MB s) {p0 : Int} (bp0 : bd p0) {p1 : Int} (bp1 : bd p1) (G : ((¬ (mIn p0 0 3) = 0 → pV D W X m_X3_lay [p0] s (fun s2 => (bd ((s2.1 14) - 1) ∧ ((¬ (mIn p1 0 ((s2.1 14) - 1)) = 0 → pI D W X m_X3_page [p1] (mF s2 37 0) (fun z6 s7 => K z6 s7)) ∧ ((mIn p1 0 ((s2.1 14) - 1)) = 0 → pI D W X m_X3_fails [1] s2 (fun z10 s11 => K z10 s11)))))) ∧ ((mIn p0 0 3) = 0 → pI D W X m_X3_fails [1] s (fun z15 s16 => K z15 s16)))) : pI D W X m_X3_pageOf [p0, p1] s K := by
  intro h
  refine f_X3_pageOf _ _ _ _ ?_
  refine mcIn (a := p0) (b := 0) (c := 3) (mz_l rfl bp0) rfl rfl bp0 (bdl rfl) (bdl rfl) ?_
  refine ⟨fun w19 => ?_, fun w19 => ?_⟩
  · have G := G.1 (fun u => w19 ((mz_eq rfl zl_0 bdIn (bdl rfl)).mpr u))
    refine ⟨mrc hW, mcV G (mv1 rfl) (fun s2 hB4 G => ?_)⟩
    refine mgI hW rfl ?_
    have b5 := G.1
    have G := G.2
    refine mcIn (a := p1) (b := 0) (c := ((s2.1 14) - 1)) (mz_l rfl bp1) rfl (mz_l (mz_sub rfl zl_1) b5) bp1 (bdl rfl) b5 ?_
    refine ⟨fun w14 => ?_, fun w14 => ?_⟩
    · have G := G.1 (fun u => w14 ((mz_eq rfl zl_0 bdIn (bdl rfl)).mpr u))
      refine mpF hW rfl zl_0 ?_
      refine ⟨mrc hW, mcI G (mv1 rfl) (fun z6 s7 b8 hB9 G => ?_)⟩
      exact mretI rfl b8 hB9 G
    · have G := G.2 ((mz_eq rfl zl_0 bdIn (bdl rfl)).mp w14)
      refine ⟨mrc hW, mcI G (mv1 zl_1) (fun z10 s11 b12 hB13 G => ?_)⟩
      exact mretI rfl b12 hB13 G
  · have G := G.2 ((mz_eq rfl zl_0 bdIn (bdl rfl)).mp w19)
    refine ⟨mrc hW, mcI G (mv1 zl_1) (fun z15 s16 b17 hB18 G => ?_)⟩
    exact mretI rfl b17 hB18 G
theorem p_X3_pages {D : qD} {W : mW} {X : String → qH → Prop} {K : Int → mS → Prop} (hW : mOK D W) {s : mS} (hB : MB s) {p0 : Int} (bp0 : bd p0) (G : ((¬ (mIn p0 0 3) = 0 → pV D W X m_X3_lay [p0] (mF s 37 0) (fun s2 => (((s2.1 24) = 0 → K (-1) s2) ∧ (¬ (s2.1 24) = 0 → pI D W X m_X3_pagesOf [(s2.1 22)] s2 (fun z5 s6 => (bd ((s2.1 23) + z5) ∧ K ((s2.1 23) + z5) s6)))))) ∧ ((mIn p0 0 3) = 0 → pI D W X m_X3_fails [1] s (fun z11 s12 => K z11 s12)))) : pI D W X m_X3_pages [p0] s K := by
  intro h
  refine f_X3_pages _ _ _ ?_
  refine mcIn (a := p0) (b := 0) (c := 3) (mz_l rfl bp0) rfl rfl bp0 (bdl rfl) (bdl rfl) ?_
  refine ⟨fun w15 => ?_, fun w15 => ?_⟩
  · have G := G.1 (fun u => w15 ((mz_eq rfl zl_0 bdIn (bdl rfl)).mpr u))
    refine mpF hW rfl zl_0 ?_
    refine ⟨mrc hW, mcV G (mv1 rfl) (fun s2 hB4 G => ?_)⟩
    refine mgI hW rfl ?_
    refine ⟨fun w10 => ?_, fun w10 => ?_⟩
    · have G := G.1 ((mz_eq rfl zl_0 (hB4.1 24) (bdl rfl)).mp w10)
      exact mretI zl_m1 (bdl rfl) hB4 G
    · have G := G.2 (fun u => w10 ((mz_eq rfl zl_0 (hB4.1 24) (bdl rfl)).mpr u))
      refine mgI hW rfl ?_
      refine mgI hW rfl ?_
      refine ⟨mrc hW, mcI G (mv1 rfl) (fun z5 s6 b7 hB8 G => ?_)⟩
      have b9 := G.1
      have G := G.2
      exact mretI (mz_add rfl rfl) b9 hB8 G
  · have G := G.2 ((mz_eq rfl zl_0 bdIn (bdl rfl)).mp w15)
    refine ⟨mrc hW, mcI G (mv1 zl_1) (fun z11 s12 b13 hB14 G => ?_)⟩
    exact mretI rfl b13 hB14 G
theorem p_X3_front {D : qD} {W : mW} {X : String → qH → Prop} {K : Int → mS → Prop} (hW : mOK D W) {s : mS} (hB : MB s) {p0 : Int} (bp0 : bd p0) (G : ((¬ (mIn p0 0 3) = 0 → pV D W X m_X3_lay [p0] (mF s 37 0) (fun s2 => (((s2.1 24) = 0 → K (-1) s2) ∧ (¬ (s2.1 24) = 0 → K (s2.1 23) s2)))) ∧ ((mIn p0 0 3) = 0 → pI D W X m_X3_fails [1] s (fun z6 s7 => K z6 s7)))) : pI D W X m_X3_front [p0] s K := by
  intro h
  refine f_X3_front _ _ _ ?_
  refine mcIn (a := p0) (b := 0) (c := 3) (mz_l rfl bp0) rfl rfl bp0 (bdl rfl) (bdl rfl) ?_
  refine ⟨fun w10 => ?_, fun w10 => ?_⟩
  · have G := G.1 (fun u => w10 ((mz_eq rfl zl_0 bdIn (bdl rfl)).mpr u))
    refine mpF hW rfl zl_0 ?_
    refine ⟨mrc hW, mcV G (mv1 rfl) (fun s2 hB4 G => ?_)⟩
    refine mgI hW rfl ?_
    refine ⟨fun w5 => ?_, fun w5 => ?_⟩
    · have G := G.1 ((mz_eq rfl zl_0 (hB4.1 24) (bdl rfl)).mp w5)
      exact mretI zl_m1 (bdl rfl) hB4 G
    · have G := G.2 (fun u => w5 ((mz_eq rfl zl_0 (hB4.1 24) (bdl rfl)).mpr u))
      refine mgI hW rfl ?_
      exact mretI rfl (hB4.1 23) hB4 G
  · have G := G.2 ((mz_eq rfl zl_0 bdIn (bdl rfl)).mp w10)
    refine ⟨mrc hW, mcI G (mv1 zl_1) (fun z6 s7 b8 hB9 G => ?_)⟩
    exact mretI rfl b8 hB9 G
def PL_X3_entry_16 (D : qD) (W : mW) (X : String → qH → Prop) (K : Int → mS → Prop) (s : mS) : Prop := MB s → ∀ h, L_X3_entry_16 D (pQI W h K) X (W.1 100) (mh W s h)
theorem PLu_X3_entry_16 {D : qD} {W : mW} {X : String → qH → Prop} {K : Int → mS → Prop} {s : mS} (G : PL_X3_entry_16 D W X K s) (hB : MB s) (h : qH) : L_X3_entry_16 D (pQI W h K) X (W.1 100) (mh W s h) := by
  exact G hB h
def PL_X3_entry_40 (D : qD) (W : mW) (X : String → qH → Prop) (K : Int → mS → Prop) (s : mS) (v2 v3 v4 v5 : Int) : Prop := MB s → bd v2 → bd v3 → bd v4 → bd v5 → ∀ h, L_X3_entry_40 D (pQI W h K) X (W.1 100) (zI v2) (zI v3) (zI v4) (zI v5) (mh W s h)
theorem PLu_X3_entry_40 {D : qD} {W : mW} {X : String → qH → Prop} {K : Int → mS → Prop} {s : mS} {v2 : Int} {xv2 : Int32} {v3 : Int} {xv3 : Int32} {v4 : Int} {xv4 : Int32} {v5 : Int} {xv5 : Int32} (G : PL_X3_entry_40 D W X K s v2 v3 v4 v5) (hB : MB s) (ev2 : xv2 = zI v2) (bv2 : bd v2) (ev3 : xv3 = zI v3) (bv3 : bd v3) (ev4 : xv4 = zI v4) (bv4 : bd v4) (ev5 : xv5 = zI v5) (bv5 : bd v5) (h : qH) : L_X3_entry_40 D (pQI W h K) X (W.1 100) xv2 xv3 xv4 xv5 (mh W s h) := by
  subst ev2
  subst ev3
  subst ev4
  subst ev5
  exact G hB bv2 bv3 bv4 bv5 h
def PL_X3_entry_80 (D : qD) (W : mW) (X : String → qH → Prop) (K : Int → mS → Prop) (s : mS) (v2 v3 v4 v5 : Int) : Prop := MB s → bd v2 → bd v3 → bd v4 → bd v5 → ∀ h, L_X3_entry_80 D (pQI W h K) X (W.1 100) (zI v2) (zI v3) (zI v4) (zI v5) (mh W s h)
theorem PLu_X3_entry_80 {D : qD} {W : mW} {X : String → qH → Prop} {K : Int → mS → Prop} {s : mS} {v2 : Int} {xv2 : Int32} {v3 : Int} {xv3 : Int32} {v4 : Int} {xv4 : Int32} {v5 : Int} {xv5 : Int32} (G : PL_X3_entry_80 D W X K s v2 v3 v4 v5) (hB : MB s) (ev2 : xv2 = zI v2) (bv2 : bd v2) (ev3 : xv3 = zI v3) (bv3 : bd v3) (ev4 : xv4 = zI v4) (bv4 : bd v4) (ev5 : xv5 = zI v5) (bv5 : bd v5) (h : qH) : L_X3_entry_80 D (pQI W h K) X (W.1 100) xv2 xv3 xv4 xv5 (mh W s h) := by
  subst ev2
  subst ev3
  subst ev4
  subst ev5
  exact G hB bv2 bv3 bv4 bv5 h
def PL_X3_entry_75 (D : qD) (W : mW) (X : String → qH → Prop) (K : Int → mS → Prop) (s : mS) (v2 v3 v5 y0 : Int) : Prop := MB s → bd v2 → bd v3 → bd v5 → bd y0 → ∀ h, L_X3_entry_75 D (pQI W h K) X (W.1 100) (zI v2) (zI v3) (zI v5) (zI y0) (mh W s h)
theorem PLu_X3_entry_75 {D : qD} {W : mW} {X : String → qH → Prop} {K : Int → mS → Prop} {s : mS} {v2 : Int} {xv2 : Int32} {v3 : Int} {xv3 : Int32} {v5 : Int} {xv5 : Int32} {y0 : Int} {xy0 : Int32} (G : PL_X3_entry_75 D W X K s v2 v3 v5 y0) (hB : MB s) (ev2 : xv2 = zI v2) (bv2 : bd v2) (ev3 : xv3 = zI v3) (bv3 : bd v3) (ev5 : xv5 = zI v5) (bv5 : bd v5) (ey0 : xy0 = zI y0) (by0 : bd y0) (h : qH) : L_X3_entry_75 D (pQI W h K) X (W.1 100) xv2 xv3 xv5 xy0 (mh W s h) := by
  subst ev2
  subst ev3
  subst ev5
  subst ey0
  exact G hB bv2 bv3 bv5 by0 h
theorem p_X3_entry {D : qD} {W : mW} {X : String → qH → Prop} {K : Int → mS → Prop} (hW : mOK D W) {s : mS} (hB : MB s) {p0 : Int} (bp0 : bd p0) {p1 : Int} (bp1 : bd p1) (G : (((mIn p0 0 3) = 0 → PL_X3_entry_16 D W X K s) ∧ (¬ (mIn p0 0 3) = 0 → ((0 ≤ p1 → pV D W X m_X3_lay [p0] (mF s 37 0) (fun s2 => PL_X3_entry_40 D W X K s2 p1 0 (-1) 0)) ∧ (¬ 0 ≤ p1 → PL_X3_entry_16 D W X K s))))) : pI D W X m_X3_entry [p0, p1] s K := by
  intro h
  refine f_X3_entry _ _ _ _ ?_
  refine mcIn (a := p0) (b := 0) (c := 3) (mz_l rfl bp0) rfl rfl bp0 (bdl rfl) (bdl rfl) ?_
  refine ⟨fun w6 => ?_, fun w6 => ?_⟩
  · have G := G.1 ((mz_eq rfl zl_0 bdIn (bdl rfl)).mp w6)
    exact PLu_X3_entry_16 G hB h
  · have G := G.2 (fun u => w6 ((mz_eq rfl zl_0 bdIn (bdl rfl)).mpr u))
    refine ⟨fun w5 => ?_, fun w5 => ?_⟩
    · have G := G.1 ((mz_le zl_0 rfl (bdl rfl) bp1).mp w5)
      refine mpF hW rfl zl_0 ?_
      refine ⟨mrc hW, mcV G (mv1 rfl) (fun s2 hB4 G => ?_)⟩
      exact PLu_X3_entry_40 G hB4 rfl bp1 zl_0 (bdl rfl) zl_m1 (bdl rfl) zl_0 (bdl rfl) h
    · have G := G.2 (fun u => w5 ((mz_le zl_0 rfl (bdl rfl) bp1).mpr u))
      exact PLu_X3_entry_16 G hB h
theorem p_X3_entry_16 {D : qD} {W : mW} {X : String → qH → Prop} {K : Int → mS → Prop} (hW : mOK D W) {s : mS} (G : MB s → pI D W X m_X3_fails [1] s (fun z7 s8 => K z7 s8)) : PL_X3_entry_16 D W X K s := by
  intro hB h
  have G := G hB
  refine f_X3_entry_16 _ _ ?_
  refine ⟨mrc hW, mcI G (mv1 zl_1) (fun z7 s8 b9 hB10 G => ?_)⟩
  exact mretI rfl b9 hB10 G
theorem p_X3_entry_40 {D : qD} {W : mW} {X : String → qH → Prop} {K : Int → mS → Prop} (hW : mOK D W) {s : mS} {v2 : Int} {v3 : Int} {v4 : Int} {v5 : Int} (G : MB s → bd v2 → bd v3 → bd v4 → bd v5 → (((s.1 14) ≤ v5 → K v4 s) ∧ (¬ (s.1 14) ≤ v5 → ((0 ≤ v5 ∧ v5 < 120) ∧ (((s.2 19 v5) = 0 → PL_X3_entry_80 D W X K s v2 v3 v4 v5) ∧ (¬ (s.2 19 v5) = 0 → ((¬ v3 = v2 → PL_X3_entry_75 D W X K s v2 v3 v5 v4) ∧ (v3 = v2 → pI D W X m_X3_page [v5] s (fun z11 s12 => PL_X3_entry_75 D W X K s12 v2 v3 v5 z11))))))))) : PL_X3_entry_40 D W X K s v2 v3 v4 v5 := by
  intro hB bv2 bv3 bv4 bv5 h
  have G := G hB bv2 bv3 bv4 bv5
  refine f_X3_entry_40 _ _ _ _ _ _ ?_
  refine mgI hW rfl ?_
  refine ⟨fun w18 => ?_, fun w18 => ?_⟩
  · have G := G.1 ((mz_le rfl rfl (hB.1 14) bv5).mp w18)
    exact mretI rfl bv4 hB G
  · have G := G.2 (fun u => w18 ((mz_le rfl rfl (hB.1 14) bv5).mpr u))
    refine mgR hW rfl ?_
    have c17 := G.1
    have G := G.2
    refine maI hW rfl rfl rfl rfl c17 ?_
    refine ⟨fun w16 => ?_, fun w16 => ?_⟩
    · have G := G.1 ((mz_eq rfl zl_0 (hB.2 19 v5) (bdl rfl)).mp w16)
      exact PLu_X3_entry_80 G hB rfl bv2 rfl bv3 rfl bv4 rfl bv5 h
    · have G := G.2 (fun u => w16 ((mz_eq rfl zl_0 (hB.2 19 v5) (bdl rfl)).mpr u))
      refine ⟨fun w15 => ?_, fun w15 => ?_⟩
      · have G := G.1 (fun u => w15 ((mz_eq rfl rfl bv3 bv2).mpr u))
        exact PLu_X3_entry_75 G hB rfl bv2 rfl bv3 rfl bv5 rfl bv4 h
      · have G := G.2 ((mz_eq rfl rfl bv3 bv2).mp w15)
        refine ⟨mrc hW, mcI G (mv1 rfl) (fun z11 s12 b13 hB14 G => ?_)⟩
        exact PLu_X3_entry_75 G hB14 rfl bv2 rfl bv3 rfl bv5 rfl b13 h
theorem p_X3_entry_80 {D : qD} {W : mW} {X : String → qH → Prop} {K : Int → mS → Prop} (hW : mOK D W) {s : mS} {v2 : Int} {v3 : Int} {v4 : Int} {v5 : Int} (G : MB s → bd v2 → bd v3 → bd v4 → bd v5 → (bd (v5 + 1) ∧ PL_X3_entry_40 D W X K s v2 v3 v4 (v5 + 1))) : PL_X3_entry_80 D W X K s v2 v3 v4 v5 := by
  intro hB bv2 bv3 bv4 bv5 h
  have G := G hB bv2 bv3 bv4 bv5
  refine f_X3_entry_80 _ _ _ _ _ _ ?_
  have b19 := G.1
  have G := G.2
  exact PLu_X3_entry_40 G hB rfl bv2 rfl bv3 rfl bv4 (mz_add rfl zl_1) b19 h
theorem p_X3_entry_75 {D : qD} {W : mW} {X : String → qH → Prop} {K : Int → mS → Prop} (hW : mOK D W) {s : mS} {v2 : Int} {v3 : Int} {v5 : Int} {y0 : Int} (G : MB s → bd v2 → bd v3 → bd v5 → bd y0 → (bd (v3 + 1) ∧ PL_X3_entry_80 D W X K s v2 (v3 + 1) y0 v5)) : PL_X3_entry_75 D W X K s v2 v3 v5 y0 := by
  intro hB bv2 bv3 bv5 by0 h
  have G := G hB bv2 bv3 bv5 by0
  refine f_X3_entry_75 _ _ _ _ _ _ ?_
  have b20 := G.1
  have G := G.2
  exact PLu_X3_entry_80 G hB rfl bv2 (mz_add rfl zl_1) b20 rfl by0 rfl bv5 h
def PL_X3_index_28 (D : qD) (W : mW) (X : String → qH → Prop) (K : Int → mS → Prop) (s : mS) : Prop := MB s → ∀ h, L_X3_index_28 D (pQI W h K) X (W.1 100) (mh W s h)
theorem PLu_X3_index_28 {D : qD} {W : mW} {X : String → qH → Prop} {K : Int → mS → Prop} {s : mS} (G : PL_X3_index_28 D W X K s) (hB : MB s) (h : qH) : L_X3_index_28 D (pQI W h K) X (W.1 100) (mh W s h) := by
  exact G hB h
def PL_X3_index_66 (D : qD) (W : mW) (X : String → qH → Prop) (K : Int → mS → Prop) (s : mS) (v2 v3 v4 : Int) : Prop := MB s → bd v2 → bd v3 → bd v4 → ∀ h, L_X3_index_66 D (pQI W h K) X (W.1 100) (zI v2) (zI v3) (zI v4) (mh W s h)
theorem PLu_X3_index_66 {D : qD} {W : mW} {X : String → qH → Prop} {K : Int → mS → Prop} {s : mS} {v2 : Int} {xv2 : Int32} {v3 : Int} {xv3 : Int32} {v4 : Int} {xv4 : Int32} (G : PL_X3_index_66 D W X K s v2 v3 v4) (hB : MB s) (ev2 : xv2 = zI v2) (bv2 : bd v2) (ev3 : xv3 = zI v3) (bv3 : bd v3) (ev4 : xv4 = zI v4) (bv4 : bd v4) (h : qH) : L_X3_index_66 D (pQI W h K) X (W.1 100) xv2 xv3 xv4 (mh W s h) := by
  subst ev2
  subst ev3
  subst ev4
  exact G hB bv2 bv3 bv4 h
def PL_X3_index_91 (D : qD) (W : mW) (X : String → qH → Prop) (K : Int → mS → Prop) (s : mS) (v2 v3 v4 : Int) : Prop := MB s → bd v2 → bd v3 → bd v4 → ∀ h, L_X3_index_91 D (pQI W h K) X (W.1 100) (zI v2) (zI v3) (zI v4) (mh W s h)
theorem PLu_X3_index_91 {D : qD} {W : mW} {X : String → qH → Prop} {K : Int → mS → Prop} {s : mS} {v2 : Int} {xv2 : Int32} {v3 : Int} {xv3 : Int32} {v4 : Int} {xv4 : Int32} (G : PL_X3_index_91 D W X K s v2 v3 v4) (hB : MB s) (ev2 : xv2 = zI v2) (bv2 : bd v2) (ev3 : xv3 = zI v3) (bv3 : bd v3) (ev4 : xv4 = zI v4) (bv4 : bd v4) (h : qH) : L_X3_index_91 D (pQI W h K) X (W.1 100) xv2 xv3 xv4 (mh W s h) := by
  subst ev2
  subst ev3
  subst ev4
  exact G hB bv2 bv3 bv4 h
def PL_X3_index_139 (D : qD) (W : mW) (X : String → qH → Prop) (K : Int → mS → Prop) (s : mS) (v3 v4 v5 : Int) : Prop := MB s → bd v3 → bd v4 → bd v5 → ∀ h, L_X3_index_139 D (pQI W h K) X (W.1 100) (zI v3) (zI v4) (zI v5) (mh W s h)
theorem PLu_X3_index_139 {D : qD} {W : mW} {X : String → qH → Prop} {K : Int → mS → Prop} {s : mS} {v3 : Int} {xv3 : Int32} {v4 : Int} {xv4 : Int32} {v5 : Int} {xv5 : Int32} (G : PL_X3_index_139 D W X K s v3 v4 v5) (hB : MB s) (ev3 : xv3 = zI v3) (bv3 : bd v3) (ev4 : xv4 = zI v4) (bv4 : bd v4) (ev5 : xv5 = zI v5) (bv5 : bd v5) (h : qH) : L_X3_index_139 D (pQI W h K) X (W.1 100) xv3 xv4 xv5 (mh W s h) := by
  subst ev3
  subst ev4
  subst ev5
  exact G hB bv3 bv4 bv5 h
def PL_X3_index_127 (D : qD) (W : mW) (X : String → qH → Prop) (K : Int → mS → Prop) (s : mS) (v2 v3 v4 : Int) : Prop := MB s → bd v2 → bd v3 → bd v4 → ∀ h, L_X3_index_127 D (pQI W h K) X (W.1 100) (zI v2) (zI v3) (zI v4) (mh W s h)
theorem PLu_X3_index_127 {D : qD} {W : mW} {X : String → qH → Prop} {K : Int → mS → Prop} {s : mS} {v2 : Int} {xv2 : Int32} {v3 : Int} {xv3 : Int32} {v4 : Int} {xv4 : Int32} (G : PL_X3_index_127 D W X K s v2 v3 v4) (hB : MB s) (ev2 : xv2 = zI v2) (bv2 : bd v2) (ev3 : xv3 = zI v3) (bv3 : bd v3) (ev4 : xv4 = zI v4) (bv4 : bd v4) (h : qH) : L_X3_index_127 D (pQI W h K) X (W.1 100) xv2 xv3 xv4 (mh W s h) := by
  subst ev2
  subst ev3
  subst ev4
  exact G hB bv2 bv3 bv4 h
def PL_X3_index_151 (D : qD) (W : mW) (X : String → qH → Prop) (K : Int → mS → Prop) (s : mS) (v3 v4 v5 v6 : Int) : Prop := MB s → bd v3 → bd v4 → bd v5 → bd v6 → ∀ h, L_X3_index_151 D (pQI W h K) X (W.1 100) (zI v3) (zI v4) (zI v5) (zI v6) (mh W s h)
theorem PLu_X3_index_151 {D : qD} {W : mW} {X : String → qH → Prop} {K : Int → mS → Prop} {s : mS} {v3 : Int} {xv3 : Int32} {v4 : Int} {xv4 : Int32} {v5 : Int} {xv5 : Int32} {v6 : Int} {xv6 : Int32} (G : PL_X3_index_151 D W X K s v3 v4 v5 v6) (hB : MB s) (ev3 : xv3 = zI v3) (bv3 : bd v3) (ev4 : xv4 = zI v4) (bv4 : bd v4) (ev5 : xv5 = zI v5) (bv5 : bd v5) (ev6 : xv6 = zI v6) (bv6 : bd v6) (h : qH) : L_X3_index_151 D (pQI W h K) X (W.1 100) xv3 xv4 xv5 xv6 (mh W s h) := by
  subst ev3
  subst ev4
  subst ev5
  subst ev6
  exact G hB bv3 bv4 bv5 bv6 h
def PL_X3_index_187 (D : qD) (W : mW) (X : String → qH → Prop) (K : Int → mS → Prop) (s : mS) (v3 v4 v5 v6 : Int) : Prop := MB s → bd v3 → bd v4 → bd v5 → bd v6 → ∀ h, L_X3_index_187 D (pQI W h K) X (W.1 100) (zI v3) (zI v4) (zI v5) (zI v6) (mh W s h)
theorem PLu_X3_index_187 {D : qD} {W : mW} {X : String → qH → Prop} {K : Int → mS → Prop} {s : mS} {v3 : Int} {xv3 : Int32} {v4 : Int} {xv4 : Int32} {v5 : Int} {xv5 : Int32} {v6 : Int} {xv6 : Int32} (G : PL_X3_index_187 D W X K s v3 v4 v5 v6) (hB : MB s) (ev3 : xv3 = zI v3) (bv3 : bd v3) (ev4 : xv4 = zI v4) (bv4 : bd v4) (ev5 : xv5 = zI v5) (bv5 : bd v5) (ev6 : xv6 = zI v6) (bv6 : bd v6) (h : qH) : L_X3_index_187 D (pQI W h K) X (W.1 100) xv3 xv4 xv5 xv6 (mh W s h) := by
  subst ev3
  subst ev4
  subst ev5
  subst ev6
  exact G hB bv3 bv4 bv5 bv6 h
def PL_X3_index_231 (D : qD) (W : mW) (X : String → qH → Prop) (K : Int → mS → Prop) (s : mS) (v3 v4 v5 v6 : Int) : Prop := MB s → bd v3 → bd v4 → bd v5 → bd v6 → ∀ h, L_X3_index_231 D (pQI W h K) X (W.1 100) (zI v3) (zI v4) (zI v5) (zI v6) (mh W s h)
theorem PLu_X3_index_231 {D : qD} {W : mW} {X : String → qH → Prop} {K : Int → mS → Prop} {s : mS} {v3 : Int} {xv3 : Int32} {v4 : Int} {xv4 : Int32} {v5 : Int} {xv5 : Int32} {v6 : Int} {xv6 : Int32} (G : PL_X3_index_231 D W X K s v3 v4 v5 v6) (hB : MB s) (ev3 : xv3 = zI v3) (bv3 : bd v3) (ev4 : xv4 = zI v4) (bv4 : bd v4) (ev5 : xv5 = zI v5) (bv5 : bd v5) (ev6 : xv6 = zI v6) (bv6 : bd v6) (h : qH) : L_X3_index_231 D (pQI W h K) X (W.1 100) xv3 xv4 xv5 xv6 (mh W s h) := by
  subst ev3
  subst ev4
  subst ev5
  subst ev6
  exact G hB bv3 bv4 bv5 bv6 h
def PL_X3_index_248 (D : qD) (W : mW) (X : String → qH → Prop) (K : Int → mS → Prop) (s : mS) (v3 v5 v6 y0 y1 : Int) : Prop := MB s → bd v3 → bd v5 → bd v6 → bd y0 → bd y1 → ∀ h, L_X3_index_248 D (pQI W h K) X (W.1 100) (zI v3) (zI v5) (zI v6) (zI y0) (zI y1) (mh W s h)
theorem PLu_X3_index_248 {D : qD} {W : mW} {X : String → qH → Prop} {K : Int → mS → Prop} {s : mS} {v3 : Int} {xv3 : Int32} {v5 : Int} {xv5 : Int32} {v6 : Int} {xv6 : Int32} {y0 : Int} {xy0 : Int32} {y1 : Int} {xy1 : Int32} (G : PL_X3_index_248 D W X K s v3 v5 v6 y0 y1) (hB : MB s) (ev3 : xv3 = zI v3) (bv3 : bd v3) (ev5 : xv5 = zI v5) (bv5 : bd v5) (ev6 : xv6 = zI v6) (bv6 : bd v6) (ey0 : xy0 = zI y0) (by0 : bd y0) (ey1 : xy1 = zI y1) (by1 : bd y1) (h : qH) : L_X3_index_248 D (pQI W h K) X (W.1 100) xv3 xv5 xv6 xy0 xy1 (mh W s h) := by
  subst ev3
  subst ev5
  subst ev6
  subst ey0
  subst ey1
  exact G hB bv3 bv5 bv6 by0 by1 h
def PL_X3_index_271 (D : qD) (W : mW) (X : String → qH → Prop) (K : Int → mS → Prop) (s : mS) (v3 v4 y0 : Int) : Prop := MB s → bd v3 → bd v4 → bd y0 → ∀ h, L_X3_index_271 D (pQI W h K) X (W.1 100) (zI v3) (zI v4) (zI y0) (mh W s h)
theorem PLu_X3_index_271 {D : qD} {W : mW} {X : String → qH → Prop} {K : Int → mS → Prop} {s : mS} {v3 : Int} {xv3 : Int32} {v4 : Int} {xv4 : Int32} {y0 : Int} {xy0 : Int32} (G : PL_X3_index_271 D W X K s v3 v4 y0) (hB : MB s) (ev3 : xv3 = zI v3) (bv3 : bd v3) (ev4 : xv4 = zI v4) (bv4 : bd v4) (ey0 : xy0 = zI y0) (by0 : bd y0) (h : qH) : L_X3_index_271 D (pQI W h K) X (W.1 100) xv3 xv4 xy0 (mh W s h) := by
  subst ev3
  subst ev4
  subst ey0
  exact G hB bv3 bv4 by0 h
theorem p_X3_index {D : qD} {W : mW} {X : String → qH → Prop} {K : Int → mS → Prop} (hW : mOK D W) {s : mS} (hB : MB s) {p0 : Int} (bp0 : bd p0) {p1 : Int} (bp1 : bd p1) {p2 : Int} (bp2 : bd p2) (G : (((mIn p0 0 3) = 0 → PL_X3_index_28 D W X K s) ∧ (¬ (mIn p0 0 3) = 0 → (((mIn p1 0 9) = 0 → PL_X3_index_28 D W X K s) ∧ (¬ (mIn p1 0 9) = 0 → ((0 ≤ p2 → pV D W X m_X3_lay [p0] (mF s 37 0) (fun s2 => ((0 ≤ p1 ∧ p1 < 10) ∧ ((¬ (s2.2 11 p1) = (-1) → K (-1) s2) ∧ ((s2.2 11 p1) = (-1) → ((¬ (s2.1 24) = 0 → PL_X3_index_66 D W X K s2 p1 p2 0) ∧ ((s2.1 24) = 0 → K (-1) s2))))))) ∧ (¬ 0 ≤ p2 → PL_X3_index_28 D W X K s))))))) : pI D W X m_X3_index [p0, p1, p2] s K := by
  intro h
  refine f_X3_index _ _ _ _ _ ?_
  refine mcIn (a := p0) (b := 0) (c := 3) (mz_l rfl bp0) rfl rfl bp0 (bdl rfl) (bdl rfl) ?_
  refine ⟨fun w10 => ?_, fun w10 => ?_⟩
  · have G := G.1 ((mz_eq rfl zl_0 bdIn (bdl rfl)).mp w10)
    exact PLu_X3_index_28 G hB h
  · have G := G.2 (fun u => w10 ((mz_eq rfl zl_0 bdIn (bdl rfl)).mpr u))
    refine mcIn (a := p1) (b := 0) (c := 9) (mz_l rfl bp1) rfl rfl bp1 (bdl rfl) (bdl rfl) ?_
    refine ⟨fun w9 => ?_, fun w9 => ?_⟩
    · have G := G.1 ((mz_eq rfl zl_0 bdIn (bdl rfl)).mp w9)
      exact PLu_X3_index_28 G hB h
    · have G := G.2 (fun u => w9 ((mz_eq rfl zl_0 bdIn (bdl rfl)).mpr u))
      refine ⟨fun w8 => ?_, fun w8 => ?_⟩
      · have G := G.1 ((mz_le zl_0 rfl (bdl rfl) bp2).mp w8)
        refine mpF hW rfl zl_0 ?_
        refine ⟨mrc hW, mcV G (mv1 rfl) (fun s2 hB4 G => ?_)⟩
        refine mgR hW rfl ?_
        have c7 := G.1
        have G := G.2
        refine maI hW rfl rfl rfl rfl c7 ?_
        refine ⟨fun w6 => ?_, fun w6 => ?_⟩
        · have G := G.1 (fun u => w6 ((mz_eq rfl zl_m1 (hB4.2 11 p1) (bdl rfl)).mpr u))
          exact mretI zl_m1 (bdl rfl) hB4 G
        · have G := G.2 ((mz_eq rfl zl_m1 (hB4.2 11 p1) (bdl rfl)).mp w6)
          refine mgI hW rfl ?_
          refine ⟨fun w5 => ?_, fun w5 => ?_⟩
          · have G := G.1 (fun u => w5 ((mz_eq rfl zl_0 (hB4.1 24) (bdl rfl)).mpr u))
            exact PLu_X3_index_66 G hB4 rfl bp1 rfl bp2 zl_0 (bdl rfl) h
          · have G := G.2 ((mz_eq rfl zl_0 (hB4.1 24) (bdl rfl)).mp w5)
            exact mretI zl_m1 (bdl rfl) hB4 G
      · have G := G.2 (fun u => w8 ((mz_le zl_0 rfl (bdl rfl) bp2).mpr u))
        exact PLu_X3_index_28 G hB h
theorem p_X3_index_28 {D : qD} {W : mW} {X : String → qH → Prop} {K : Int → mS → Prop} (hW : mOK D W) {s : mS} (G : MB s → pI D W X m_X3_fails [1] s (fun z11 s12 => K z11 s12)) : PL_X3_index_28 D W X K s := by
  intro hB h
  have G := G hB
  refine f_X3_index_28 _ _ ?_
  refine ⟨mrc hW, mcI G (mv1 zl_1) (fun z11 s12 b13 hB14 G => ?_)⟩
  exact mretI rfl b13 hB14 G
theorem p_X3_index_66 {D : qD} {W : mW} {X : String → qH → Prop} {K : Int → mS → Prop} (hW : mOK D W) {s : mS} {v2 : Int} {v3 : Int} {v4 : Int} (G : MB s → bd v2 → bd v3 → bd v4 → ((400 ≤ v4 → PL_X3_index_91 D W X K s v2 v3 0) ∧ (¬ 400 ≤ v4 → ((0 ≤ v4 ∧ v4 < 400) ∧ (bd (v4 + 1) ∧ PL_X3_index_66 D W X K (mA s 36 v4 0) v2 v3 (v4 + 1)))))) : PL_X3_index_66 D W X K s v2 v3 v4 := by
  intro hB bv2 bv3 bv4 h
  have G := G hB bv2 bv3 bv4
  refine f_X3_index_66 _ _ _ _ _ ?_
  refine ⟨fun w17 => ?_, fun w17 => ?_⟩
  · have G := G.1 ((mz_le zl_400 rfl (bdl rfl) bv4).mp w17)
    exact PLu_X3_index_91 G hB rfl bv2 rfl bv3 zl_0 (bdl rfl) h
  · have G := G.2 (fun u => w17 ((mz_le zl_400 rfl (bdl rfl) bv4).mpr u))
    refine mgR hW rfl ?_
    have c16 := G.1
    have G := G.2
    refine msI hW rfl rfl rfl zl_0 rfl c16 ?_
    have b15 := G.1
    have G := G.2
    exact PLu_X3_index_66 G (MB.A hB (bdl rfl)) rfl bv2 rfl bv3 (mz_add rfl zl_1) b15 h
theorem p_X3_index_91 {D : qD} {W : mW} {X : String → qH → Prop} {K : Int → mS → Prop} (hW : mOK D W) {s : mS} {v2 : Int} {v3 : Int} {v4 : Int} (G : MB s → bd v2 → bd v3 → bd v4 → (((s.1 0) ≤ v4 → PL_X3_index_139 D W X K s v3 0 1) ∧ (¬ (s.1 0) ≤ v4 → pI D W X m_X3_counts [v4, v2] s (fun z18 s19 => ((z18 = 0 → PL_X3_index_127 D W X K s19 v2 v3 v4) ∧ (¬ z18 = 0 → ((0 ≤ v4 ∧ v4 < 120) ∧ pI D W X m_X3_page [(s19.2 15 v4)] s19 (fun z22 s23 => ((0 ≤ z22 ∧ z22 < 400) ∧ PL_X3_index_127 D W X K (mA s23 36 z22 1) v2 v3 v4))))))))) : PL_X3_index_91 D W X K s v2 v3 v4 := by
  intro hB bv2 bv3 bv4 h
  have G := G hB bv2 bv3 bv4
  refine f_X3_index_91 _ _ _ _ _ ?_
  refine mgI hW rfl ?_
  refine ⟨fun w29 => ?_, fun w29 => ?_⟩
  · have G := G.1 ((mz_le rfl rfl (hB.1 0) bv4).mp w29)
    exact PLu_X3_index_139 G hB rfl bv3 zl_0 (bdl rfl) zl_1 (bdl rfl) h
  · have G := G.2 (fun u => w29 ((mz_le rfl rfl (hB.1 0) bv4).mpr u))
    refine ⟨mrc hW, mcI G (mv2 rfl rfl) (fun z18 s19 b20 hB21 G => ?_)⟩
    refine ⟨fun w28 => ?_, fun w28 => ?_⟩
    · have G := G.1 ((mz_eq rfl zl_0 b20 (bdl rfl)).mp w28)
      exact PLu_X3_index_127 G hB21 rfl bv2 rfl bv3 rfl bv4 h
    · have G := G.2 (fun u => w28 ((mz_eq rfl zl_0 b20 (bdl rfl)).mpr u))
      refine mgR hW rfl ?_
      refine mgR hW rfl ?_
      have c27 := G.1
      have G := G.2
      refine maI hW rfl rfl rfl rfl c27 ?_
      refine ⟨mrc hW, mcI G (mv1 rfl) (fun z22 s23 b24 hB25 G => ?_)⟩
      have c26 := G.1
      have G := G.2
      refine msI hW rfl rfl rfl zl_1 rfl c26 ?_
      exact PLu_X3_index_127 G (MB.A hB25 (bdl rfl)) rfl bv2 rfl bv3 rfl bv4 h
theorem p_X3_index_139 {D : qD} {W : mW} {X : String → qH → Prop} {K : Int → mS → Prop} (hW : mOK D W) {s : mS} {v3 : Int} {v4 : Int} {v5 : Int} (G : MB s → bd v3 → bd v4 → bd v5 → ((399 ≤ v5 → K (-1) s) ∧ (¬ 399 ≤ v5 → PL_X3_index_151 D W X K s v3 v4 v5 v5))) : PL_X3_index_139 D W X K s v3 v4 v5 := by
  intro hB bv3 bv4 bv5 h
  have G := G hB bv3 bv4 bv5
  refine f_X3_index_139 _ _ _ _ _ ?_
  refine ⟨fun w30 => ?_, fun w30 => ?_⟩
  · have G := G.1 ((mz_le zl_399 rfl (bdl rfl) bv5).mp w30)
    exact mretI zl_m1 (bdl rfl) hB G
  · have G := G.2 (fun u => w30 ((mz_le zl_399 rfl (bdl rfl) bv5).mpr u))
    exact PLu_X3_index_151 G hB rfl bv3 rfl bv4 rfl bv5 rfl bv5 h
theorem p_X3_index_127 {D : qD} {W : mW} {X : String → qH → Prop} {K : Int → mS → Prop} (hW : mOK D W) {s : mS} {v2 : Int} {v3 : Int} {v4 : Int} (G : MB s → bd v2 → bd v3 → bd v4 → (bd (v4 + 1) ∧ PL_X3_index_91 D W X K s v2 v3 (v4 + 1))) : PL_X3_index_127 D W X K s v2 v3 v4 := by
  intro hB bv2 bv3 bv4 h
  have G := G hB bv2 bv3 bv4
  refine f_X3_index_127 _ _ _ _ _ ?_
  have b31 := G.1
  have G := G.2
  exact PLu_X3_index_91 G hB rfl bv2 rfl bv3 (mz_add rfl zl_1) b31 h
theorem p_X3_index_151 {D : qD} {W : mW} {X : String → qH → Prop} {K : Int → mS → Prop} (hW : mOK D W) {s : mS} {v3 : Int} {v4 : Int} {v5 : Int} {v6 : Int} (G : MB s → bd v3 → bd v4 → bd v5 → bd v6 → ((0 ≤ v5 ∧ v5 < 400) ∧ (((s.2 36 v5) = 0 → PL_X3_index_187 D W X K s v3 v4 v5 v6) ∧ (¬ (s.2 36 v5) = 0 → ((0 ≤ (v6 + 1) ∧ (v6 + 1) < 400) ∧ (((s.2 36 (v6 + 1)) = 0 → PL_X3_index_187 D W X K s v3 v4 v5 v6) ∧ (¬ (s.2 36 (v6 + 1)) = 0 → ((398 ≤ v6 → PL_X3_index_187 D W X K s v3 v4 v5 v6) ∧ (¬ 398 ≤ v6 → (bd (v6 + 1) ∧ PL_X3_index_151 D W X K s v3 v4 v5 (v6 + 1))))))))))) : PL_X3_index_151 D W X K s v3 v4 v5 v6 := by
  intro hB bv3 bv4 bv5 bv6 h
  have G := G hB bv3 bv4 bv5 bv6
  refine f_X3_index_151 _ _ _ _ _ _ ?_
  refine mgR hW rfl ?_
  have c37 := G.1
  have G := G.2
  refine maI hW rfl rfl rfl rfl c37 ?_
  refine ⟨fun w36 => ?_, fun w36 => ?_⟩
  · have G := G.1 ((mz_eq rfl zl_0 (hB.2 36 v5) (bdl rfl)).mp w36)
    exact PLu_X3_index_187 G hB rfl bv3 rfl bv4 rfl bv5 rfl bv6 h
  · have G := G.2 (fun u => w36 ((mz_eq rfl zl_0 (hB.2 36 v5) (bdl rfl)).mpr u))
    refine mgR hW rfl ?_
    have c35 := G.1
    have G := G.2
    refine maI hW rfl rfl (mz_add rfl zl_1) rfl c35 ?_
    refine ⟨fun w34 => ?_, fun w34 => ?_⟩
    · have G := G.1 ((mz_eq rfl zl_0 (hB.2 36 (v6 + 1)) (bdl rfl)).mp w34)
      exact PLu_X3_index_187 G hB rfl bv3 rfl bv4 rfl bv5 rfl bv6 h
    · have G := G.2 (fun u => w34 ((mz_eq rfl zl_0 (hB.2 36 (v6 + 1)) (bdl rfl)).mpr u))
      refine ⟨fun w33 => ?_, fun w33 => ?_⟩
      · have G := G.1 ((mz_le zl_398 rfl (bdl rfl) bv6).mp w33)
        exact PLu_X3_index_187 G hB rfl bv3 rfl bv4 rfl bv5 rfl bv6 h
      · have G := G.2 (fun u => w33 ((mz_le zl_398 rfl (bdl rfl) bv6).mpr u))
        have b32 := G.1
        have G := G.2
        exact PLu_X3_index_151 G hB rfl bv3 rfl bv4 rfl bv5 (mz_add rfl zl_1) b32 h
theorem p_X3_index_187 {D : qD} {W : mW} {X : String → qH → Prop} {K : Int → mS → Prop} (hW : mOK D W) {s : mS} {v3 : Int} {v4 : Int} {v5 : Int} {v6 : Int} (G : MB s → bd v3 → bd v4 → bd v5 → bd v6 → ((0 ≤ v5 ∧ v5 < 400) ∧ (((s.2 36 v5) = 0 → PL_X3_index_231 D W X K s v3 v4 v5 v6) ∧ (¬ (s.2 36 v5) = 0 → ((¬ v4 = v3 → PL_X3_index_231 D W X K s v3 v4 v5 v6) ∧ (v4 = v3 → (bd (v6 - v5) ∧ (((v6 - v5) < 2 → (bd (1001 * v5) ∧ K (1001 * v5) s)) ∧ (¬ (v6 - v5) < 2 → (bd ((1000 * v5) + v6) ∧ K ((1000 * v5) + v6) s)))))))))) : PL_X3_index_187 D W X K s v3 v4 v5 v6 := by
  intro hB bv3 bv4 bv5 bv6 h
  have G := G hB bv3 bv4 bv5 bv6
  refine f_X3_index_187 _ _ _ _ _ _ ?_
  refine mgR hW rfl ?_
  have c44 := G.1
  have G := G.2
  refine maI hW rfl rfl rfl rfl c44 ?_
  refine ⟨fun w43 => ?_, fun w43 => ?_⟩
  · have G := G.1 ((mz_eq rfl zl_0 (hB.2 36 v5) (bdl rfl)).mp w43)
    exact PLu_X3_index_231 G hB rfl bv3 rfl bv4 rfl bv5 rfl bv6 h
  · have G := G.2 (fun u => w43 ((mz_eq rfl zl_0 (hB.2 36 v5) (bdl rfl)).mpr u))
    refine ⟨fun w42 => ?_, fun w42 => ?_⟩
    · have G := G.1 (fun u => w42 ((mz_eq rfl rfl bv4 bv3).mpr u))
      exact PLu_X3_index_231 G hB rfl bv3 rfl bv4 rfl bv5 rfl bv6 h
    · have G := G.2 ((mz_eq rfl rfl bv4 bv3).mp w42)
      have b38 := G.1
      have G := G.2
      refine ⟨fun w41 => ?_, fun w41 => ?_⟩
      · have G := G.1 ((mz_lt (mz_sub rfl rfl) zl_2 b38 (bdl rfl)).mp w41)
        have b39 := G.1
        have G := G.2
        exact mretI (mz_mul zl_1001 rfl) b39 hB G
      · have G := G.2 (fun u => w41 ((mz_lt (mz_sub rfl rfl) zl_2 b38 (bdl rfl)).mpr u))
        have b40 := G.1
        have G := G.2
        exact mretI (mz_add (mz_mul zl_1000 rfl) rfl) b40 hB G
theorem p_X3_index_231 {D : qD} {W : mW} {X : String → qH → Prop} {K : Int → mS → Prop} (hW : mOK D W) {s : mS} {v3 : Int} {v4 : Int} {v5 : Int} {v6 : Int} (G : MB s → bd v3 → bd v4 → bd v5 → bd v6 → ((0 ≤ v5 ∧ v5 < 400) ∧ (((s.2 36 v5) = 0 → PL_X3_index_248 D W X K s v3 v5 v6 0 v4) ∧ (¬ (s.2 36 v5) = 0 → PL_X3_index_248 D W X K s v3 v5 v6 1 v4)))) : PL_X3_index_231 D W X K s v3 v4 v5 v6 := by
  intro hB bv3 bv4 bv5 bv6 h
  have G := G hB bv3 bv4 bv5 bv6
  refine f_X3_index_231 _ _ _ _ _ _ ?_
  refine mgR hW rfl ?_
  have c46 := G.1
  have G := G.2
  refine maI hW rfl rfl rfl rfl c46 ?_
  refine ⟨fun w45 => ?_, fun w45 => ?_⟩
  · have G := G.1 ((mz_eq rfl zl_0 (hB.2 36 v5) (bdl rfl)).mp w45)
    exact PLu_X3_index_248 G hB rfl bv3 rfl bv5 rfl bv6 zl_0 (bdl rfl) rfl bv4 h
  · have G := G.2 (fun u => w45 ((mz_eq rfl zl_0 (hB.2 36 v5) (bdl rfl)).mpr u))
    exact PLu_X3_index_248 G hB rfl bv3 rfl bv5 rfl bv6 zl_1 (bdl rfl) rfl bv4 h
theorem p_X3_index_248 {D : qD} {W : mW} {X : String → qH → Prop} {K : Int → mS → Prop} (hW : mOK D W) {s : mS} {v3 : Int} {v5 : Int} {v6 : Int} {y0 : Int} {y1 : Int} (G : MB s → bd v3 → bd v5 → bd v6 → bd y0 → bd y1 → (bd (v6 - v5) ∧ (((v6 - v5) < 2 → (bd (y1 + y0) ∧ (bd (v5 + 1) ∧ PL_X3_index_271 D W X K s v3 (y1 + y0) (v5 + 1)))) ∧ (¬ (v6 - v5) < 2 → (bd (y1 + y0) ∧ (bd (v6 + 1) ∧ PL_X3_index_271 D W X K s v3 (y1 + y0) (v6 + 1))))))) : PL_X3_index_248 D W X K s v3 v5 v6 y0 y1 := by
  intro hB bv3 bv5 bv6 by0 by1 h
  have G := G hB bv3 bv5 bv6 by0 by1
  refine f_X3_index_248 _ _ _ _ _ _ _ ?_
  have b47 := G.1
  have G := G.2
  refine ⟨fun w52 => ?_, fun w52 => ?_⟩
  · have G := G.1 ((mz_lt (mz_sub rfl rfl) zl_2 b47 (bdl rfl)).mp w52)
    have b48 := G.1
    have G := G.2
    have b49 := G.1
    have G := G.2
    exact PLu_X3_index_271 G hB rfl bv3 (mz_add rfl rfl) b48 (mz_add rfl zl_1) b49 h
  · have G := G.2 (fun u => w52 ((mz_lt (mz_sub rfl rfl) zl_2 b47 (bdl rfl)).mpr u))
    have b50 := G.1
    have G := G.2
    have b51 := G.1
    have G := G.2
    exact PLu_X3_index_271 G hB rfl bv3 (mz_add rfl rfl) b50 (mz_add rfl zl_1) b51 h
theorem p_X3_index_271 {D : qD} {W : mW} {X : String → qH → Prop} {K : Int → mS → Prop} (hW : mOK D W) {s : mS} {v3 : Int} {v4 : Int} {y0 : Int} (G : MB s → bd v3 → bd v4 → bd y0 → PL_X3_index_139 D W X K s v3 v4 y0) : PL_X3_index_271 D W X K s v3 v4 y0 := by
  intro hB bv3 bv4 by0 h
  have G := G hB bv3 bv4 by0
  refine f_X3_index_271 _ _ _ _ _ ?_
  exact PLu_X3_index_139 G hB rfl bv3 rfl bv4 rfl by0 h
def PL_X3_plate_47 (D : qD) (W : mW) (X : String → qH → Prop) (K : Int → mS → Prop) (s : mS) : Prop := MB s → ∀ h, L_X3_plate_47 D (pQI W h K) X (W.1 100) (mh W s h)
theorem PLu_X3_plate_47 {D : qD} {W : mW} {X : String → qH → Prop} {K : Int → mS → Prop} {s : mS} (G : PL_X3_plate_47 D W X K s) (hB : MB s) (h : qH) : L_X3_plate_47 D (pQI W h K) X (W.1 100) (mh W s h) := by
  exact G hB h
def PL_X3_plate_69 (D : qD) (W : mW) (X : String → qH → Prop) (K : Int → mS → Prop) (s : mS) (v2 v3 v4 v5 v6 : Int) : Prop := MB s → bd v2 → bd v3 → bd v4 → bd v5 → bd v6 → ∀ h, L_X3_plate_69 D (pQI W h K) X (W.1 100) (zI v2) (zI v3) (zI v4) (zI v5) (zI v6) (mh W s h)
theorem PLu_X3_plate_69 {D : qD} {W : mW} {X : String → qH → Prop} {K : Int → mS → Prop} {s : mS} {v2 : Int} {xv2 : Int32} {v3 : Int} {xv3 : Int32} {v4 : Int} {xv4 : Int32} {v5 : Int} {xv5 : Int32} {v6 : Int} {xv6 : Int32} (G : PL_X3_plate_69 D W X K s v2 v3 v4 v5 v6) (hB : MB s) (ev2 : xv2 = zI v2) (bv2 : bd v2) (ev3 : xv3 = zI v3) (bv3 : bd v3) (ev4 : xv4 = zI v4) (bv4 : bd v4) (ev5 : xv5 = zI v5) (bv5 : bd v5) (ev6 : xv6 = zI v6) (bv6 : bd v6) (h : qH) : L_X3_plate_69 D (pQI W h K) X (W.1 100) xv2 xv3 xv4 xv5 xv6 (mh W s h) := by
  subst ev2
  subst ev3
  subst ev4
  subst ev5
  subst ev6
  exact G hB bv2 bv3 bv4 bv5 bv6 h
def PL_X3_plate_164 (D : qD) (W : mW) (X : String → qH → Prop) (K : Int → mS → Prop) (s : mS) (v2 v3 v4 v5 v6 : Int) : Prop := MB s → bd v2 → bd v3 → bd v4 → bd v5 → bd v6 → ∀ h, L_X3_plate_164 D (pQI W h K) X (W.1 100) (zI v2) (zI v3) (zI v4) (zI v5) (zI v6) (mh W s h)
theorem PLu_X3_plate_164 {D : qD} {W : mW} {X : String → qH → Prop} {K : Int → mS → Prop} {s : mS} {v2 : Int} {xv2 : Int32} {v3 : Int} {xv3 : Int32} {v4 : Int} {xv4 : Int32} {v5 : Int} {xv5 : Int32} {v6 : Int} {xv6 : Int32} (G : PL_X3_plate_164 D W X K s v2 v3 v4 v5 v6) (hB : MB s) (ev2 : xv2 = zI v2) (bv2 : bd v2) (ev3 : xv3 = zI v3) (bv3 : bd v3) (ev4 : xv4 = zI v4) (bv4 : bd v4) (ev5 : xv5 = zI v5) (bv5 : bd v5) (ev6 : xv6 = zI v6) (bv6 : bd v6) (h : qH) : L_X3_plate_164 D (pQI W h K) X (W.1 100) xv2 xv3 xv4 xv5 xv6 (mh W s h) := by
  subst ev2
  subst ev3
  subst ev4
  subst ev5
  subst ev6
  exact G hB bv2 bv3 bv4 bv5 bv6 h
def PL_X3_plate_160 (D : qD) (W : mW) (X : String → qH → Prop) (K : Int → mS → Prop) (s : mS) (v2 v3 v4 v6 y0 : Int) : Prop := MB s → bd v2 → bd v3 → bd v4 → bd v6 → bd y0 → ∀ h, L_X3_plate_160 D (pQI W h K) X (W.1 100) (zI v2) (zI v3) (zI v4) (zI v6) (zI y0) (mh W s h)
theorem PLu_X3_plate_160 {D : qD} {W : mW} {X : String → qH → Prop} {K : Int → mS → Prop} {s : mS} {v2 : Int} {xv2 : Int32} {v3 : Int} {xv3 : Int32} {v4 : Int} {xv4 : Int32} {v6 : Int} {xv6 : Int32} {y0 : Int} {xy0 : Int32} (G : PL_X3_plate_160 D W X K s v2 v3 v4 v6 y0) (hB : MB s) (ev2 : xv2 = zI v2) (bv2 : bd v2) (ev3 : xv3 = zI v3) (bv3 : bd v3) (ev4 : xv4 = zI v4) (bv4 : bd v4) (ev6 : xv6 = zI v6) (bv6 : bd v6) (ey0 : xy0 = zI y0) (by0 : bd y0) (h : qH) : L_X3_plate_160 D (pQI W h K) X (W.1 100) xv2 xv3 xv4 xv6 xy0 (mh W s h) := by
  subst ev2
  subst ev3
  subst ev4
  subst ev6
  subst ey0
  exact G hB bv2 bv3 bv4 bv6 by0 h
def PL_X3_plate_161 (D : qD) (W : mW) (X : String → qH → Prop) (K : Int → mS → Prop) (s : mS) (v2 v3 v4 v6 y0 y1 : Int) : Prop := MB s → bd v2 → bd v3 → bd v4 → bd v6 → bd y0 → bd y1 → ∀ h, L_X3_plate_161 D (pQI W h K) X (W.1 100) (zI v2) (zI v3) (zI v4) (zI v6) (zI y0) (zI y1) (mh W s h)
theorem PLu_X3_plate_161 {D : qD} {W : mW} {X : String → qH → Prop} {K : Int → mS → Prop} {s : mS} {v2 : Int} {xv2 : Int32} {v3 : Int} {xv3 : Int32} {v4 : Int} {xv4 : Int32} {v6 : Int} {xv6 : Int32} {y0 : Int} {xy0 : Int32} {y1 : Int} {xy1 : Int32} (G : PL_X3_plate_161 D W X K s v2 v3 v4 v6 y0 y1) (hB : MB s) (ev2 : xv2 = zI v2) (bv2 : bd v2) (ev3 : xv3 = zI v3) (bv3 : bd v3) (ev4 : xv4 = zI v4) (bv4 : bd v4) (ev6 : xv6 = zI v6) (bv6 : bd v6) (ey0 : xy0 = zI y0) (by0 : bd y0) (ey1 : xy1 = zI y1) (by1 : bd y1) (h : qH) : L_X3_plate_161 D (pQI W h K) X (W.1 100) xv2 xv3 xv4 xv6 xy0 xy1 (mh W s h) := by
  subst ev2
  subst ev3
  subst ev4
  subst ev6
  subst ey0
  subst ey1
  exact G hB bv2 bv3 bv4 bv6 by0 by1 h
theorem p_X3_plate {D : qD} {W : mW} {X : String → qH → Prop} {K : Int → mS → Prop} (hW : mOK D W) {s : mS} (hB : MB s) {p0 : Int} (bp0 : bd p0) {p1 : Int} (bp1 : bd p1) {p2 : Int} (bp2 : bd p2) {p3 : Int} (bp3 : bd p3) (G : (((mIn p0 0 3) = 0 → PL_X3_plate_47 D W X K s) ∧ (¬ (mIn p0 0 3) = 0 → (((mIn p1 0 249) = 0 → PL_X3_plate_47 D W X K s) ∧ (¬ (mIn p1 0 249) = 0 → (((mIn p2 0 1) = 0 → PL_X3_plate_47 D W X K s) ∧ (¬ (mIn p2 0 1) = 0 → ((¬ (mIn p3 0 3) = 0 → pV D W X m_X3_lay [p0] (mF s 37 0) (fun s2 => PL_X3_plate_69 D W X K s2 p1 p2 p3 0 0)) ∧ ((mIn p3 0 3) = 0 → PL_X3_plate_47 D W X K s))))))))) : pI D W X m_X3_plate [p0, p1, p2, p3] s K := by
  intro h
  refine f_X3_plate _ _ _ _ _ _ ?_
  refine mcIn (a := p0) (b := 0) (c := 3) (mz_l rfl bp0) rfl rfl bp0 (bdl rfl) (bdl rfl) ?_
  refine ⟨fun w8 => ?_, fun w8 => ?_⟩
  · have G := G.1 ((mz_eq rfl zl_0 bdIn (bdl rfl)).mp w8)
    exact PLu_X3_plate_47 G hB h
  · have G := G.2 (fun u => w8 ((mz_eq rfl zl_0 bdIn (bdl rfl)).mpr u))
    refine mcIn (a := p1) (b := 0) (c := 249) (mz_l rfl bp1) rfl rfl bp1 (bdl rfl) (bdl rfl) ?_
    refine ⟨fun w7 => ?_, fun w7 => ?_⟩
    · have G := G.1 ((mz_eq rfl zl_0 bdIn (bdl rfl)).mp w7)
      exact PLu_X3_plate_47 G hB h
    · have G := G.2 (fun u => w7 ((mz_eq rfl zl_0 bdIn (bdl rfl)).mpr u))
      refine mcIn (a := p2) (b := 0) (c := 1) (mz_l rfl bp2) rfl rfl bp2 (bdl rfl) (bdl rfl) ?_
      refine ⟨fun w6 => ?_, fun w6 => ?_⟩
      · have G := G.1 ((mz_eq rfl zl_0 bdIn (bdl rfl)).mp w6)
        exact PLu_X3_plate_47 G hB h
      · have G := G.2 (fun u => w6 ((mz_eq rfl zl_0 bdIn (bdl rfl)).mpr u))
        refine mcIn (a := p3) (b := 0) (c := 3) (mz_l rfl bp3) rfl rfl bp3 (bdl rfl) (bdl rfl) ?_
        refine ⟨fun w5 => ?_, fun w5 => ?_⟩
        · have G := G.1 (fun u => w5 ((mz_eq rfl zl_0 bdIn (bdl rfl)).mpr u))
          refine mpF hW rfl zl_0 ?_
          refine ⟨mrc hW, mcV G (mv1 rfl) (fun s2 hB4 G => ?_)⟩
          exact PLu_X3_plate_69 G hB4 rfl bp1 rfl bp2 rfl bp3 zl_0 (bdl rfl) zl_0 (bdl rfl) h
        · have G := G.2 ((mz_eq rfl zl_0 bdIn (bdl rfl)).mp w5)
          exact PLu_X3_plate_47 G hB h
theorem p_X3_plate_47 {D : qD} {W : mW} {X : String → qH → Prop} {K : Int → mS → Prop} (hW : mOK D W) {s : mS} (G : MB s → pI D W X m_X3_fails [1] s (fun z9 s10 => K z9 s10)) : PL_X3_plate_47 D W X K s := by
  intro hB h
  have G := G hB
  refine f_X3_plate_47 _ _ ?_
  refine ⟨mrc hW, mcI G (mv1 zl_1) (fun z9 s10 b11 hB12 G => ?_)⟩
  exact mretI rfl b11 hB12 G
theorem p_X3_plate_69 {D : qD} {W : mW} {X : String → qH → Prop} {K : Int → mS → Prop} (hW : mOK D W) {s : mS} {v2 : Int} {v3 : Int} {v4 : Int} {v5 : Int} {v6 : Int} (G : MB s → bd v2 → bd v3 → bd v4 → bd v5 → bd v6 → (((s.1 0) ≤ v6 → K v5 s) ∧ (¬ (s.1 0) ≤ v6 → (((s.1 24) = 0 → K v5 s) ∧ (¬ (s.1 24) = 0 → ((0 ≤ v6 ∧ v6 < 120) ∧ (((s.2 15 v6) = (-1) → PL_X3_plate_164 D W X K s v2 v3 v4 v5 v6) ∧ (¬ (s.2 15 v6) = (-1) → pI D W X m_X3_hangs [v6] s (fun z13 s14 => ((¬ z13 = 0 → PL_X3_plate_164 D W X K s14 v2 v3 v4 v5 v6) ∧ (z13 = 0 → ((0 ≤ v6 ∧ v6 < 120) ∧ pI D W X m_X3_colourOf [(s14.2 3 v6)] s14 (fun z17 s18 => ((¬ z17 = v4 → PL_X3_plate_164 D W X K s18 v2 v3 v4 v5 v6) ∧ (z17 = v4 → ((0 ≤ v6 ∧ v6 < 120) ∧ pI D W X m_X3_page [(s18.2 15 v6)] s18 (fun z21 s22 => pI D W X m_X3_sheetOf [z21] s22 (fun z25 s26 => ((¬ z25 = v2 → PL_X3_plate_160 D W X K s26 v2 v3 v4 v6 v5) ∧ (z25 = v2 → pI D W X m_X3_sideOf [z21] s26 (fun z29 s30 => ((¬ z29 = v3 → PL_X3_plate_160 D W X K s30 v2 v3 v4 v6 v5) ∧ (z29 = v3 → PL_X3_plate_161 D W X K s30 v2 v3 v4 v6 1 v5))))))))))))))))))))))) : PL_X3_plate_69 D W X K s v2 v3 v4 v5 v6 := by
  intro hB bv2 bv3 bv4 bv5 bv6 h
  have G := G hB bv2 bv3 bv4 bv5 bv6
  refine f_X3_plate_69 _ _ _ _ _ _ _ ?_
  refine mgI hW rfl ?_
  refine ⟨fun w42 => ?_, fun w42 => ?_⟩
  · have G := G.1 ((mz_le rfl rfl (hB.1 0) bv6).mp w42)
    exact mretI rfl bv5 hB G
  · have G := G.2 (fun u => w42 ((mz_le rfl rfl (hB.1 0) bv6).mpr u))
    refine mgI hW rfl ?_
    refine ⟨fun w41 => ?_, fun w41 => ?_⟩
    · have G := G.1 ((mz_eq rfl zl_0 (hB.1 24) (bdl rfl)).mp w41)
      exact mretI rfl bv5 hB G
    · have G := G.2 (fun u => w41 ((mz_eq rfl zl_0 (hB.1 24) (bdl rfl)).mpr u))
      refine mgR hW rfl ?_
      have c40 := G.1
      have G := G.2
      refine maI hW rfl rfl rfl rfl c40 ?_
      refine ⟨fun w39 => ?_, fun w39 => ?_⟩
      · have G := G.1 ((mz_eq rfl zl_m1 (hB.2 15 v6) (bdl rfl)).mp w39)
        exact PLu_X3_plate_164 G hB rfl bv2 rfl bv3 rfl bv4 rfl bv5 rfl bv6 h
      · have G := G.2 (fun u => w39 ((mz_eq rfl zl_m1 (hB.2 15 v6) (bdl rfl)).mpr u))
        refine ⟨mrc hW, mcI G (mv1 rfl) (fun z13 s14 b15 hB16 G => ?_)⟩
        refine ⟨fun w38 => ?_, fun w38 => ?_⟩
        · have G := G.1 (fun u => w38 ((mz_eq rfl zl_0 b15 (bdl rfl)).mpr u))
          exact PLu_X3_plate_164 G hB16 rfl bv2 rfl bv3 rfl bv4 rfl bv5 rfl bv6 h
        · have G := G.2 ((mz_eq rfl zl_0 b15 (bdl rfl)).mp w38)
          refine mgR hW rfl ?_
          have c37 := G.1
          have G := G.2
          refine maI hW rfl rfl rfl rfl c37 ?_
          refine ⟨mrc hW, mcI G (mv1 rfl) (fun z17 s18 b19 hB20 G => ?_)⟩
          refine ⟨fun w36 => ?_, fun w36 => ?_⟩
          · have G := G.1 (fun u => w36 ((mz_eq rfl rfl b19 bv4).mpr u))
            exact PLu_X3_plate_164 G hB20 rfl bv2 rfl bv3 rfl bv4 rfl bv5 rfl bv6 h
          · have G := G.2 ((mz_eq rfl rfl b19 bv4).mp w36)
            refine mgR hW rfl ?_
            have c35 := G.1
            have G := G.2
            refine maI hW rfl rfl rfl rfl c35 ?_
            refine ⟨mrc hW, mcI G (mv1 rfl) (fun z21 s22 b23 hB24 G => ?_)⟩
            refine ⟨mrc hW, mcI G (mv1 rfl) (fun z25 s26 b27 hB28 G => ?_)⟩
            refine ⟨fun w34 => ?_, fun w34 => ?_⟩
            · have G := G.1 (fun u => w34 ((mz_eq rfl rfl b27 bv2).mpr u))
              exact PLu_X3_plate_160 G hB28 rfl bv2 rfl bv3 rfl bv4 rfl bv6 rfl bv5 h
            · have G := G.2 ((mz_eq rfl rfl b27 bv2).mp w34)
              refine ⟨mrc hW, mcI G (mv1 rfl) (fun z29 s30 b31 hB32 G => ?_)⟩
              refine ⟨fun w33 => ?_, fun w33 => ?_⟩
              · have G := G.1 (fun u => w33 ((mz_eq rfl rfl b31 bv3).mpr u))
                exact PLu_X3_plate_160 G hB32 rfl bv2 rfl bv3 rfl bv4 rfl bv6 rfl bv5 h
              · have G := G.2 ((mz_eq rfl rfl b31 bv3).mp w33)
                exact PLu_X3_plate_161 G hB32 rfl bv2 rfl bv3 rfl bv4 rfl bv6 zl_1 (bdl rfl) rfl bv5 h
theorem p_X3_plate_164 {D : qD} {W : mW} {X : String → qH → Prop} {K : Int → mS → Prop} (hW : mOK D W) {s : mS} {v2 : Int} {v3 : Int} {v4 : Int} {v5 : Int} {v6 : Int} (G : MB s → bd v2 → bd v3 → bd v4 → bd v5 → bd v6 → (bd (v6 + 1) ∧ PL_X3_plate_69 D W X K s v2 v3 v4 v5 (v6 + 1))) : PL_X3_plate_164 D W X K s v2 v3 v4 v5 v6 := by
  intro hB bv2 bv3 bv4 bv5 bv6 h
  have G := G hB bv2 bv3 bv4 bv5 bv6
  refine f_X3_plate_164 _ _ _ _ _ _ _ ?_
  have b43 := G.1
  have G := G.2
  exact PLu_X3_plate_69 G hB rfl bv2 rfl bv3 rfl bv4 rfl bv5 (mz_add rfl zl_1) b43 h
theorem p_X3_plate_160 {D : qD} {W : mW} {X : String → qH → Prop} {K : Int → mS → Prop} (hW : mOK D W) {s : mS} {v2 : Int} {v3 : Int} {v4 : Int} {v6 : Int} {y0 : Int} (G : MB s → bd v2 → bd v3 → bd v4 → bd v6 → bd y0 → PL_X3_plate_161 D W X K s v2 v3 v4 v6 0 y0) : PL_X3_plate_160 D W X K s v2 v3 v4 v6 y0 := by
  intro hB bv2 bv3 bv4 bv6 by0 h
  have G := G hB bv2 bv3 bv4 bv6 by0
  refine f_X3_plate_160 _ _ _ _ _ _ _ ?_
  exact PLu_X3_plate_161 G hB rfl bv2 rfl bv3 rfl bv4 rfl bv6 zl_0 (bdl rfl) rfl by0 h
theorem p_X3_plate_161 {D : qD} {W : mW} {X : String → qH → Prop} {K : Int → mS → Prop} (hW : mOK D W) {s : mS} {v2 : Int} {v3 : Int} {v4 : Int} {v6 : Int} {y0 : Int} {y1 : Int} (G : MB s → bd v2 → bd v3 → bd v4 → bd v6 → bd y0 → bd y1 → (bd (y1 + y0) ∧ PL_X3_plate_164 D W X K s v2 v3 v4 (y1 + y0) v6)) : PL_X3_plate_161 D W X K s v2 v3 v4 v6 y0 y1 := by
  intro hB bv2 bv3 bv4 bv6 by0 by1 h
  have G := G hB bv2 bv3 bv4 bv6 by0 by1
  refine f_X3_plate_161 _ _ _ _ _ _ _ _ ?_
  have b44 := G.1
  have G := G.2
  exact PLu_X3_plate_164 G hB rfl bv2 rfl bv3 rfl bv4 (mz_add rfl rfl) b44 rfl bv6 h
def PL_X3_faults_24 (D : qD) (W : mW) (X : String → qH → Prop) (K : Int → mS → Prop) (s : mS) : Prop := MB s → ∀ h, L_X3_faults_24 D (pQI W h K) X (W.1 100) (mh W s h)
theorem PLu_X3_faults_24 {D : qD} {W : mW} {X : String → qH → Prop} {K : Int → mS → Prop} {s : mS} (G : PL_X3_faults_24 D W X K s) (hB : MB s) (h : qH) : L_X3_faults_24 D (pQI W h K) X (W.1 100) (mh W s h) := by
  exact G hB h
def PL_X3_faults_45 (D : qD) (W : mW) (X : String → qH → Prop) (K : Int → mS → Prop) (s : mS) (v1 v2 v3 v4 : Int) : Prop := MB s → bd v1 → bd v2 → bd v3 → bd v4 → ∀ h, L_X3_faults_45 D (pQI W h K) X (W.1 100) (zI v1) (zI v2) (zI v3) (zI v4) (mh W s h)
theorem PLu_X3_faults_45 {D : qD} {W : mW} {X : String → qH → Prop} {K : Int → mS → Prop} {s : mS} {v1 : Int} {xv1 : Int32} {v2 : Int} {xv2 : Int32} {v3 : Int} {xv3 : Int32} {v4 : Int} {xv4 : Int32} (G : PL_X3_faults_45 D W X K s v1 v2 v3 v4) (hB : MB s) (ev1 : xv1 = zI v1) (bv1 : bd v1) (ev2 : xv2 = zI v2) (bv2 : bd v2) (ev3 : xv3 = zI v3) (bv3 : bd v3) (ev4 : xv4 = zI v4) (bv4 : bd v4) (h : qH) : L_X3_faults_45 D (pQI W h K) X (W.1 100) xv1 xv2 xv3 xv4 (mh W s h) := by
  subst ev1
  subst ev2
  subst ev3
  subst ev4
  exact G hB bv1 bv2 bv3 bv4 h
def PL_X3_faults_96 (D : qD) (W : mW) (X : String → qH → Prop) (K : Int → mS → Prop) (s : mS) (v2 v3 : Int) : Prop := MB s → bd v2 → bd v3 → ∀ h, L_X3_faults_96 D (pQI W h K) X (W.1 100) (zI v2) (zI v3) (mh W s h)
theorem PLu_X3_faults_96 {D : qD} {W : mW} {X : String → qH → Prop} {K : Int → mS → Prop} {s : mS} {v2 : Int} {xv2 : Int32} {v3 : Int} {xv3 : Int32} (G : PL_X3_faults_96 D W X K s v2 v3) (hB : MB s) (ev2 : xv2 = zI v2) (bv2 : bd v2) (ev3 : xv3 = zI v3) (bv3 : bd v3) (h : qH) : L_X3_faults_96 D (pQI W h K) X (W.1 100) xv2 xv3 (mh W s h) := by
  subst ev2
  subst ev3
  exact G hB bv2 bv3 h
def PL_X3_faults_87 (D : qD) (W : mW) (X : String → qH → Prop) (K : Int → mS → Prop) (s : mS) (v1 v2 v4 y0 : Int) : Prop := MB s → bd v1 → bd v2 → bd v4 → bd y0 → ∀ h, L_X3_faults_87 D (pQI W h K) X (W.1 100) (zI v1) (zI v2) (zI v4) (zI y0) (mh W s h)
theorem PLu_X3_faults_87 {D : qD} {W : mW} {X : String → qH → Prop} {K : Int → mS → Prop} {s : mS} {v1 : Int} {xv1 : Int32} {v2 : Int} {xv2 : Int32} {v4 : Int} {xv4 : Int32} {y0 : Int} {xy0 : Int32} (G : PL_X3_faults_87 D W X K s v1 v2 v4 y0) (hB : MB s) (ev1 : xv1 = zI v1) (bv1 : bd v1) (ev2 : xv2 = zI v2) (bv2 : bd v2) (ev4 : xv4 = zI v4) (bv4 : bd v4) (ey0 : xy0 = zI y0) (by0 : bd y0) (h : qH) : L_X3_faults_87 D (pQI W h K) X (W.1 100) xv1 xv2 xv4 xy0 (mh W s h) := by
  subst ev1
  subst ev2
  subst ev4
  subst ey0
  exact G hB bv1 bv2 bv4 by0 h
def PL_X3_faults_88 (D : qD) (W : mW) (X : String → qH → Prop) (K : Int → mS → Prop) (s : mS) (v1 v2 v4 y0 y1 : Int) : Prop := MB s → bd v1 → bd v2 → bd v4 → bd y0 → bd y1 → ∀ h, L_X3_faults_88 D (pQI W h K) X (W.1 100) (zI v1) (zI v2) (zI v4) (zI y0) (zI y1) (mh W s h)
theorem PLu_X3_faults_88 {D : qD} {W : mW} {X : String → qH → Prop} {K : Int → mS → Prop} {s : mS} {v1 : Int} {xv1 : Int32} {v2 : Int} {xv2 : Int32} {v4 : Int} {xv4 : Int32} {y0 : Int} {xy0 : Int32} {y1 : Int} {xy1 : Int32} (G : PL_X3_faults_88 D W X K s v1 v2 v4 y0 y1) (hB : MB s) (ev1 : xv1 = zI v1) (bv1 : bd v1) (ev2 : xv2 = zI v2) (bv2 : bd v2) (ev4 : xv4 = zI v4) (bv4 : bd v4) (ey0 : xy0 = zI y0) (by0 : bd y0) (ey1 : xy1 = zI y1) (by1 : bd y1) (h : qH) : L_X3_faults_88 D (pQI W h K) X (W.1 100) xv1 xv2 xv4 xy0 xy1 (mh W s h) := by
  subst ev1
  subst ev2
  subst ev4
  subst ey0
  subst ey1
  exact G hB bv1 bv2 bv4 by0 by1 h
def PL_X3_faults_99 (D : qD) (W : mW) (X : String → qH → Prop) (K : Int → mS → Prop) (s : mS) (v2 v3 v4 : Int) : Prop := MB s → bd v2 → bd v3 → bd v4 → ∀ h, L_X3_faults_99 D (pQI W h K) X (W.1 100) (zI v2) (zI v3) (zI v4) (mh W s h)
theorem PLu_X3_faults_99 {D : qD} {W : mW} {X : String → qH → Prop} {K : Int → mS → Prop} {s : mS} {v2 : Int} {xv2 : Int32} {v3 : Int} {xv3 : Int32} {v4 : Int} {xv4 : Int32} (G : PL_X3_faults_99 D W X K s v2 v3 v4) (hB : MB s) (ev2 : xv2 = zI v2) (bv2 : bd v2) (ev3 : xv3 = zI v3) (bv3 : bd v3) (ev4 : xv4 = zI v4) (bv4 : bd v4) (h : qH) : L_X3_faults_99 D (pQI W h K) X (W.1 100) xv2 xv3 xv4 (mh W s h) := by
  subst ev2
  subst ev3
  subst ev4
  exact G hB bv2 bv3 bv4 h
def PL_X3_faults_141 (D : qD) (W : mW) (X : String → qH → Prop) (K : Int → mS → Prop) (s : mS) (v2 v3 : Int) : Prop := MB s → bd v2 → bd v3 → ∀ h, L_X3_faults_141 D (pQI W h K) X (W.1 100) (zI v2) (zI v3) (mh W s h)
theorem PLu_X3_faults_141 {D : qD} {W : mW} {X : String → qH → Prop} {K : Int → mS → Prop} {s : mS} {v2 : Int} {xv2 : Int32} {v3 : Int} {xv3 : Int32} (G : PL_X3_faults_141 D W X K s v2 v3) (hB : MB s) (ev2 : xv2 = zI v2) (bv2 : bd v2) (ev3 : xv3 = zI v3) (bv3 : bd v3) (h : qH) : L_X3_faults_141 D (pQI W h K) X (W.1 100) xv2 xv3 (mh W s h) := by
  subst ev2
  subst ev3
  exact G hB bv2 bv3 h
def PL_X3_faults_133 (D : qD) (W : mW) (X : String → qH → Prop) (K : Int → mS → Prop) (s : mS) (v2 v4 y0 y1 : Int) : Prop := MB s → bd v2 → bd v4 → bd y0 → bd y1 → ∀ h, L_X3_faults_133 D (pQI W h K) X (W.1 100) (zI v2) (zI v4) (zI y0) (zI y1) (mh W s h)
theorem PLu_X3_faults_133 {D : qD} {W : mW} {X : String → qH → Prop} {K : Int → mS → Prop} {s : mS} {v2 : Int} {xv2 : Int32} {v4 : Int} {xv4 : Int32} {y0 : Int} {xy0 : Int32} {y1 : Int} {xy1 : Int32} (G : PL_X3_faults_133 D W X K s v2 v4 y0 y1) (hB : MB s) (ev2 : xv2 = zI v2) (bv2 : bd v2) (ev4 : xv4 = zI v4) (bv4 : bd v4) (ey0 : xy0 = zI y0) (by0 : bd y0) (ey1 : xy1 = zI y1) (by1 : bd y1) (h : qH) : L_X3_faults_133 D (pQI W h K) X (W.1 100) xv2 xv4 xy0 xy1 (mh W s h) := by
  subst ev2
  subst ev4
  subst ey0
  subst ey1
  exact G hB bv2 bv4 by0 by1 h
def PL_X3_faults_144 (D : qD) (W : mW) (X : String → qH → Prop) (K : Int → mS → Prop) (s : mS) (v2 v3 v4 : Int) : Prop := MB s → bd v2 → bd v3 → bd v4 → ∀ h, L_X3_faults_144 D (pQI W h K) X (W.1 100) (zI v2) (zI v3) (zI v4) (mh W s h)
theorem PLu_X3_faults_144 {D : qD} {W : mW} {X : String → qH → Prop} {K : Int → mS → Prop} {s : mS} {v2 : Int} {xv2 : Int32} {v3 : Int} {xv3 : Int32} {v4 : Int} {xv4 : Int32} (G : PL_X3_faults_144 D W X K s v2 v3 v4) (hB : MB s) (ev2 : xv2 = zI v2) (bv2 : bd v2) (ev3 : xv3 = zI v3) (bv3 : bd v3) (ev4 : xv4 = zI v4) (bv4 : bd v4) (h : qH) : L_X3_faults_144 D (pQI W h K) X (W.1 100) xv2 xv3 xv4 (mh W s h) := by
  subst ev2
  subst ev3
  subst ev4
  exact G hB bv2 bv3 bv4 h
def PL_X3_faults_197 (D : qD) (W : mW) (X : String → qH → Prop) (K : Int → mS → Prop) (s : mS) (v2 v3 : Int) : Prop := MB s → bd v2 → bd v3 → ∀ h, L_X3_faults_197 D (pQI W h K) X (W.1 100) (zI v2) (zI v3) (mh W s h)
theorem PLu_X3_faults_197 {D : qD} {W : mW} {X : String → qH → Prop} {K : Int → mS → Prop} {s : mS} {v2 : Int} {xv2 : Int32} {v3 : Int} {xv3 : Int32} (G : PL_X3_faults_197 D W X K s v2 v3) (hB : MB s) (ev2 : xv2 = zI v2) (bv2 : bd v2) (ev3 : xv3 = zI v3) (bv3 : bd v3) (h : qH) : L_X3_faults_197 D (pQI W h K) X (W.1 100) xv2 xv3 (mh W s h) := by
  subst ev2
  subst ev3
  exact G hB bv2 bv3 h
def PL_X3_faults_188 (D : qD) (W : mW) (X : String → qH → Prop) (K : Int → mS → Prop) (s : mS) (v2 v4 y0 : Int) : Prop := MB s → bd v2 → bd v4 → bd y0 → ∀ h, L_X3_faults_188 D (pQI W h K) X (W.1 100) (zI v2) (zI v4) (zI y0) (mh W s h)
theorem PLu_X3_faults_188 {D : qD} {W : mW} {X : String → qH → Prop} {K : Int → mS → Prop} {s : mS} {v2 : Int} {xv2 : Int32} {v4 : Int} {xv4 : Int32} {y0 : Int} {xy0 : Int32} (G : PL_X3_faults_188 D W X K s v2 v4 y0) (hB : MB s) (ev2 : xv2 = zI v2) (bv2 : bd v2) (ev4 : xv4 = zI v4) (bv4 : bd v4) (ey0 : xy0 = zI y0) (by0 : bd y0) (h : qH) : L_X3_faults_188 D (pQI W h K) X (W.1 100) xv2 xv4 xy0 (mh W s h) := by
  subst ev2
  subst ev4
  subst ey0
  exact G hB bv2 bv4 by0 h
def PL_X3_faults_189 (D : qD) (W : mW) (X : String → qH → Prop) (K : Int → mS → Prop) (s : mS) (v2 v4 y0 y1 : Int) : Prop := MB s → bd v2 → bd v4 → bd y0 → bd y1 → ∀ h, L_X3_faults_189 D (pQI W h K) X (W.1 100) (zI v2) (zI v4) (zI y0) (zI y1) (mh W s h)
theorem PLu_X3_faults_189 {D : qD} {W : mW} {X : String → qH → Prop} {K : Int → mS → Prop} {s : mS} {v2 : Int} {xv2 : Int32} {v4 : Int} {xv4 : Int32} {y0 : Int} {xy0 : Int32} {y1 : Int} {xy1 : Int32} (G : PL_X3_faults_189 D W X K s v2 v4 y0 y1) (hB : MB s) (ev2 : xv2 = zI v2) (bv2 : bd v2) (ev4 : xv4 = zI v4) (bv4 : bd v4) (ey0 : xy0 = zI y0) (by0 : bd y0) (ey1 : xy1 = zI y1) (by1 : bd y1) (h : qH) : L_X3_faults_189 D (pQI W h K) X (W.1 100) xv2 xv4 xy0 xy1 (mh W s h) := by
  subst ev2
  subst ev4
  subst ey0
  subst ey1
  exact G hB bv2 bv4 by0 by1 h
def PL_X3_faults_200 (D : qD) (W : mW) (X : String → qH → Prop) (K : Int → mS → Prop) (s : mS) (v2 v3 v4 : Int) : Prop := MB s → bd v2 → bd v3 → bd v4 → ∀ h, L_X3_faults_200 D (pQI W h K) X (W.1 100) (zI v2) (zI v3) (zI v4) (mh W s h)
theorem PLu_X3_faults_200 {D : qD} {W : mW} {X : String → qH → Prop} {K : Int → mS → Prop} {s : mS} {v2 : Int} {xv2 : Int32} {v3 : Int} {xv3 : Int32} {v4 : Int} {xv4 : Int32} (G : PL_X3_faults_200 D W X K s v2 v3 v4) (hB : MB s) (ev2 : xv2 = zI v2) (bv2 : bd v2) (ev3 : xv3 = zI v3) (bv3 : bd v3) (ev4 : xv4 = zI v4) (bv4 : bd v4) (h : qH) : L_X3_faults_200 D (pQI W h K) X (W.1 100) xv2 xv3 xv4 (mh W s h) := by
  subst ev2
  subst ev3
  subst ev4
  exact G hB bv2 bv3 bv4 h
def PL_X3_faults_250 (D : qD) (W : mW) (X : String → qH → Prop) (K : Int → mS → Prop) (s : mS) (v2 v3 : Int) : Prop := MB s → bd v2 → bd v3 → ∀ h, L_X3_faults_250 D (pQI W h K) X (W.1 100) (zI v2) (zI v3) (mh W s h)
theorem PLu_X3_faults_250 {D : qD} {W : mW} {X : String → qH → Prop} {K : Int → mS → Prop} {s : mS} {v2 : Int} {xv2 : Int32} {v3 : Int} {xv3 : Int32} (G : PL_X3_faults_250 D W X K s v2 v3) (hB : MB s) (ev2 : xv2 = zI v2) (bv2 : bd v2) (ev3 : xv3 = zI v3) (bv3 : bd v3) (h : qH) : L_X3_faults_250 D (pQI W h K) X (W.1 100) xv2 xv3 (mh W s h) := by
  subst ev2
  subst ev3
  exact G hB bv2 bv3 h
def PL_X3_faults_241 (D : qD) (W : mW) (X : String → qH → Prop) (K : Int → mS → Prop) (s : mS) (v2 v4 y0 : Int) : Prop := MB s → bd v2 → bd v4 → bd y0 → ∀ h, L_X3_faults_241 D (pQI W h K) X (W.1 100) (zI v2) (zI v4) (zI y0) (mh W s h)
theorem PLu_X3_faults_241 {D : qD} {W : mW} {X : String → qH → Prop} {K : Int → mS → Prop} {s : mS} {v2 : Int} {xv2 : Int32} {v4 : Int} {xv4 : Int32} {y0 : Int} {xy0 : Int32} (G : PL_X3_faults_241 D W X K s v2 v4 y0) (hB : MB s) (ev2 : xv2 = zI v2) (bv2 : bd v2) (ev4 : xv4 = zI v4) (bv4 : bd v4) (ey0 : xy0 = zI y0) (by0 : bd y0) (h : qH) : L_X3_faults_241 D (pQI W h K) X (W.1 100) xv2 xv4 xy0 (mh W s h) := by
  subst ev2
  subst ev4
  subst ey0
  exact G hB bv2 bv4 by0 h
def PL_X3_faults_242 (D : qD) (W : mW) (X : String → qH → Prop) (K : Int → mS → Prop) (s : mS) (v2 v4 y0 y1 : Int) : Prop := MB s → bd v2 → bd v4 → bd y0 → bd y1 → ∀ h, L_X3_faults_242 D (pQI W h K) X (W.1 100) (zI v2) (zI v4) (zI y0) (zI y1) (mh W s h)
theorem PLu_X3_faults_242 {D : qD} {W : mW} {X : String → qH → Prop} {K : Int → mS → Prop} {s : mS} {v2 : Int} {xv2 : Int32} {v4 : Int} {xv4 : Int32} {y0 : Int} {xy0 : Int32} {y1 : Int} {xy1 : Int32} (G : PL_X3_faults_242 D W X K s v2 v4 y0 y1) (hB : MB s) (ev2 : xv2 = zI v2) (bv2 : bd v2) (ev4 : xv4 = zI v4) (bv4 : bd v4) (ey0 : xy0 = zI y0) (by0 : bd y0) (ey1 : xy1 = zI y1) (by1 : bd y1) (h : qH) : L_X3_faults_242 D (pQI W h K) X (W.1 100) xv2 xv4 xy0 xy1 (mh W s h) := by
  subst ev2
  subst ev4
  subst ey0
  subst ey1
  exact G hB bv2 bv4 by0 by1 h
theorem p_X3_faults {D : qD} {W : mW} {X : String → qH → Prop} {K : Int → mS → Prop} (hW : mOK D W) {s : mS} (hB : MB s) {p0 : Int} (bp0 : bd p0) {p1 : Int} (bp1 : bd p1) (G : (((mIn p0 0 3) = 0 → PL_X3_faults_24 D W X K s) ∧ (¬ (mIn p0 0 3) = 0 → ((¬ (mIn p1 0 4) = 0 → pV D W X m_X3_lay [p0] (mF s 37 0) (fun s2 => PL_X3_faults_45 D W X K s2 p0 p1 0 0)) ∧ ((mIn p1 0 4) = 0 → PL_X3_faults_24 D W X K s))))) : pI D W X m_X3_faults [p0, p1] s K := by
  intro h
  refine f_X3_faults _ _ _ _ ?_
  refine mcIn (a := p0) (b := 0) (c := 3) (mz_l rfl bp0) rfl rfl bp0 (bdl rfl) (bdl rfl) ?_
  refine ⟨fun w6 => ?_, fun w6 => ?_⟩
  · have G := G.1 ((mz_eq rfl zl_0 bdIn (bdl rfl)).mp w6)
    exact PLu_X3_faults_24 G hB h
  · have G := G.2 (fun u => w6 ((mz_eq rfl zl_0 bdIn (bdl rfl)).mpr u))
    refine mcIn (a := p1) (b := 0) (c := 4) (mz_l rfl bp1) rfl rfl bp1 (bdl rfl) (bdl rfl) ?_
    refine ⟨fun w5 => ?_, fun w5 => ?_⟩
    · have G := G.1 (fun u => w5 ((mz_eq rfl zl_0 bdIn (bdl rfl)).mpr u))
      refine mpF hW rfl zl_0 ?_
      refine ⟨mrc hW, mcV G (mv1 rfl) (fun s2 hB4 G => ?_)⟩
      exact PLu_X3_faults_45 G hB4 rfl bp0 rfl bp1 zl_0 (bdl rfl) zl_0 (bdl rfl) h
    · have G := G.2 ((mz_eq rfl zl_0 bdIn (bdl rfl)).mp w5)
      exact PLu_X3_faults_24 G hB h
theorem p_X3_faults_24 {D : qD} {W : mW} {X : String → qH → Prop} {K : Int → mS → Prop} (hW : mOK D W) {s : mS} (G : MB s → pI D W X m_X3_fails [1] s (fun z7 s8 => K z7 s8)) : PL_X3_faults_24 D W X K s := by
  intro hB h
  have G := G hB
  refine f_X3_faults_24 _ _ ?_
  refine ⟨mrc hW, mcI G (mv1 zl_1) (fun z7 s8 b9 hB10 G => ?_)⟩
  exact mretI rfl b9 hB10 G
theorem p_X3_faults_45 {D : qD} {W : mW} {X : String → qH → Prop} {K : Int → mS → Prop} (hW : mOK D W) {s : mS} {v1 : Int} {v2 : Int} {v3 : Int} {v4 : Int} (G : MB s → bd v1 → bd v2 → bd v3 → bd v4 → (((s.1 0) ≤ v4 → PL_X3_faults_96 D W X K s v2 v3) ∧ (¬ (s.1 0) ≤ v4 → ((¬ v2 = 0 → PL_X3_faults_96 D W X K s v2 v3) ∧ (v2 = 0 → pI D W X m_X3_isPrinted [v1, v4] s (fun z11 s12 => ((z11 = 0 → PL_X3_faults_87 D W X K s12 v1 v2 v4 v3) ∧ (¬ z11 = 0 → pI D W X m_X3_wide [v1, v4] s12 (fun z15 s16 => ((z15 ≤ (s16.1 8) → PL_X3_faults_87 D W X K s16 v1 v2 v4 v3) ∧ (¬ z15 ≤ (s16.1 8) → PL_X3_faults_88 D W X K s16 v1 v2 v4 1 v3))))))))))) : PL_X3_faults_45 D W X K s v1 v2 v3 v4 := by
  intro hB bv1 bv2 bv3 bv4 h
  have G := G hB bv1 bv2 bv3 bv4
  refine f_X3_faults_45 _ _ _ _ _ _ ?_
  refine mgI hW rfl ?_
  refine ⟨fun w22 => ?_, fun w22 => ?_⟩
  · have G := G.1 ((mz_le rfl rfl (hB.1 0) bv4).mp w22)
    exact PLu_X3_faults_96 G hB rfl bv2 rfl bv3 h
  · have G := G.2 (fun u => w22 ((mz_le rfl rfl (hB.1 0) bv4).mpr u))
    refine ⟨fun w21 => ?_, fun w21 => ?_⟩
    · have G := G.1 (fun u => w21 ((mz_eq rfl zl_0 bv2 (bdl rfl)).mpr u))
      exact PLu_X3_faults_96 G hB rfl bv2 rfl bv3 h
    · have G := G.2 ((mz_eq rfl zl_0 bv2 (bdl rfl)).mp w21)
      refine ⟨mrc hW, mcI G (mv2 rfl rfl) (fun z11 s12 b13 hB14 G => ?_)⟩
      refine ⟨fun w20 => ?_, fun w20 => ?_⟩
      · have G := G.1 ((mz_eq rfl zl_0 b13 (bdl rfl)).mp w20)
        exact PLu_X3_faults_87 G hB14 rfl bv1 rfl bv2 rfl bv4 rfl bv3 h
      · have G := G.2 (fun u => w20 ((mz_eq rfl zl_0 b13 (bdl rfl)).mpr u))
        refine ⟨mrc hW, mcI G (mv2 rfl rfl) (fun z15 s16 b17 hB18 G => ?_)⟩
        refine mgI hW rfl ?_
        refine ⟨fun w19 => ?_, fun w19 => ?_⟩
        · have G := G.1 ((mz_le rfl rfl b17 (hB18.1 8)).mp w19)
          exact PLu_X3_faults_87 G hB18 rfl bv1 rfl bv2 rfl bv4 rfl bv3 h
        · have G := G.2 (fun u => w19 ((mz_le rfl rfl b17 (hB18.1 8)).mpr u))
          exact PLu_X3_faults_88 G hB18 rfl bv1 rfl bv2 rfl bv4 zl_1 (bdl rfl) rfl bv3 h
theorem p_X3_faults_96 {D : qD} {W : mW} {X : String → qH → Prop} {K : Int → mS → Prop} (hW : mOK D W) {s : mS} {v2 : Int} {v3 : Int} (G : MB s → bd v2 → bd v3 → PL_X3_faults_99 D W X K s v2 v3 0) : PL_X3_faults_96 D W X K s v2 v3 := by
  intro hB bv2 bv3 h
  have G := G hB bv2 bv3
  refine f_X3_faults_96 _ _ _ _ ?_
  exact PLu_X3_faults_99 G hB rfl bv2 rfl bv3 zl_0 (bdl rfl) h
theorem p_X3_faults_87 {D : qD} {W : mW} {X : String → qH → Prop} {K : Int → mS → Prop} (hW : mOK D W) {s : mS} {v1 : Int} {v2 : Int} {v4 : Int} {y0 : Int} (G : MB s → bd v1 → bd v2 → bd v4 → bd y0 → PL_X3_faults_88 D W X K s v1 v2 v4 0 y0) : PL_X3_faults_87 D W X K s v1 v2 v4 y0 := by
  intro hB bv1 bv2 bv4 by0 h
  have G := G hB bv1 bv2 bv4 by0
  refine f_X3_faults_87 _ _ _ _ _ _ ?_
  exact PLu_X3_faults_88 G hB rfl bv1 rfl bv2 rfl bv4 zl_0 (bdl rfl) rfl by0 h
theorem p_X3_faults_88 {D : qD} {W : mW} {X : String → qH → Prop} {K : Int → mS → Prop} (hW : mOK D W) {s : mS} {v1 : Int} {v2 : Int} {v4 : Int} {y0 : Int} {y1 : Int} (G : MB s → bd v1 → bd v2 → bd v4 → bd y0 → bd y1 → (bd (y1 + y0) ∧ (bd (v4 + 1) ∧ PL_X3_faults_45 D W X K s v1 v2 (y1 + y0) (v4 + 1)))) : PL_X3_faults_88 D W X K s v1 v2 v4 y0 y1 := by
  intro hB bv1 bv2 bv4 by0 by1 h
  have G := G hB bv1 bv2 bv4 by0 by1
  refine f_X3_faults_88 _ _ _ _ _ _ _ ?_
  have b23 := G.1
  have G := G.2
  have b24 := G.1
  have G := G.2
  exact PLu_X3_faults_45 G hB rfl bv1 rfl bv2 (mz_add rfl rfl) b23 (mz_add rfl zl_1) b24 h
theorem p_X3_faults_99 {D : qD} {W : mW} {X : String → qH → Prop} {K : Int → mS → Prop} (hW : mOK D W) {s : mS} {v2 : Int} {v3 : Int} {v4 : Int} (G : MB s → bd v2 → bd v3 → bd v4 → (((s.1 14) ≤ v4 → PL_X3_faults_141 D W X K s v2 v3) ∧ (¬ (s.1 14) ≤ v4 → ((¬ v2 = 1 → PL_X3_faults_141 D W X K s v2 v3) ∧ (v2 = 1 → pI D W X m_X3_needs [v4, 0] s (fun z25 s26 => ((z25 ≤ (s26.1 9) → PL_X3_faults_133 D W X K s26 v2 v4 0 v3) ∧ (¬ z25 ≤ (s26.1 9) → PL_X3_faults_133 D W X K s26 v2 v4 1 v3)))))))) : PL_X3_faults_99 D W X K s v2 v3 v4 := by
  intro hB bv2 bv3 bv4 h
  have G := G hB bv2 bv3 bv4
  refine f_X3_faults_99 _ _ _ _ _ ?_
  refine mgI hW rfl ?_
  refine ⟨fun w31 => ?_, fun w31 => ?_⟩
  · have G := G.1 ((mz_le rfl rfl (hB.1 14) bv4).mp w31)
    exact PLu_X3_faults_141 G hB rfl bv2 rfl bv3 h
  · have G := G.2 (fun u => w31 ((mz_le rfl rfl (hB.1 14) bv4).mpr u))
    refine ⟨fun w30 => ?_, fun w30 => ?_⟩
    · have G := G.1 (fun u => w30 ((mz_eq rfl zl_1 bv2 (bdl rfl)).mpr u))
      exact PLu_X3_faults_141 G hB rfl bv2 rfl bv3 h
    · have G := G.2 ((mz_eq rfl zl_1 bv2 (bdl rfl)).mp w30)
      refine ⟨mrc hW, mcI G (mv2 rfl zl_0) (fun z25 s26 b27 hB28 G => ?_)⟩
      refine mgI hW rfl ?_
      refine ⟨fun w29 => ?_, fun w29 => ?_⟩
      · have G := G.1 ((mz_le rfl rfl b27 (hB28.1 9)).mp w29)
        exact PLu_X3_faults_133 G hB28 rfl bv2 rfl bv4 zl_0 (bdl rfl) rfl bv3 h
      · have G := G.2 (fun u => w29 ((mz_le rfl rfl b27 (hB28.1 9)).mpr u))
        exact PLu_X3_faults_133 G hB28 rfl bv2 rfl bv4 zl_1 (bdl rfl) rfl bv3 h
theorem p_X3_faults_141 {D : qD} {W : mW} {X : String → qH → Prop} {K : Int → mS → Prop} (hW : mOK D W) {s : mS} {v2 : Int} {v3 : Int} (G : MB s → bd v2 → bd v3 → PL_X3_faults_144 D W X K s v2 v3 0) : PL_X3_faults_141 D W X K s v2 v3 := by
  intro hB bv2 bv3 h
  have G := G hB bv2 bv3
  refine f_X3_faults_141 _ _ _ _ ?_
  exact PLu_X3_faults_144 G hB rfl bv2 rfl bv3 zl_0 (bdl rfl) h
theorem p_X3_faults_133 {D : qD} {W : mW} {X : String → qH → Prop} {K : Int → mS → Prop} (hW : mOK D W) {s : mS} {v2 : Int} {v4 : Int} {y0 : Int} {y1 : Int} (G : MB s → bd v2 → bd v4 → bd y0 → bd y1 → (bd (y1 + y0) ∧ (bd (v4 + 1) ∧ PL_X3_faults_99 D W X K s v2 (y1 + y0) (v4 + 1)))) : PL_X3_faults_133 D W X K s v2 v4 y0 y1 := by
  intro hB bv2 bv4 by0 by1 h
  have G := G hB bv2 bv4 by0 by1
  refine f_X3_faults_133 _ _ _ _ _ _ ?_
  have b32 := G.1
  have G := G.2
  have b33 := G.1
  have G := G.2
  exact PLu_X3_faults_99 G hB rfl bv2 (mz_add rfl rfl) b32 (mz_add rfl zl_1) b33 h
theorem p_X3_faults_144 {D : qD} {W : mW} {X : String → qH → Prop} {K : Int → mS → Prop} (hW : mOK D W) {s : mS} {v2 : Int} {v3 : Int} {v4 : Int} (G : MB s → bd v2 → bd v3 → bd v4 → (((s.1 0) ≤ v4 → PL_X3_faults_197 D W X K s v2 v3) ∧ (¬ (s.1 0) ≤ v4 → ((¬ v2 = 2 → PL_X3_faults_197 D W X K s v2 v3) ∧ (v2 = 2 → ((0 ≤ v4 ∧ v4 < 120) ∧ ((¬ (s.2 1 v4) = 4 → PL_X3_faults_188 D W X K s v2 v4 v3) ∧ ((s.2 1 v4) = 4 → ((0 ≤ v4 ∧ v4 < 120) ∧ (((s.2 2 v4) ≤ (s.1 9) → PL_X3_faults_188 D W X K s v2 v4 v3) ∧ (¬ (s.2 2 v4) ≤ (s.1 9) → PL_X3_faults_189 D W X K s v2 v4 1 v3))))))))))) : PL_X3_faults_144 D W X K s v2 v3 v4 := by
  intro hB bv2 bv3 bv4 h
  have G := G hB bv2 bv3 bv4
  refine f_X3_faults_144 _ _ _ _ _ ?_
  refine mgI hW rfl ?_
  refine ⟨fun w39 => ?_, fun w39 => ?_⟩
  · have G := G.1 ((mz_le rfl rfl (hB.1 0) bv4).mp w39)
    exact PLu_X3_faults_197 G hB rfl bv2 rfl bv3 h
  · have G := G.2 (fun u => w39 ((mz_le rfl rfl (hB.1 0) bv4).mpr u))
    refine ⟨fun w38 => ?_, fun w38 => ?_⟩
    · have G := G.1 (fun u => w38 ((mz_eq rfl zl_2 bv2 (bdl rfl)).mpr u))
      exact PLu_X3_faults_197 G hB rfl bv2 rfl bv3 h
    · have G := G.2 ((mz_eq rfl zl_2 bv2 (bdl rfl)).mp w38)
      refine mgR hW rfl ?_
      have c37 := G.1
      have G := G.2
      refine maI hW rfl rfl rfl rfl c37 ?_
      refine ⟨fun w36 => ?_, fun w36 => ?_⟩
      · have G := G.1 (fun u => w36 ((mz_eq rfl zl_4 (hB.2 1 v4) (bdl rfl)).mpr u))
        exact PLu_X3_faults_188 G hB rfl bv2 rfl bv4 rfl bv3 h
      · have G := G.2 ((mz_eq rfl zl_4 (hB.2 1 v4) (bdl rfl)).mp w36)
        refine mgR hW rfl ?_
        have c35 := G.1
        have G := G.2
        refine maI hW rfl rfl rfl rfl c35 ?_
        refine mgI hW rfl ?_
        refine ⟨fun w34 => ?_, fun w34 => ?_⟩
        · have G := G.1 ((mz_le rfl rfl (hB.2 2 v4) (hB.1 9)).mp w34)
          exact PLu_X3_faults_188 G hB rfl bv2 rfl bv4 rfl bv3 h
        · have G := G.2 (fun u => w34 ((mz_le rfl rfl (hB.2 2 v4) (hB.1 9)).mpr u))
          exact PLu_X3_faults_189 G hB rfl bv2 rfl bv4 zl_1 (bdl rfl) rfl bv3 h
theorem p_X3_faults_197 {D : qD} {W : mW} {X : String → qH → Prop} {K : Int → mS → Prop} (hW : mOK D W) {s : mS} {v2 : Int} {v3 : Int} (G : MB s → bd v2 → bd v3 → PL_X3_faults_200 D W X K s v2 v3 0) : PL_X3_faults_197 D W X K s v2 v3 := by
  intro hB bv2 bv3 h
  have G := G hB bv2 bv3
  refine f_X3_faults_197 _ _ _ _ ?_
  exact PLu_X3_faults_200 G hB rfl bv2 rfl bv3 zl_0 (bdl rfl) h
theorem p_X3_faults_188 {D : qD} {W : mW} {X : String → qH → Prop} {K : Int → mS → Prop} (hW : mOK D W) {s : mS} {v2 : Int} {v4 : Int} {y0 : Int} (G : MB s → bd v2 → bd v4 → bd y0 → PL_X3_faults_189 D W X K s v2 v4 0 y0) : PL_X3_faults_188 D W X K s v2 v4 y0 := by
  intro hB bv2 bv4 by0 h
  have G := G hB bv2 bv4 by0
  refine f_X3_faults_188 _ _ _ _ _ ?_
  exact PLu_X3_faults_189 G hB rfl bv2 rfl bv4 zl_0 (bdl rfl) rfl by0 h
theorem p_X3_faults_189 {D : qD} {W : mW} {X : String → qH → Prop} {K : Int → mS → Prop} (hW : mOK D W) {s : mS} {v2 : Int} {v4 : Int} {y0 : Int} {y1 : Int} (G : MB s → bd v2 → bd v4 → bd y0 → bd y1 → (bd (y1 + y0) ∧ (bd (v4 + 1) ∧ PL_X3_faults_144 D W X K s v2 (y1 + y0) (v4 + 1)))) : PL_X3_faults_189 D W X K s v2 v4 y0 y1 := by
  intro hB bv2 bv4 by0 by1 h
  have G := G hB bv2 bv4 by0 by1
  refine f_X3_faults_189 _ _ _ _ _ _ ?_
  have b40 := G.1
  have G := G.2
  have b41 := G.1
  have G := G.2
  exact PLu_X3_faults_144 G hB rfl bv2 (mz_add rfl rfl) b40 (mz_add rfl zl_1) b41 h
theorem p_X3_faults_200 {D : qD} {W : mW} {X : String → qH → Prop} {K : Int → mS → Prop} (hW : mOK D W) {s : mS} {v2 : Int} {v3 : Int} {v4 : Int} (G : MB s → bd v2 → bd v3 → bd v4 → ((10 ≤ v4 → PL_X3_faults_250 D W X K s v2 v3) ∧ (¬ 10 ≤ v4 → ((¬ v2 = 4 → PL_X3_faults_250 D W X K s v2 v3) ∧ (v2 = 4 → ((0 ≤ v4 ∧ v4 < 10) ∧ (((s.2 11 v4) = (-1) → PL_X3_faults_241 D W X K s v2 v4 v3) ∧ (¬ (s.2 11 v4) = (-1) → pI D W X m_X3_lastOf [v4] s (fun z42 s43 => pI D W X m_X3_isMarked [z42] s43 (fun z46 s47 => ((¬ z46 = 0 → PL_X3_faults_241 D W X K s47 v2 v4 v3) ∧ (z46 = 0 → PL_X3_faults_242 D W X K s47 v2 v4 1 v3)))))))))))) : PL_X3_faults_200 D W X K s v2 v3 v4 := by
  intro hB bv2 bv3 bv4 h
  have G := G hB bv2 bv3 bv4
  refine f_X3_faults_200 _ _ _ _ _ ?_
  refine ⟨fun w54 => ?_, fun w54 => ?_⟩
  · have G := G.1 ((mz_le zl_10 rfl (bdl rfl) bv4).mp w54)
    exact PLu_X3_faults_250 G hB rfl bv2 rfl bv3 h
  · have G := G.2 (fun u => w54 ((mz_le zl_10 rfl (bdl rfl) bv4).mpr u))
    refine ⟨fun w53 => ?_, fun w53 => ?_⟩
    · have G := G.1 (fun u => w53 ((mz_eq rfl zl_4 bv2 (bdl rfl)).mpr u))
      exact PLu_X3_faults_250 G hB rfl bv2 rfl bv3 h
    · have G := G.2 ((mz_eq rfl zl_4 bv2 (bdl rfl)).mp w53)
      refine mgR hW rfl ?_
      have c52 := G.1
      have G := G.2
      refine maI hW rfl rfl rfl rfl c52 ?_
      refine ⟨fun w51 => ?_, fun w51 => ?_⟩
      · have G := G.1 ((mz_eq rfl zl_m1 (hB.2 11 v4) (bdl rfl)).mp w51)
        exact PLu_X3_faults_241 G hB rfl bv2 rfl bv4 rfl bv3 h
      · have G := G.2 (fun u => w51 ((mz_eq rfl zl_m1 (hB.2 11 v4) (bdl rfl)).mpr u))
        refine ⟨mrc hW, mcI G (mv1 rfl) (fun z42 s43 b44 hB45 G => ?_)⟩
        refine ⟨mrc hW, mcI G (mv1 rfl) (fun z46 s47 b48 hB49 G => ?_)⟩
        refine ⟨fun w50 => ?_, fun w50 => ?_⟩
        · have G := G.1 (fun u => w50 ((mz_eq rfl zl_0 b48 (bdl rfl)).mpr u))
          exact PLu_X3_faults_241 G hB49 rfl bv2 rfl bv4 rfl bv3 h
        · have G := G.2 ((mz_eq rfl zl_0 b48 (bdl rfl)).mp w50)
          exact PLu_X3_faults_242 G hB49 rfl bv2 rfl bv4 zl_1 (bdl rfl) rfl bv3 h
theorem p_X3_faults_250 {D : qD} {W : mW} {X : String → qH → Prop} {K : Int → mS → Prop} (hW : mOK D W) {s : mS} {v2 : Int} {v3 : Int} (G : MB s → bd v2 → bd v3 → ((¬ v2 = 3 → K v3 s) ∧ (v2 = 3 → (((s.1 24) = 0 → K 1 s) ∧ (¬ (s.1 24) = 0 → K 0 s))))) : PL_X3_faults_250 D W X K s v2 v3 := by
  intro hB bv2 bv3 h
  have G := G hB bv2 bv3
  refine f_X3_faults_250 _ _ _ _ ?_
  refine ⟨fun w56 => ?_, fun w56 => ?_⟩
  · have G := G.1 (fun u => w56 ((mz_eq rfl zl_3 bv2 (bdl rfl)).mpr u))
    exact mretI rfl bv3 hB G
  · have G := G.2 ((mz_eq rfl zl_3 bv2 (bdl rfl)).mp w56)
    refine mgI hW rfl ?_
    refine ⟨fun w55 => ?_, fun w55 => ?_⟩
    · have G := G.1 ((mz_eq rfl zl_0 (hB.1 24) (bdl rfl)).mp w55)
      exact mretI zl_1 (bdl rfl) hB G
    · have G := G.2 (fun u => w55 ((mz_eq rfl zl_0 (hB.1 24) (bdl rfl)).mpr u))
      exact mretI zl_0 (bdl rfl) hB G
theorem p_X3_faults_241 {D : qD} {W : mW} {X : String → qH → Prop} {K : Int → mS → Prop} (hW : mOK D W) {s : mS} {v2 : Int} {v4 : Int} {y0 : Int} (G : MB s → bd v2 → bd v4 → bd y0 → PL_X3_faults_242 D W X K s v2 v4 0 y0) : PL_X3_faults_241 D W X K s v2 v4 y0 := by
  intro hB bv2 bv4 by0 h
  have G := G hB bv2 bv4 by0
  refine f_X3_faults_241 _ _ _ _ _ ?_
  exact PLu_X3_faults_242 G hB rfl bv2 rfl bv4 zl_0 (bdl rfl) rfl by0 h
theorem p_X3_faults_242 {D : qD} {W : mW} {X : String → qH → Prop} {K : Int → mS → Prop} (hW : mOK D W) {s : mS} {v2 : Int} {v4 : Int} {y0 : Int} {y1 : Int} (G : MB s → bd v2 → bd v4 → bd y0 → bd y1 → (bd (y1 + y0) ∧ (bd (v4 + 1) ∧ PL_X3_faults_200 D W X K s v2 (y1 + y0) (v4 + 1)))) : PL_X3_faults_242 D W X K s v2 v4 y0 y1 := by
  intro hB bv2 bv4 by0 by1 h
  have G := G hB bv2 bv4 by0 by1
  refine f_X3_faults_242 _ _ _ _ _ _ ?_
  have b57 := G.1
  have G := G.2
  have b58 := G.1
  have G := G.2
  exact PLu_X3_faults_200 G hB rfl bv2 (mz_add rfl rfl) b57 (mz_add rfl zl_1) b58 h
theorem p_X3_pageAnew {D : qD} {W : mW} {X : String → qH → Prop} {K : Int → mS → Prop} (hW : mOK D W) {s : mS} (hB : MB s) {p0 : Int} (bp0 : bd p0) {p1 : Int} (bp1 : bd p1) (G : pI D W X m_X3_pageOf [p0, p1] s (fun z1 s2 => K z1 s2)) : pI D W X m_X3_pageAnew [p0, p1] s K := by
  intro h
  refine f_X3_pageAnew _ _ _ _ ?_
  refine ⟨mrc hW, mcI G (mv2 rfl rfl) (fun z1 s2 b3 hB4 G => ?_)⟩
  exact mretI rfl b3 hB4 G
