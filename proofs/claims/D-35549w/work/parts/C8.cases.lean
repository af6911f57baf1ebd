set_option maxRecDepth 100000
/-! the law's cases -/
section LT
variable {D : qD} {C W : mW} {Q : Option Value → qH → Prop} {X : String → qH → Prop} {b L n : Nat} {g : Nat → Int} {h : qH} {w : Int}
theorem t_put (hD : q_DK D) (hW : mOK D W) (hJW : JW C W) (hs : SCR D b L g) (hL : L ≤ 320) (hg : ∀ i, bd (g i)) (hw : 0 ≤ w ∧ w + 5 ≤ L) (hn : n < 64) (hV : LV C W n h) (hgo : ∀ h', LV C W (n + 1) h' → L_L_law_1604 D Q X b (some (C.1 0)) (some (W.1 100)) (some (C.1 2000)) (zI w) h') : L_L_law_140 D Q X b (some (C.1 0)) (some (W.1 100)) (some (C.1 2000)) (zI w) h := by
  obtain ⟨xs, y, ks, f, hJ, hT, hB, hK, hy0, hcr⟩ := hV
  refine f_L_law_140 b _ _ _ _ h (scr hs hL (mz_add rfl zl_1) (by omega) (by omega) (scr hs hL (mz_add rfl zl_2) (by omega) (by omega) (scr hs hL (mz_add rfl zl_3) (by omega) (by omega) (scr hs hL (mz_add rfl zl_4) (by omega) (by omega) (cIW_imp (w_put hJW hJ hD hT (by omega) (hg _) (hg _) (hg _) (hg _) (by omega)) fun x6 h5 hA => ?_)))))
  exact scr hs hL (mz_add rfl zl_1) (by omega) (by omega) (scr hs hL (mz_add rfl zl_2) (by omega) (by omega) (scr hs hL (mz_add rfl zl_3) (by omega) (by omega) (scr hs hL (mz_add rfl zl_4) (by omega) (by omega) (law_v hW hJW hn hcr hy0 hA (RM_g hT fun u => ⟨TI_put hT (by omega) u.1 u.2.1 u.2.2, Int.le_of_eq rfl⟩) (n_put hW hB hT hK (by omega) (hg _) (hg _) (hg _) (hg _)) rfl (fun h' hv => f_L_law_229 _ _ _ _ _ _ (hgo h' hv))))))
theorem t_take (hD : q_DK D) (hW : mOK D W) (hJW : JW C W) (hs : SCR D b L g) (hL : L ≤ 320) (hg : ∀ i, bd (g i)) (hw : 0 ≤ w ∧ w + 5 ≤ L) (hn : n < 64) (hV : LV C W n h) (hgo : ∀ h', LV C W (n + 1) h' → L_L_law_1604 D Q X b (some (C.1 0)) (some (W.1 100)) (some (C.1 2000)) (zI w) h') : L_L_law_232 D Q X b (some (C.1 0)) (some (W.1 100)) (some (C.1 2000)) (zI w) h := by
  obtain ⟨xs, y, ks, f, hJ, hT, hB, hK, hy0, hcr⟩ := hV
  refine f_L_law_232 b _ _ _ _ h (scr hs hL (mz_add rfl zl_1) (by omega) (by omega) (cIW_imp (w_take hJW hJ hD hT (hg _) (by omega)) fun x6 h5 hA => ?_))
  exact scr hs hL (mz_add rfl zl_1) (by omega) (by omega) (law_v hW hJW hn hcr hy0 hA (RM_g hT fun u => ⟨TI_take hT u, by show y.1 0 - 1 ≤ y.1 0 + 1; omega⟩) (n_take hW hB hT hK (hg _)) rfl (fun h' hv => f_L_law_285 _ _ _ _ _ _ (hgo h' hv)))
theorem t_style (hD : q_DK D) (hW : mOK D W) (hJW : JW C W) (hs : SCR D b L g) (hL : L ≤ 320) (hg : ∀ i, bd (g i)) (hw : 0 ≤ w ∧ w + 5 ≤ L) (hn : n < 64) (hV : LV C W n h) (hgo : ∀ h', LV C W (n + 1) h' → L_L_law_1604 D Q X b (some (C.1 0)) (some (W.1 100)) (some (C.1 2000)) (zI w) h') : L_L_law_288 D Q X b (some (C.1 0)) (some (W.1 100)) (some (C.1 2000)) (zI w) h := by
  obtain ⟨xs, y, ks, f, hJ, hT, hB, hK, hy0, hcr⟩ := hV
  refine f_L_law_288 b _ _ _ _ h (scr hs hL (mz_add rfl zl_1) (by omega) (by omega) (scr hs hL (mz_add rfl zl_2) (by omega) (by omega) (scr hs hL (mz_add rfl zl_3) (by omega) (by omega) (scr hs hL (mz_add rfl zl_4) (by omega) (by omega) (cIW_imp (w_style hJW hJ hD hT (hg _) (hg _) (hg _) (hg _) (by omega)) fun x6 h5 hA => ?_)))))
  exact scr hs hL (mz_add rfl zl_1) (by omega) (by omega) (scr hs hL (mz_add rfl zl_2) (by omega) (by omega) (scr hs hL (mz_add rfl zl_3) (by omega) (by omega) (scr hs hL (mz_add rfl zl_4) (by omega) (by omega) (law_n hW hJW hn hcr hy0 hA (RM_g hT fun u => ⟨TI_style hT u.1 u.2.1 u.2.2.1 u.2.2.2.1 u.2.2.2.2, (by show y.1 0 ≤ y.1 0 + 1; omega)⟩) (n_style hW hB hT hK (hg _) (hg _) (hg _) (hg _)) rfl (fun h' hv => hgo h' hv)))))
theorem t_data (hD : q_DK D) (hW : mOK D W) (hJW : JW C W) (hs : SCR D b L g) (hL : L ≤ 320) (hg : ∀ i, bd (g i)) (hw : 0 ≤ w ∧ w + 5 ≤ L) (hn : n < 64) (hV : LV C W n h) (hgo : ∀ h', LV C W (n + 1) h' → L_L_law_1604 D Q X b (some (C.1 0)) (some (W.1 100)) (some (C.1 2000)) (zI w) h') : L_L_law_360 D Q X b (some (C.1 0)) (some (W.1 100)) (some (C.1 2000)) (zI w) h := by
  obtain ⟨xs, y, ks, f, hJ, hT, hB, hK, hy0, hcr⟩ := hV
  refine f_L_law_360 b _ _ _ _ h (scr hs hL (mz_add rfl zl_1) (by omega) (by omega) (scr hs hL (mz_add rfl zl_2) (by omega) (by omega) (scr hs hL (mz_add rfl zl_3) (by omega) (by omega) (cIW_imp (w_data hJW hJ hD hT (hg _) (hg _) (hg _) (by omega)) fun x6 h5 hA => ?_))))
  exact scr hs hL (mz_add rfl zl_1) (by omega) (by omega) (scr hs hL (mz_add rfl zl_2) (by omega) (by omega) (scr hs hL (mz_add rfl zl_3) (by omega) (by omega) (law_v hW hJW hn hcr hy0 hA (RM_g hT fun u => ⟨TI_data hT u.2.2, (by show y.1 0 ≤ y.1 0 + 1; omega)⟩) (n_data hW hB hK (hg _) (hg _) (hg _)) rfl (fun h' hv => f_L_law_437 _ _ _ _ _ _ (hgo h' hv)))))
theorem t_grid (hD : q_DK D) (hW : mOK D W) (hJW : JW C W) (hs : SCR D b L g) (hL : L ≤ 320) (hg : ∀ i, bd (g i)) (hw : 0 ≤ w ∧ w + 5 ≤ L) (hn : n < 64) (hV : LV C W n h) (hgo : ∀ h', LV C W (n + 1) h' → L_L_law_1604 D Q X b (some (C.1 0)) (some (W.1 100)) (some (C.1 2000)) (zI w) h') : L_L_law_440 D Q X b (some (C.1 0)) (some (W.1 100)) (some (C.1 2000)) (zI w) h := by
  obtain ⟨xs, y, ks, f, hJ, hT, hB, hK, hy0, hcr⟩ := hV
  refine f_L_law_440 b _ _ _ _ h (scr hs hL (mz_add rfl zl_1) (by omega) (by omega) (scr hs hL (mz_add rfl zl_2) (by omega) (by omega) (scr hs hL (mz_add rfl zl_3) (by omega) (by omega) (cIW_imp (w_grid hJW hJ hD (hg _) (hg _) (hg _) (by omega)) fun x6 h5 hA => ?_))))
  exact scr hs hL (mz_add rfl zl_1) (by omega) (by omega) (scr hs hL (mz_add rfl zl_2) (by omega) (by omega) (scr hs hL (mz_add rfl zl_3) (by omega) (by omega) (law_n hW hJW hn hcr hy0 hA (RM_g hT fun u => ⟨TI_grid hT u.1 u.2.1 u.2.2, (by show y.1 0 ≤ y.1 0 + 1; omega)⟩) (n_grid hW hB hK (hg _) (hg _) (hg _)) rfl (fun h' hv => hgo h' hv))))
theorem t_see (hD : q_DK D) (hW : mOK D W) (hJW : JW C W) (hs : SCR D b L g) (hL : L ≤ 320) (hg : ∀ i, bd (g i)) (hw : 0 ≤ w ∧ w + 5 ≤ L) (hn : n < 64) (hV : LV C W n h) (hgo : ∀ h', LV C W (n + 1) h' → L_L_law_1604 D Q X b (some (C.1 0)) (some (W.1 100)) (some (C.1 2000)) (zI w) h') : L_L_law_500 D Q X b (some (C.1 0)) (some (W.1 100)) (some (C.1 2000)) (zI w) h := by
  obtain ⟨xs, y, ks, f, hJ, hT, hB, hK, hy0, hcr⟩ := hV
  refine f_L_law_500 b _ _ _ _ h (scr hs hL (mz_add rfl zl_1) (by omega) (by omega) (scr hs hL (mz_add rfl zl_2) (by omega) (by omega) (cIW_imp (w_see hJW hJ hD hT (hg _) (hg _) (by omega)) fun x6 h5 hA => ?_)))
  exact scr hs hL (mz_add rfl zl_1) (by omega) (by omega) (scr hs hL (mz_add rfl zl_2) (by omega) (by omega) (law_v hW hJW hn hcr hy0 hA (RM_g hT fun u => ⟨TI_see hT u.1 u.2.1 u.2.2, (by show y.1 0 ≤ y.1 0 + 1; omega)⟩) (n_see hW hB hT hK (hg _) (hg _)) rfl (fun h' hv => f_L_law_565 _ _ _ _ _ _ (hgo h' hv))))
theorem t_fold (hD : q_DK D) (hW : mOK D W) (hJW : JW C W) (hs : SCR D b L g) (hL : L ≤ 320) (hg : ∀ i, bd (g i)) (hw : 0 ≤ w ∧ w + 5 ≤ L) (hn : n < 64) (hV : LV C W n h) (hgo : ∀ h', LV C W (n + 1) h' → L_L_law_1604 D Q X b (some (C.1 0)) (some (W.1 100)) (some (C.1 2000)) (zI w) h') : L_L_law_568 D Q X b (some (C.1 0)) (some (W.1 100)) (some (C.1 2000)) (zI w) h := by
  obtain ⟨xs, y, ks, f, hJ, hT, hB, hK, hy0, hcr⟩ := hV
  refine f_L_law_568 b _ _ _ _ h (scr hs hL (mz_add rfl zl_1) (by omega) (by omega) (scr hs hL (mz_add rfl zl_2) (by omega) (by omega) (cIW_imp (w_fold hJW hJ hD (hg _) (hg _) (by omega)) fun x6 h5 hA => ?_)))
  exact scr hs hL (mz_add rfl zl_1) (by omega) (by omega) (scr hs hL (mz_add rfl zl_2) (by omega) (by omega) (law_n hW hJW hn hcr hy0 hA (RM_g hT fun u => ⟨TI_fold hT u.1 u.2, (by show y.1 0 ≤ y.1 0 + 1; omega)⟩) (n_fold hW hB hK (hg _) (hg _)) rfl (fun h' hv => hgo h' hv)))
theorem t_keep (hD : q_DK D) (hW : mOK D W) (hJW : JW C W) (hs : SCR D b L g) (hL : L ≤ 320) (hg : ∀ i, bd (g i)) (hw : 0 ≤ w ∧ w + 5 ≤ L) (hn : n < 64) (hV : LV C W n h) (hgo : ∀ h', LV C W (n + 1) h' → L_L_law_1604 D Q X b (some (C.1 0)) (some (W.1 100)) (some (C.1 2000)) (zI w) h') : L_L_law_616 D Q X b (some (C.1 0)) (some (W.1 100)) (some (C.1 2000)) (zI w) h := by
  obtain ⟨xs, y, ks, f, hJ, hT, hB, hK, hy0, hcr⟩ := hV
  refine f_L_law_616 b _ _ _ _ h (scr hs hL (mz_add rfl zl_1) (by omega) (by omega) (cIW_imp (w_keep hJW hJ hD hT hB (hg _) (by omega)) fun x6 h5 hA => ?_))
  exact scr hs hL (mz_add rfl zl_1) (by omega) (by omega) (law_v hW hJW hn hcr hy0 hA (RK_g hT) (n_keep hW hB hT hK (hg _)) rfl (fun h' hv => f_L_law_669 _ _ _ _ _ _ (hgo h' hv)))
theorem t_lines (hD : q_DK D) (hW : mOK D W) (hJW : JW C W) (hs : SCR D b L g) (hL : L ≤ 320) (hg : ∀ i, bd (g i)) (hw : 0 ≤ w ∧ w + 5 ≤ L) (hn : n < 64) (hV : LV C W n h) (hgo : ∀ h', LV C W (n + 1) h' → L_L_law_1604 D Q X b (some (C.1 0)) (some (W.1 100)) (some (C.1 2000)) (zI w) h') : L_L_law_672 D Q X b (some (C.1 0)) (some (W.1 100)) (some (C.1 2000)) (zI w) h := by
  obtain ⟨xs, y, ks, f, hJ, hT, hB, hK, hy0, hcr⟩ := hV
  refine f_L_law_672 b _ _ _ _ h (scr hs hL (mz_add rfl zl_1) (by omega) (by omega) (cIW_imp (w_lines hJW hJ hD hT hB (hg _) (by omega)) fun x6 h5 hA => ?_))
  exact scr hs hL (mz_add rfl zl_1) (by omega) (by omega) (law_v hW hJW hn hcr hy0 hA (RM_g hT fun _ => ⟨hT, by omega⟩) (n_lines hW hB hT hK (hg _)) rfl (fun h' hv => f_L_law_725 _ _ _ _ _ _ (hgo h' hv)))
theorem t_lineOf (hD : q_DK D) (hW : mOK D W) (hJW : JW C W) (hs : SCR D b L g) (hL : L ≤ 320) (hg : ∀ i, bd (g i)) (hw : 0 ≤ w ∧ w + 5 ≤ L) (hn : n < 64) (hV : LV C W n h) (hgo : ∀ h', LV C W (n + 1) h' → L_L_law_1604 D Q X b (some (C.1 0)) (some (W.1 100)) (some (C.1 2000)) (zI w) h') : L_L_law_728 D Q X b (some (C.1 0)) (some (W.1 100)) (some (C.1 2000)) (zI w) h := by
  obtain ⟨xs, y, ks, f, hJ, hT, hB, hK, hy0, hcr⟩ := hV
  refine f_L_law_728 b _ _ _ _ h (scr hs hL (mz_add rfl zl_1) (by omega) (by omega) (scr hs hL (mz_add rfl zl_2) (by omega) (by omega) (cIW_imp (w_lineOf hJW hJ hD hT hB (hg _) (hg _) (by omega)) fun x6 h5 hA => ?_)))
  exact scr hs hL (mz_add rfl zl_1) (by omega) (by omega) (scr hs hL (mz_add rfl zl_2) (by omega) (by omega) (law_v hW hJW hn hcr hy0 hA (RM_g hT fun _ => ⟨hT, by omega⟩) (n_lineOf hW hB hT hK (hg _) (hg _)) rfl (fun h' hv => f_L_law_793 _ _ _ _ _ _ (hgo h' hv))))
theorem t_pageOf (hD : q_DK D) (hW : mOK D W) (hJW : JW C W) (hs : SCR D b L g) (hL : L ≤ 320) (hg : ∀ i, bd (g i)) (hw : 0 ≤ w ∧ w + 5 ≤ L) (hn : n < 64) (hV : LV C W n h) (hgo : ∀ h', LV C W (n + 1) h' → L_L_law_1604 D Q X b (some (C.1 0)) (some (W.1 100)) (some (C.1 2000)) (zI w) h') : L_L_law_892 D Q X b (some (C.1 0)) (some (W.1 100)) (some (C.1 2000)) (zI w) h := by
  obtain ⟨xs, y, ks, f, hJ, hT, hB, hK, hy0, hcr⟩ := hV
  refine f_L_law_892 b _ _ _ _ h (scr hs hL (mz_add rfl zl_1) (by omega) (by omega) (scr hs hL (mz_add rfl zl_2) (by omega) (by omega) (cIW_imp (w_pageOf hJW hJ hD hT hB (hg _) (hg _) (by omega)) fun x6 h5 hA => ?_)))
  exact scr hs hL (mz_add rfl zl_1) (by omega) (by omega) (scr hs hL (mz_add rfl zl_2) (by omega) (by omega) (law_v hW hJW hn hcr hy0 hA (RM_g hT fun _ => ⟨hT, by omega⟩) (n_pageOf hW hB hT hK (hg _) (hg _)) rfl (fun h' hv => f_L_law_957 _ _ _ _ _ _ (hgo h' hv))))
theorem t_pageAnew (hD : q_DK D) (hW : mOK D W) (hJW : JW C W) (hs : SCR D b L g) (hL : L ≤ 320) (hg : ∀ i, bd (g i)) (hw : 0 ≤ w ∧ w + 5 ≤ L) (hn : n < 64) (hV : LV C W n h) (hgo : ∀ h', LV C W (n + 1) h' → L_L_law_1604 D Q X b (some (C.1 0)) (some (W.1 100)) (some (C.1 2000)) (zI w) h') : L_L_law_960 D Q X b (some (C.1 0)) (some (W.1 100)) (some (C.1 2000)) (zI w) h := by
  obtain ⟨xs, y, ks, f, hJ, hT, hB, hK, hy0, hcr⟩ := hV
  refine f_L_law_960 b _ _ _ _ h (scr hs hL (mz_add rfl zl_1) (by omega) (by omega) (scr hs hL (mz_add rfl zl_2) (by omega) (by omega) (cIW_imp (w_pageAnew hJW hJ hD hT hB (hg _) (hg _) (by omega)) fun x6 h5 hA => ?_)))
  exact scr hs hL (mz_add rfl zl_1) (by omega) (by omega) (scr hs hL (mz_add rfl zl_2) (by omega) (by omega) (law_v hW hJW hn hcr hy0 hA (RM_g hT fun _ => ⟨hT, by omega⟩) (n_pageAnew hW hB hT hK (hg _) (hg _)) rfl (fun h' hv => f_L_law_1025 _ _ _ _ _ _ (hgo h' hv))))
theorem t_pages (hD : q_DK D) (hW : mOK D W) (hJW : JW C W) (hs : SCR D b L g) (hL : L ≤ 320) (hg : ∀ i, bd (g i)) (hw : 0 ≤ w ∧ w + 5 ≤ L) (hn : n < 64) (hV : LV C W n h) (hgo : ∀ h', LV C W (n + 1) h' → L_L_law_1604 D Q X b (some (C.1 0)) (some (W.1 100)) (some (C.1 2000)) (zI w) h') : L_L_law_1028 D Q X b (some (C.1 0)) (some (W.1 100)) (some (C.1 2000)) (zI w) h := by
  obtain ⟨xs, y, ks, f, hJ, hT, hB, hK, hy0, hcr⟩ := hV
  refine f_L_law_1028 b _ _ _ _ h (scr hs hL (mz_add rfl zl_1) (by omega) (by omega) (cIW_imp (w_pages hJW hJ hD hT hB (hg _) (by omega)) fun x6 h5 hA => ?_))
  exact scr hs hL (mz_add rfl zl_1) (by omega) (by omega) (law_v hW hJW hn hcr hy0 hA (RM_g hT fun _ => ⟨hT, by omega⟩) (n_pages hW hB hT hK (hg _)) rfl (fun h' hv => f_L_law_1081 _ _ _ _ _ _ (hgo h' hv)))
theorem t_front (hD : q_DK D) (hW : mOK D W) (hJW : JW C W) (hs : SCR D b L g) (hL : L ≤ 320) (hg : ∀ i, bd (g i)) (hw : 0 ≤ w ∧ w + 5 ≤ L) (hn : n < 64) (hV : LV C W n h) (hgo : ∀ h', LV C W (n + 1) h' → L_L_law_1604 D Q X b (some (C.1 0)) (some (W.1 100)) (some (C.1 2000)) (zI w) h') : L_L_law_1084 D Q X b (some (C.1 0)) (some (W.1 100)) (some (C.1 2000)) (zI w) h := by
  obtain ⟨xs, y, ks, f, hJ, hT, hB, hK, hy0, hcr⟩ := hV
  refine f_L_law_1084 b _ _ _ _ h (scr hs hL (mz_add rfl zl_1) (by omega) (by omega) (cIW_imp (w_front hJW hJ hD hT hB (hg _) (by omega)) fun x6 h5 hA => ?_))
  exact scr hs hL (mz_add rfl zl_1) (by omega) (by omega) (law_v hW hJW hn hcr hy0 hA (RM_g hT fun _ => ⟨hT, by omega⟩) (n_front hW hB hT hK (hg _)) rfl (fun h' hv => f_L_law_1137 _ _ _ _ _ _ (hgo h' hv)))
theorem t_entry (hD : q_DK D) (hW : mOK D W) (hJW : JW C W) (hs : SCR D b L g) (hL : L ≤ 320) (hg : ∀ i, bd (g i)) (hw : 0 ≤ w ∧ w + 5 ≤ L) (hn : n < 64) (hV : LV C W n h) (hgo : ∀ h', LV C W (n + 1) h' → L_L_law_1604 D Q X b (some (C.1 0)) (some (W.1 100)) (some (C.1 2000)) (zI w) h') : L_L_law_1140 D Q X b (some (C.1 0)) (some (W.1 100)) (some (C.1 2000)) (zI w) h := by
  obtain ⟨xs, y, ks, f, hJ, hT, hB, hK, hy0, hcr⟩ := hV
  refine f_L_law_1140 b _ _ _ _ h (scr hs hL (mz_add rfl zl_1) (by omega) (by omega) (scr hs hL (mz_add rfl zl_2) (by omega) (by omega) (cIW_imp (w_entry hJW hJ hD hT hB (hg _) (hg _) (by omega)) fun x6 h5 hA => ?_)))
  exact scr hs hL (mz_add rfl zl_1) (by omega) (by omega) (scr hs hL (mz_add rfl zl_2) (by omega) (by omega) (law_v hW hJW hn hcr hy0 hA (RM_g hT fun _ => ⟨hT, by omega⟩) (n_entry hW hB hT hK (hg _) (hg _)) rfl (fun h' hv => f_L_law_1205 _ _ _ _ _ _ (hgo h' hv))))
theorem t_index (hD : q_DK D) (hW : mOK D W) (hJW : JW C W) (hs : SCR D b L g) (hL : L ≤ 320) (hg : ∀ i, bd (g i)) (hw : 0 ≤ w ∧ w + 5 ≤ L) (hn : n < 64) (hV : LV C W n h) (hgo : ∀ h', LV C W (n + 1) h' → L_L_law_1604 D Q X b (some (C.1 0)) (some (W.1 100)) (some (C.1 2000)) (zI w) h') : L_L_law_1208 D Q X b (some (C.1 0)) (some (W.1 100)) (some (C.1 2000)) (zI w) h := by
  obtain ⟨xs, y, ks, f, hJ, hT, hB, hK, hy0, hcr⟩ := hV
  obtain ⟨LL, hLL⟩ := ix_has (r := g (w + 1).toNat) hT hB (g (w + 2).toNat)
  refine f_L_law_1208 b _ _ _ _ h (scr hs hL (mz_add rfl zl_1) (by omega) (by omega) (scr hs hL (mz_add rfl zl_2) (by omega) (by omega) (scr hs hL (mz_add rfl zl_3) (by omega) (by omega) (cIW_imp (w_index hJW hJ hD hT hB (hg _) (hg _) (hg _) (by omega) hLL) fun x6 h5 hA => ?_))))
  exact scr hs hL (mz_add rfl zl_1) (by omega) (by omega) (scr hs hL (mz_add rfl zl_2) (by omega) (by omega) (scr hs hL (mz_add rfl zl_3) (by omega) (by omega) (law_v hW hJW hn hcr hy0 hA (RM_g hT fun _ => ⟨hT, by omega⟩) (n_index hW hB hT hK (hg _) (hg _) (hg _) hLL) rfl (fun h' hv => f_L_law_1285 _ _ _ _ _ _ (hgo h' hv)))))
theorem t_sheet (hD : q_DK D) (hW : mOK D W) (hJW : JW C W) (hs : SCR D b L g) (hL : L ≤ 320) (hg : ∀ i, bd (g i)) (hw : 0 ≤ w ∧ w + 5 ≤ L) (hn : n < 64) (hV : LV C W n h) (hgo : ∀ h', LV C W (n + 1) h' → L_L_law_1604 D Q X b (some (C.1 0)) (some (W.1 100)) (some (C.1 2000)) (zI w) h') : L_L_law_1288 D Q X b (some (C.1 0)) (some (W.1 100)) (some (C.1 2000)) (zI w) h := by
  obtain ⟨xs, y, ks, f, hJ, hT, hB, hK, hy0, hcr⟩ := hV
  refine f_L_law_1288 b _ _ _ _ h (scr hs hL (mz_add rfl zl_1) (by omega) (by omega) (scr hs hL (mz_add rfl zl_2) (by omega) (by omega) (cIW_imp (w_sheet hJW hJ hD hT (hg _) (hg _) (by omega)) fun x6 h5 hA => ?_)))
  exact scr hs hL (mz_add rfl zl_1) (by omega) (by omega) (scr hs hL (mz_add rfl zl_2) (by omega) (by omega) (law_v hW hJW hn hcr hy0 hA (RM_g hT fun _ => ⟨hT, by omega⟩) (n_sheet hW hB hT hK (hg _) (hg _)) rfl (fun h' hv => f_L_law_1353 _ _ _ _ _ _ (hgo h' hv))))
theorem t_plate (hD : q_DK D) (hW : mOK D W) (hJW : JW C W) (hs : SCR D b L g) (hL : L ≤ 320) (hg : ∀ i, bd (g i)) (hw : 0 ≤ w ∧ w + 5 ≤ L) (hn : n < 64) (hV : LV C W n h) (hgo : ∀ h', LV C W (n + 1) h' → L_L_law_1604 D Q X b (some (C.1 0)) (some (W.1 100)) (some (C.1 2000)) (zI w) h') : L_L_law_1356 D Q X b (some (C.1 0)) (some (W.1 100)) (some (C.1 2000)) (zI w) h := by
  obtain ⟨xs, y, ks, f, hJ, hT, hB, hK, hy0, hcr⟩ := hV
  refine f_L_law_1356 b _ _ _ _ h (scr hs hL (mz_add rfl zl_1) (by omega) (by omega) (scr hs hL (mz_add rfl zl_2) (by omega) (by omega) (scr hs hL (mz_add rfl zl_3) (by omega) (by omega) (scr hs hL (mz_add rfl zl_4) (by omega) (by omega) (cIW_imp (w_plate hJW hJ hD hT hB (hg _) (hg _) (hg _) (hg _) (by omega)) fun x6 h5 hA => ?_)))))
  exact scr hs hL (mz_add rfl zl_1) (by omega) (by omega) (scr hs hL (mz_add rfl zl_2) (by omega) (by omega) (scr hs hL (mz_add rfl zl_3) (by omega) (by omega) (scr hs hL (mz_add rfl zl_4) (by omega) (by omega) (law_v hW hJW hn hcr hy0 hA (RM_g hT fun _ => ⟨hT, by omega⟩) (n_plate hW hB hT hK (hg _) (hg _) (hg _) (hg _)) rfl (fun h' hv => f_L_law_1445 _ _ _ _ _ _ (hgo h' hv))))))
theorem t_faults (hD : q_DK D) (hW : mOK D W) (hJW : JW C W) (hs : SCR D b L g) (hL : L ≤ 320) (hg : ∀ i, bd (g i)) (hw : 0 ≤ w ∧ w + 5 ≤ L) (hn : n < 64) (hV : LV C W n h) (hgo : ∀ h', LV C W (n + 1) h' → L_L_law_1604 D Q X b (some (C.1 0)) (some (W.1 100)) (some (C.1 2000)) (zI w) h') : L_L_law_1448 D Q X b (some (C.1 0)) (some (W.1 100)) (some (C.1 2000)) (zI w) h := by
  obtain ⟨xs, y, ks, f, hJ, hT, hB, hK, hy0, hcr⟩ := hV
  refine f_L_law_1448 b _ _ _ _ h (scr hs hL (mz_add rfl zl_1) (by omega) (by omega) (scr hs hL (mz_add rfl zl_2) (by omega) (by omega) (cIW_imp (w_faults hJW hJ hD hT hB (hg _) (hg _) (by omega)) fun x6 h5 hA => ?_)))
  exact scr hs hL (mz_add rfl zl_1) (by omega) (by omega) (scr hs hL (mz_add rfl zl_2) (by omega) (by omega) (law_v hW hJW hn hcr hy0 hA (RM_g hT fun _ => ⟨hT, by omega⟩) (n_faults hW hB hT hK (hg _) (hg _)) rfl (fun h' hv => f_L_law_1513 _ _ _ _ _ _ (hgo h' hv))))
theorem t_isNew (hD : q_DK D) (hW : mOK D W) (hJW : JW C W) (hs : SCR D b L g) (hL : L ≤ 320) (hg : ∀ i, bd (g i)) (hw : 0 ≤ w ∧ w + 5 ≤ L) (hn : n < 64) (hV : LV C W n h) (hgo : ∀ h', LV C W (n + 1) h' → L_L_law_1604 D Q X b (some (C.1 0)) (some (W.1 100)) (some (C.1 2000)) (zI w) h') : L_L_law_1516 D Q X b (some (C.1 0)) (some (W.1 100)) (some (C.1 2000)) (zI w) h := by
  obtain ⟨xs, y, ks, f, hJ, hT, hB, hK, hy0, hcr⟩ := hV
  refine f_L_law_1516 b _ _ _ _ h (scr hs hL (mz_add rfl zl_1) (by omega) (by omega) (scr hs hL (mz_add rfl zl_2) (by omega) (by omega) (cIW_imp (w_isNew hJW hJ hD hT hB hK (hg _) (hg _) (by omega)) fun x6 h5 hA => ?_)))
  refine scr hs hL (mz_add rfl zl_1) (by omega) (by omega) (scr hs hL (mz_add rfl zl_2) (by omega) (by omega) (law_b hW hJW hn hcr hy0 hA (RM_g hT fun _ => ⟨hT, by omega⟩) (fun k z s' ks' q _ => ?h01) (n_isNew hW hB hT hK (hg _) (hg _)) rfl (fun h' hv => f_L_law_1588 _ _ _ _ _ _ (hgo h' hv)) (fun v h' hv => f_L_law_1582 _ _ _ _ _ _ _ _ ⟨fun _ => f_L_law_1588 _ _ _ _ _ _ (hgo h' hv), fun q => absurd lgs q⟩)))
  rcases q with ⟨-, ⟨-, -, rfl, -⟩ | ⟨-, -, q⟩⟩
  · split <;> omega
  · omega
theorem t_columnOf (hD : q_DK D) (hW : mOK D W) (hJW : JW C W) (hs : SCR D b L g) (hL : L ≤ 320) (hg : ∀ i, bd (g i)) (hw : 0 ≤ w ∧ w + 5 ≤ L) (hn : n < 64) (hV : LV C W n h) (hgo : ∀ h', LV C W (n + 1) h' → L_L_law_1604 D Q X b (some (C.1 0)) (some (W.1 100)) (some (C.1 2000)) (zI w) h') : L_L_law_796 D Q X b (some (C.1 0)) (some (W.1 100)) (some (C.1 2000)) (zI w) h := by
  obtain ⟨xs, y, ks, f, hJ, hT, hB, hK, hy0, hcr⟩ := hV
  have key : ∀ bb : Int, (bb = 0 ∧ g (w + 2).toNat = 0) ∨ (bb = 1 ∧ g (w + 2).toNat ≠ 0) → L_L_law_817 D Q X b (some (C.1 0)) (some (W.1 100)) (some (C.1 2000)) (zI w) (zI bb) (zI (g (w + 1).toNat)) (some (C.1 0)) h := by
    intro bb hbb
    refine f_L_law_817 b _ _ _ _ _ _ _ h (scr hs hL (mz_add rfl zl_3) (by omega) (by omega) (cIW_imp (w_columnOf hJW hJ hD hT hB (hg _) (by omega) (hg _) (by omega)) fun x6 h5 hA => ?_))
    refine scr hs hL (mz_add rfl zl_1) (by omega) (by omega) (scr hs hL (mz_add rfl zl_2) (by omega) (by omega) (⟨fun q => ?_, fun q => ?_⟩))
    · have q0 := (mz_eq (a := g (w + 2).toNat) (b := 0) rfl zl_0 (hg _) (bdl rfl)).mp q
      obtain rfl : bb = 0 := by omega
      exact f_L_law_850 b _ _ _ _ _ _ _ _ h5 (scr hs hL (mz_add rfl zl_3) (by omega) (by omega) (law_v hW hJW hn hcr hy0 hA (RM_g hT fun _ => ⟨hT, by omega⟩) (n_columnOf hW hB hT hK (hg _) (by omega) (hg _)) (mv3 rfl zl_0 rfl) (fun h' hv => f_L_law_889 _ _ _ _ _ _ (hgo h' hv))))
    · have q0 : ¬ g (w + 2).toNat = 0 := fun z => q ((mz_eq (a := g (w + 2).toNat) (b := 0) rfl zl_0 (hg _) (bdl rfl)).mpr z)
      obtain rfl : bb = 1 := by omega
      exact f_L_law_850 b _ _ _ _ _ _ _ _ h5 (scr hs hL (mz_add rfl zl_3) (by omega) (by omega) (law_v hW hJW hn hcr hy0 hA (RM_g hT fun _ => ⟨hT, by omega⟩) (n_columnOf hW hB hT hK (hg _) (by omega) (hg _)) (mv3 rfl zl_1 rfl) (fun h' hv => f_L_law_889 _ _ _ _ _ _ (hgo h' hv))))
  refine f_L_law_796 b _ _ _ _ h (scr hs hL (mz_add rfl zl_1) (by omega) (by omega) (scr hs hL (mz_add rfl zl_2) (by omega) (by omega) (⟨fun q => ?_, fun q => ?_⟩)))
  · exact key 0 (Or.inl ⟨rfl, (mz_eq (a := g (w + 2).toNat) (b := 0) rfl zl_0 (hg _) (bdl rfl)).mp q⟩)
  · exact key 1 (Or.inr ⟨rfl, fun z => q ((mz_eq (a := g (w + 2).toNat) (b := 0) rfl zl_0 (hg _) (bdl rfl)).mpr z)⟩)
theorem t_tokens (hD : q_DK D) (hW : mOK D W) (hJW : JW C W) (hs : SCR D b L g) (hL : L ≤ 320) (hg : ∀ i, bd (g i)) (hw : 0 ≤ w ∧ w + 5 ≤ L) (hn : n < 64) (hV : LV C W n h) (hgo : ∀ h', LV C W (n + 1) h' → L_L_law_1604 D Q X b (some (C.1 0)) (some (W.1 100)) (some (C.1 2000)) (zI w) h') : L_L_law_1591 D Q X b (some (C.1 0)) (some (W.1 100)) (some (C.1 2000)) (zI w) h := by
  obtain ⟨xs, y, ks, f, hJ, hT, hB, hK, hy0, hcr⟩ := hV
  refine f_L_law_1591 b _ _ _ _ h ⟨hJ.1.rcX1, x_tokens hD hJ.1 ?_⟩
  have hm := hJ.mid hW hJW
  rw [← hm]
  refine ⟨mrc hW, mcI (as := []) (q_tokens hW hB (K := fun a c => a = y.1 0 ∧ c = mF y 37 0) ⟨rfl, rfl⟩) rfl (fun z2 y2 bz hB2 hK2 => ?_)⟩
  obtain ⟨rfl, rfl⟩ := hK2
  refine ⟨fun _ => hgo _ (LV.next (k := 0) (z := 0) (z2 := 0) hW hJW hJ hT ⟨e37, fun _ => rfl, tq_told told_37, hK.told told_37⟩ hB2 (by omega) (by omega)), fun q => absurd rfl q⟩
/-- the loop -/
theorem law_loop (hD : q_DK D) (hW : mOK D W) (hJW : JW C W) (hs : SCR D b L g) (hL : L ≤ 320) (hg : ∀ i, bd (g i)) (hQ : ∀ h, Q (some (.int 1)) h) : ∀ (j n : Nat) (h : qH), n + j = 64 → LV C W n h → L_L_law_23 D Q X b (some (C.1 0)) (some (W.1 100)) (some (C.1 2000)) (zI (5 * (n : Int))) h := by
  intro j
  induction j with
  | zero =>
    intro n h hn hV
    refine f_L_law_23 b _ _ _ _ h ⟨b, L, rfl, Or.inl ⟨9, _, by omega, Or.inr hs⟩, fun _ => hQ h, fun q => absurd ?_ q⟩
    rw [zI_n, mz_sub (b := 5) rfl zl_5, zI_lt (by omega) (by omega) (by omega) (by omega)]
    omega
  | succ j ih =>
    intro n h hn hV
    refine f_L_law_23 b _ _ _ _ h ⟨b, L, rfl, Or.inl ⟨9, _, by omega, Or.inr hs⟩, fun _ => hQ h, fun q => ?_⟩
    have hw : 0 ≤ 5 * (n : Int) ∧ 5 * (n : Int) + 5 ≤ L := by
      rw [zI_n, mz_sub (b := 5) rfl zl_5, zI_lt (by omega) (by omega) (by omega) (by omega)] at q
      omega
    have hgo : ∀ h', LV C W (n + 1) h' → L_L_law_1604 D Q X b (some (C.1 0)) (some (W.1 100)) (some (C.1 2000)) (zI (5 * (n : Int))) h' := fun h' hv => f_L_law_1604 b _ _ _ _ h' (by
      rw [mz_add (b := 5) rfl zl_5, show 5 * (n : Int) + 5 = 5 * ((n + 1 : Nat) : Int) by omega]
      exact ih (n + 1) h' (by omega) hv)
    have hV0 : LV C W (n + 1) h := by
      obtain ⟨xs, y, ks, f, hJ, hT, hB, hK, hy0, hcr⟩ := hV
      exact ⟨xs, y, ks, f, hJ, hT, hB, hK, by omega, by omega⟩
    exact scr hs hL rfl hw.1 (by omega) ⟨fun _ => t_put hD hW hJW hs hL hg hw (by omega) hV hgo, fun _ => t_take hD hW hJW hs hL hg hw (by omega) hV hgo, fun _ => t_style hD hW hJW hs hL hg hw (by omega) hV hgo, fun _ => t_data hD hW hJW hs hL hg hw (by omega) hV hgo, fun _ => t_grid hD hW hJW hs hL hg hw (by omega) hV hgo, fun _ => t_see hD hW hJW hs hL hg hw (by omega) hV hgo, fun _ => t_fold hD hW hJW hs hL hg hw (by omega) hV hgo, fun _ => t_keep hD hW hJW hs hL hg hw (by omega) hV hgo, fun _ => t_lines hD hW hJW hs hL hg hw (by omega) hV hgo, fun _ => t_lineOf hD hW hJW hs hL hg hw (by omega) hV hgo, fun _ => t_columnOf hD hW hJW hs hL hg hw (by omega) hV hgo, fun _ => t_pageOf hD hW hJW hs hL hg hw (by omega) hV hgo, fun _ => t_pageAnew hD hW hJW hs hL hg hw (by omega) hV hgo, fun _ => t_pages hD hW hJW hs hL hg hw (by omega) hV hgo, fun _ => t_front hD hW hJW hs hL hg hw (by omega) hV hgo, fun _ => t_entry hD hW hJW hs hL hg hw (by omega) hV hgo, fun _ => t_index hD hW hJW hs hL hg hw (by omega) hV hgo, fun _ => t_sheet hD hW hJW hs hL hg hw (by omega) hV hgo, fun _ => t_plate hD hW hJW hs hL hg hw (by omega) hV hgo, fun _ => t_faults hD hW hJW hs hL hg hw (by omega) hV hgo, fun _ => t_isNew hD hW hJW hs hL hg hw (by omega) hV hgo, fun _ => t_tokens hD hW hJW hs hL hg hw (by omega) hV hgo, fun _ _ _ _ _ _ _ _ _ _ _ _ _ _ _ _ _ _ _ _ _ _ => hgo h hV0⟩
end LT
