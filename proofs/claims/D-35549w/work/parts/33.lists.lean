set_option maxRecDepth 100000
/-! lists, by contract: clear, remove, insert, iterate -/
section LV
variable {D : qD} {Q : Option Value → qH → Prop} {X : String → qH → Prop} {h : qH} {a t x : Nat} {k : Int32} {xs : List Nat}
theorem getD_mem {l : List Nat} {i : Nat} (hi : i < l.length) : l.getD i 0 ∈ l := by
  rw [List.getD_eq_getElem?_getD, List.getElem?_eq_getElem hi]
  exact List.getElem_mem hi
theorem j_clear_loop {arr cap n : Nat} (hn : n ≤ cap) (hcap : cap ≤ 1000) : ∀ (m i : Nat) (f : Nat → Option Nat) (h : qH), i + m = n → h.2 arr = some (c_ra 4 cap f) → (∀ (f' : Nat → Option Nat) (h' : qH), h'.1 = h.1 → h'.2 arr = some (c_ra 4 cap f') → (∀ b, b ≠ arr → h'.2 b = h.2 b) → Q none h') → L_J2_clear_27 D Q X (some arr) (nI n) (nI i) h
  | 0, i, f, h, hi, e, hQ => f_J2_clear_27 _ _ _ h ⟨fun _ => hQ f h rfl e (fun _ _ => rfl), fun z => absurd (nI_le (by omega) (by omega)) z⟩
  | m + 1, i, f, h, hi, e, hQ => f_J2_clear_27 _ _ _ h ⟨fun z => absurd z (nI_ge (by omega) (by omega)), fun _ => ⟨arr, cap, f, rfl, e, nI_in (by omega) (by omega), Or.inl rfl, by
      rw [nI_1]
      exact j_clear_loop hn hcap m (i + 1) _ _ (by omega) put_self (fun f' h' c1 c2 c3 => hQ f' h' c1 c2 (fun b hb => (c3 b hb).trans (put_ne hb)))⟩⟩
theorem j_clear (hD : q_DK D) (hc : h.2 t = some (c_ls k xs)) (hQ : Q none (q_put h t (c_ls (k + 1) []))) : MW D m_J2_clear [va_rf (some t)] h Q X := by
  refine MW_pre (q_open hc) fun h1 ho => MW_close ?_
  rcases ho with ⟨rfl, rfl⟩ | ⟨arr, cap, f, h2, h3, h4, h5, h6, h7, rfl⟩
  · refine f_J2_clear t _ (gI put_self rfl (pF put_self (gR (x := some (d_s D 0)) put_self rfl (gI (x := nI 0) put_self rfl (pF put_self ?_)))))
    refine f_J2_clear_27 _ _ _ _ ⟨fun _ => ⟨_, hQ, GS_list0 put_self rfl rfl rfl (Nat.le_refl _) (fun b e hb => ?_)⟩, fun z => absurd (by decide) z⟩
    by_cases hbt : b = t
    · subst hbt
      rw [put_self] at hb
      cases hb
      exact Or.inl ⟨rfl, rfl⟩
    · rw [put_ne hbt] at hb
      exact Or.inr ⟨hbt, by rw [put_ne hbt, put_ne hbt, put_ne hbt]; exact hb⟩
  · have e1 : (q_put (q_put h t (c_ob 6 (q_lv k arr xs.length))) arr (c_ra 4 cap f)).2 t = some (c_ob 6 (q_lv k arr xs.length)) := (put_ne (Ne.symm h2)).trans put_self
    refine f_J2_clear t _ (gI e1 rfl (pF e1 (gR (x := some arr) put_self rfl (gI (x := nI xs.length) put_self rfl (pF put_self ?_)))))
    refine j_clear_loop h4 h6 xs.length 0 f _ (by omega) ((put_ne h2).trans ((put_ne h2).trans put_self)) (fun f' h' c1 c2 c3 => ⟨_, hQ, GS_list (xs := []) ((c3 t (Ne.symm h2)).trans put_self) rfl rfl rfl h2 c2 (by simp) h5 h6 (fun i hi => absurd hi (Nat.not_lt_zero i)) (by rw [c1]; exact Nat.le_refl _) (fun b e hb => ?_)⟩)
    by_cases hbt : b = t
    · subst hbt
      rw [put_self] at hb
      cases hb
      exact Or.inl ⟨rfl, rfl⟩
    · rw [put_ne hbt] at hb
      have hba : b ≠ arr := fun q => by rw [q, h3] at hb; cases hb
      exact Or.inr ⟨hbt, hba, by rw [c3 b hba, put_ne hbt, put_ne hbt, put_ne hba, put_ne hbt]; exact hb⟩
theorem getD_erase {l : List Nat} {i j : Nat} : (l.eraseIdx i).getD j 0 = if j < i then l.getD j 0 else l.getD (j + 1) 0 := by
  simp only [List.getD_eq_getElem?_getD, List.getElem?_eraseIdx]
  by_cases h1 : j < i <;> simp [h1]
theorem getD_insert {l : List Nat} {i j y : Nat} (hi : i ≤ l.length) : (l.insertIdx i y).getD j 0 = if j < i then l.getD j 0 else if j = i then y else l.getD (j - 1) 0 := by
  simp only [List.getD_eq_getElem?_getD, List.getElem?_insertIdx]
  by_cases h1 : j < i
  · simp [h1]
  · by_cases h2 : j = i
    · subst h2
      simp [hi]
    · simp [h1, h2]
theorem j_remove (hD : q_DK D) (hc : h.2 t = some (c_ls k xs)) (ht : t ∉ xs) (hel : q_els h xs) {i : Nat} (hi : i < xs.length) (hQ : Q (some (va_rf (some (xs.getD i 0)))) (q_put h t (c_ls (k + 1) (xs.eraseIdx i)))) : MW D m_J2_remove [va_rf (some t), .int (nI i)] h Q X := by
  refine MW_pre (q_open hc) fun h1 ho => MW_close ?_
  rcases ho with ⟨rfl, rfl⟩ | ⟨arr, cap, f, h2, h3, h4, h5, h6, h7, rfl⟩
  · exact absurd hi (Nat.not_lt_zero i)
  have hlen : (xs.eraseIdx i).length = xs.length - 1 := List.length_eraseIdx_of_lt hi
  have e1 : (q_put (q_put h t (c_ob 6 (q_lv k arr xs.length))) arr (c_ra 4 cap f)).2 t = some (c_ob 6 (q_lv k arr xs.length)) := (put_ne (Ne.symm h2)).trans put_self
  refine f_J2_remove t _ _ (gI e1 rfl (j_checkIndex hi (by omega) ⟨_, rfl, gR (x := some arr) e1 rfl (aR (Or.inl put_self) (nI_in (by omega) (by omega)) ⟨rcv e1 rfl, ?_⟩)⟩))
  rw [nI_clamp (by omega), h7 i hi]
  refine f_J2_fastRemove t arr _ _ (gI e1 rfl (pF e1 (gI (x := nI xs.length) put_self rfl ?_)))
  have hn1 : nI xs.length - 1 = nI (xs.length - 1) := by
    have h9 := nI_pred (xs.length - 1)
    rw [show xs.length - 1 + 1 = xs.length by omega] at h9
    exact h9
  rw [hn1]
  have e2 := (put_ne (h := q_put (q_put h t (c_ob 6 (q_lv k arr xs.length))) arr (c_ra 4 cap f)) (e := c_ob 6 (updV (q_lv k arr xs.length) 0 (.int (k + 1)))) h2).trans (put_self (e := c_ra 4 cap f))
  have hfin : ∀ (f' : Nat → Option Nat) (h9 : qH), h9.1 = h.1 → h9.2 t = some (c_ob 6 (updV (q_lv k arr xs.length) 0 (.int (k + 1)))) → h9.2 arr = some (c_ra 4 cap f') → (∀ b, b ≠ arr → b ≠ t → h9.2 b = h.2 b) → (∀ j, j < xs.length - 1 → f' j = some ((xs.eraseIdx i).getD j 0)) → L_J2_fastRemove_34 D (fun v h1 => v = none ∧ qcl D Q (some (va_rf (some (xs.getD i 0)))) h1) X t arr (nI (xs.length - 1)) h9 := by
    intro f' h9 c1 c2 c3 c4 c5
    refine f_J2_fastRemove_34 t arr _ h9 (pF c2 ⟨arr, cap, f', rfl, (put_ne h2).trans c3, nI_in (by omega) (by omega), Or.inl rfl, rfl, ?_⟩)
    rw [nI_clamp (by omega)]
    refine ⟨_, hQ, GS_list (arr := arr) (cap := cap) (f := va_up f' (xs.length - 1) none) ((put_ne (Ne.symm h2)).trans put_self) rfl rfl (by rw [hlen]; rfl) h2 put_self (by rw [hlen]; omega) h5 h6 (fun j hj => ?_) (by show h.1 ≤ h9.1; omega) (fun b e hb => ?_)⟩
    · rw [hlen] at hj
      rw [← c5 j hj]
      simp [va_up, Nat.ne_of_lt hj]
    · by_cases hbt : b = t
      · subst hbt
        rw [put_self] at hb
        cases hb
        exact Or.inl ⟨rfl, rfl⟩
      · rw [put_ne hbt] at hb
        have hba : b ≠ arr := fun q => by rw [q, h3] at hb; cases hb
        exact Or.inr ⟨hbt, hba, by rw [put_ne hba, put_ne hbt, c4 b hba hbt]; exact hb⟩
  have hoth : ∀ b, b ≠ arr → b ≠ t → (q_put (q_put (q_put h t (c_ob 6 (q_lv k arr xs.length))) arr (c_ra 4 cap f)) t (c_ob 6 (updV (q_lv k arr xs.length) 0 (.int (k + 1))))).2 b = h.2 b := fun b hb1 hb2 => by rw [put_ne hb2, put_ne hb1, put_ne hb2]
  refine ⟨fun z => ?_, fun z => ?_⟩
  · have hle : xs.length - 1 ≤ i := (nI_leI (by omega) (by omega)).mp z
    refine hfin f _ rfl put_self e2 hoth (fun j hj => ?_)
    rw [getD_erase, if_pos (by omega)]
    exact h7 j (by omega)
  · have hlt : i < xs.length - 1 := by
      apply Nat.lt_of_not_le
      intro w
      exact z ((nI_leI (by omega) (by omega)).mpr w)
    have hs : nI (xs.length - 1) - nI i = nI (xs.length - 1 - i) := by
      rw [zI_n, zI_n, zI_n, zI_sub]
      congr 1
      omega
    rw [hs, nI_1]
    have c1 : (nI (i + 1)).toNatClampNeg = i + 1 := nI_clamp (by omega)
    have c2 : (nI i).toNatClampNeg = i := nI_clamp (by omega)
    have c3 : (nI (xs.length - 1 - i)).toNatClampNeg = xs.length - 1 - i := nI_clamp (by omega)
    refine ⟨arr, cap, f, arr, cap, f, rfl, rfl, Or.inl e2, e2, nI_pos (by omega), nI_pos (by omega), nI_pos (by omega), by rw [c1, c3]; omega, by rw [c2, c3]; omega, fun j hj y hy => ?_, ?_⟩
    · rw [c3] at hj
      rw [c1, h7 _ (by omega)] at hy
      cases hy
      obtain ⟨z', B', z1, z2, z3⟩ := hel _ (getD_mem (l := xs) (i := i + 1 + j) (by omega))
      have hyt : xs.getD (i + 1 + j) 0 ≠ t := fun w => ht (by rw [← w]; exact getD_mem (by omega))
      have hyr : xs.getD (i + 1 + j) 0 ≠ arr := fun w => by rw [w, h3] at z1; cases z1
      exact ⟨z', B', Or.inl (by rw [put_ne hyt, put_ne hyr, put_ne hyt]; exact z1), z2, z3⟩
    · rw [c1, c2, c3]
      refine hfin _ _ rfl ((put_ne (Ne.symm h2)).trans put_self) put_self (fun b hb1 hb2 => by rw [put_ne hb1]; exact hoth b hb1 hb2) (fun j hj => ?_)
      rw [getD_erase]
      by_cases hji : j < i
      · rw [if_pos hji]
        simp only [va_cpy]
        rw [if_neg (by omega)]
        exact h7 j (by omega)
      · rw [if_neg hji]
        simp only [va_cpy]
        rw [if_pos (by omega), show i + 1 + (j - i) = j + 1 by omega]
        exact h7 (j + 1) (by omega)
theorem j_add38 {n i arr cap : Nat} {V : Nat → Value} {f : Nat → Option Nat} (e1 : h.2 t = some (c_ob 6 V)) (hV0 : V 0 = .int k) (hV1 : V 1 = .ref arr) (hat : arr ≠ t) (e2 : h.2 arr = some (c_ra 4 cap f)) (hn : n < cap) (hcap : cap ≤ 1000) (h10 : 10 ≤ cap) (hi : i ≤ n) (hnx : n = xs.length) (hf : ∀ j, j < n → f j = some (xs.getD j 0)) (ht : t ∉ xs) (har : arr ∉ xs) (hel : ∀ y ∈ xs, ∃ (z : qE) (B : String), h.2 y = some z ∧ q_nm z = some B ∧ Cond.castable B "java/lang/Object" ∈ lw_tbl) {z : qE} {B : String} (hxt : x ≠ t) (hxr : x ≠ arr) (hx : h.2 x = some z) (hz : q_nm z = some B) (hB : Cond.castable B "java/lang/Object" ∈ lw_tbl) (h2 : qH) (hh1 : h2.1 = h.1) (hh2 : ∀ b e, h2.2 b = some e → (b = t ∧ e = c_ls k (xs.insertIdx i x)) ∨ (b ≠ t ∧ b ≠ arr ∧ h.2 b = some e)) (hQ2 : Q none h2) : L_J2_add_38 D (qcl D Q) X t (nI i) x (nI n) (some arr) h := by
  have hlen : (xs.insertIdx i x).length = xs.length + 1 := List.length_insertIdx_of_le_length (by omega) x
  have hs : nI n - nI i = nI (n - i) := by
    rw [zI_n, zI_n, zI_n, zI_sub]
    congr 1
    omega
  have c1 : (nI (i + 1)).toNatClampNeg = i + 1 := nI_clamp (by omega)
  have c2 : (nI i).toNatClampNeg = i := nI_clamp (by omega)
  have c3 : (nI (n - i)).toNatClampNeg = n - i := nI_clamp (by omega)
  refine f_J2_add_38 t _ _ _ _ h ?_
  rw [hs, nI_1]
  refine ⟨arr, cap, f, arr, cap, f, rfl, rfl, Or.inl e2, e2, nI_pos (by omega), nI_pos (by omega), nI_pos (by omega), by rw [c2, c3]; omega, by rw [c1, c3]; omega, fun j hj y hy => ?_, ?_⟩
  · rw [c3] at hj
    rw [c2, hf _ (by omega)] at hy
    cases hy
    obtain ⟨z', B', z1, z2, z3⟩ := hel _ (getD_mem (l := xs) (i := i + j) (by omega))
    exact ⟨z', B', Or.inl z1, z2, z3⟩
  · rw [c1, c2, c3]
    refine ⟨arr, cap, _, rfl, put_self, nI_in (by omega) (by omega), Or.inr ⟨x, z, B, rfl, Or.inl ((put_ne hxr).trans hx), hz, Or.inr hB⟩, ?_⟩
    rw [c2]
    refine pF (by rw [put_ne (Ne.symm hat), put_ne (Ne.symm hat)]; exact e1) ?_
    rw [nI_1]
    refine ⟨h2, hQ2, GS_list (arr := arr) (cap := cap) (f := va_up (va_cpy f f i (i + 1) (n - i)) i (some x)) put_self hV0 hV1 (by rw [hlen, hnx]; rfl) hat ((put_ne hat).trans put_self) (by rw [hlen]; omega) h10 hcap (fun j hj => ?_) (by rw [hh1]; exact Nat.le_refl _) (fun b e hb => ?_)⟩
    · rw [hlen] at hj
      rw [getD_insert (by omega)]
      by_cases hji : j < i
      · rw [if_pos hji, ← hf j (by omega)]
        simp only [va_up, va_cpy]
        rw [if_neg (by omega), if_neg (by omega)]
      · by_cases hji2 : j = i
        · subst hji2
          simp [va_up]
        · rw [if_neg hji, if_neg hji2, ← hf (j - 1) (by omega)]
          simp only [va_up, va_cpy]
          rw [if_neg hji2, if_pos (by omega), show i + (j - (i + 1)) = j - 1 by omega]
    · rcases hh2 b e hb with h9 | ⟨g1, g2, g3⟩
      · exact Or.inl h9
      · exact Or.inr ⟨g1, g2, by rw [put_ne g1, put_ne g2, put_ne g2]; exact g3⟩
theorem j_add2 (hD : q_DK D) (hc : h.2 t = some (c_ls k xs)) (ht : t ∉ xs) (hxt : x ≠ t) {z : qE} {B : String} (hx : h.2 x = some z) (hz : q_nm z = some B) (hB : Cond.castable B "java/lang/Object" ∈ lw_tbl) (hel : q_els h xs) (hl : xs.length ≤ 64) (hcr : 25 ≤ h.1) {i : Nat} (hi : i ≤ xs.length) (hQ : ∀ c', h.1 ≤ c' + 25 → c' ≤ h.1 → Q none (c', (q_put h t (c_ls (k + 1) (xs.insertIdx i x))).2)) : MW D m_J2_add [va_rf (some t), .int (nI i), va_rf (some x)] h Q X := by
  refine MW_pre (q_open hc) fun h1 ho => MW_close ?_
  have hrc : ∀ (h1 : qH) (V : Nat → Value) (Q9 : Option Value → qH → Prop), h1.2 t = some (c_ob 6 V) → V 2 = .int (nI xs.length) → Q9 none h1 → MW D m_J2_rangeCheckForAdd [va_rf (some t), .int (nI i)] h1 Q9 X := by
    intro h1 V Q9 e1 e2 hq
    refine f_J2_rangeCheckForAdd t _ h1 (gI e1 e2 ⟨fun w => absurd w (nI_nlt hi (by omega)), fun _ => ⟨fun _ => hq, fun w => absurd (nI_pos' (by omega)) w⟩⟩)
  rcases ho with ⟨rfl, rfl⟩ | ⟨arr, cap, f, h2, h3, h4, h5, h6, h7, rfl⟩
  · have hi0 : i = 0 := Nat.le_zero.mp hi
    subst hi0
    refine f_J2_add t _ x _ ⟨rcv put_self rfl, hrc _ _ _ put_self rfl ⟨rfl, gI put_self rfl (pF put_self (gI (x := nI 0) put_self rfl (gR (x := some (d_s D 0)) put_self rfl (aNr (Or.inr hD.1) (by omega) ⟨fun q => absurd rfl q, fun _ => ⟨rcv put_self rfl, ?_⟩⟩))))⟩⟩
    refine j_grow0 hD put_self rfl rfl (by show 3 ≤ h.1; omega) (fun a ha => ⟨_, rfl, ?_⟩)
    have hat : a ≠ t := fun q => by subst q; rw [put_self] at ha; cases ha
    rw [put_ne hat, put_ne hat] at ha
    have hxa : x ≠ a := fun q => by rw [← q, hx] at ha; cases ha
    refine j_add38 (xs := []) (k := k + 1) (cap := 10) (f := fun _ => none) (n := 0) (i := 0) put_self rfl rfl hat ((put_ne hat).trans new_self) (by omega) (by omega) (by omega) (by omega) rfl (fun j hj => absurd hj (Nat.not_lt_zero j)) (by simp) (by simp) (fun y hy => by simp at hy) (z := z) (B := B) hxt hxa (by rw [put_ne hxt, new_ne hxa, put_ne hxt, put_ne hxt]; exact hx) hz hB _ ?_ ?_ (hQ (h.1 - 3) (by omega) (by omega))
    · rfl
    · intro b e hb
      by_cases hbt : b = t
      · subst hbt
        rw [show (h.1 - 3, (q_put h b (c_ls (k + 1) ([].insertIdx 0 x))).2).2 b = some (c_ls (k + 1) ([].insertIdx 0 x)) from put_self] at hb
        cases hb
        exact Or.inl ⟨rfl, rfl⟩
      · have hb : h.2 b = some e := (put_ne hbt).symm.trans hb
        have hba : b ≠ a := fun q => by rw [← q, hb] at ha; cases ha
        exact Or.inr ⟨hbt, hba, by rw [put_ne hbt, new_ne hba, put_ne hbt, put_ne hbt]; exact hb⟩
  · have hxr : x ≠ arr := fun q => by rw [q, h3] at hx; cases hx
    have hnr : arr ∉ xs := fun w => by
      obtain ⟨z', B', z1, -⟩ := hel arr w
      rw [h3] at z1
      cases z1
    have e1 : (q_put (q_put h t (c_ob 6 (q_lv k arr xs.length))) arr (c_ra 4 cap f)).2 t = some (c_ob 6 (q_lv k arr xs.length)) := (put_ne (Ne.symm h2)).trans put_self
    have e2 := (put_ne (h := q_put (q_put h t (c_ob 6 (q_lv k arr xs.length))) arr (c_ra 4 cap f)) (e := c_ob 6 (updV (q_lv k arr xs.length) 0 (.int (k + 1)))) h2).trans (put_self (e := c_ra 4 cap f))
    have hoth : ∀ b, b ≠ arr → b ≠ t → (q_put (q_put (q_put h t (c_ob 6 (q_lv k arr xs.length))) arr (c_ra 4 cap f)) t (c_ob 6 (updV (q_lv k arr xs.length) 0 (.int (k + 1))))).2 b = h.2 b := fun b hb1 hb2 => by rw [put_ne hb2, put_ne hb1, put_ne hb2]
    have hels : ∀ y ∈ xs, ∃ (z : qE) (B : String), (q_put (q_put (q_put h t (c_ob 6 (q_lv k arr xs.length))) arr (c_ra 4 cap f)) t (c_ob 6 (updV (q_lv k arr xs.length) 0 (.int (k + 1))))).2 y = some z ∧ q_nm z = some B ∧ Cond.castable B "java/lang/Object" ∈ lw_tbl := by
      intro y hy
      obtain ⟨z', B', z1, z2, z3⟩ := hel y hy
      exact ⟨z', B', by rw [hoth y (fun w => hnr (by rw [← w]; exact hy)) (fun w => ht (by rw [← w]; exact hy))]; exact z1, z2, z3⟩
    refine f_J2_add t _ x _ ⟨rcv e1 rfl, hrc _ _ _ e1 rfl ⟨rfl, gI e1 rfl (pF e1 (gI (x := nI xs.length) put_self rfl (gR (x := some arr) put_self rfl (aNr (Or.inl e2) (by omega) ⟨fun q => ?_, fun q => ⟨rcv put_self rfl, ?_⟩⟩))))⟩⟩
    · have hlt : xs.length < cap := Nat.lt_of_le_of_ne h4 (fun z => q (by rw [z]))
      refine j_add38 (xs := xs) (k := k + 1) (cap := cap) (f := f) (n := xs.length) (i := i) put_self rfl rfl h2 e2 hlt h6 h5 hi rfl h7 ht hnr hels (z := z) (B := B) hxt hxr ((hoth x hxr hxt).trans hx) hz hB _ ?_ ?_ (hQ h.1 (by omega) (by omega))
      · rfl
      · intro b e hb
        by_cases hbt : b = t
        · subst hbt
          rw [show (h.1, (q_put h b (c_ls (k + 1) (xs.insertIdx i x))).2).2 b = some (c_ls (k + 1) (xs.insertIdx i x)) from put_self] at hb
          cases hb
          exact Or.inl ⟨rfl, rfl⟩
        · have hb : h.2 b = some e := (put_ne hbt).symm.trans hb
          have hba : b ≠ arr := fun q => by rw [← q, hb] at h3; cases h3
          exact Or.inr ⟨hbt, hba, (hoth b hba hbt).trans hb⟩
    · have hcap : xs.length = cap := (nI_eq (by omega) (by omega)).mp q
      subst hcap
      refine j_growN put_self rfl rfl e2 h5 hl (fun j hj y hy => ?_) (by show 25 ≤ h.1; omega) (fun a ha => ⟨_, rfl, ?_⟩)
      · rw [h7 j hj] at hy
        cases hy
        exact hels _ (getD_mem hj)
      · have hat : a ≠ t := fun w => by subst w; rw [put_self] at ha; cases ha
        have har : a ≠ arr := fun w => by subst w; rw [e2] at ha; cases ha
        rw [hoth a har hat] at ha
        have hne : ∀ b e, h.2 b = some e → b ≠ a := fun b e hb w => by rw [w, ha] at hb; cases hb
        have hoth2 : ∀ (e9 e8 : qE) (c9 : Nat) (e7 : qE) b, b ≠ a → b ≠ arr → b ≠ t → (q_put (q_put (q_new (q_put (q_put (q_put h t (c_ob 6 (q_lv k arr xs.length))) arr (c_ra 4 xs.length f)) t (c_ob 6 (updV (q_lv k arr xs.length) 0 (.int (k + 1))))) c9 a e7) a e9) t e8).2 b = h.2 b := fun e9 e8 c9 e7 b hb1 hb2 hb3 => by rw [put_ne hb3, put_ne hb1, new_ne hb1]; exact hoth b hb2 hb3
        refine j_add38 (xs := xs) (k := k + 1) (cap := xs.length + xs.length / 2) (f := va_cpy f (fun _ => none) 0 0 xs.length) (n := xs.length) (i := i) put_self rfl rfl hat ((put_ne hat).trans put_self) (by omega) (by omega) (by omega) hi rfl (fun j hj => ?_) ht (fun w => ?_) (fun y hy => ?_) (z := z) (B := B) hxt (hne x _ hx) ((hoth2 _ _ _ _ x (hne x _ hx) hxr hxt).trans hx) hz hB _ ?_ ?_ (hQ (h.1 - (1 + (xs.length + xs.length / 2) / 4)) (by omega) (by omega))
        · rw [← h7 j hj]
          simp [va_cpy, hj]
        · obtain ⟨z', B', z1, -⟩ := hel a w
          exact hne a _ z1 rfl
        · obtain ⟨z', B', z1, z2, z3⟩ := hel y hy
          exact ⟨z', B', (hoth2 _ _ _ _ y (hne y _ z1) (fun w => hnr (by rw [← w]; exact hy)) (fun w => ht (by rw [← w]; exact hy))).trans z1, z2, z3⟩
        · rfl
        · intro b e hb
          by_cases hbt : b = t
          · subst hbt
            rw [show (h.1 - (1 + (xs.length + xs.length / 2) / 4), (q_put h b (c_ls (k + 1) (xs.insertIdx i x))).2).2 b = some (c_ls (k + 1) (xs.insertIdx i x)) from put_self] at hb
            cases hb
            exact Or.inl ⟨rfl, rfl⟩
          · have hb : h.2 b = some e := (put_ne hbt).symm.trans hb
            have hba : b ≠ arr := fun q => by rw [← q, hb] at h3; cases h3
            exact Or.inr ⟨hbt, hne b _ hb, (hoth2 _ _ _ _ b (hne b _ hb) hba hbt).trans hb⟩
/-! iterators -/
theorem j_iterator (hD : q_DK D) (hc : h.2 t = some (c_ls k xs)) (hcr : 2 ≤ h.1) (hQ : ∀ (a : Nat) (V : Nat → Value), h.2 a = none → V 0 = .int (nI 0) → V 2 = .int k → V 3 = .ref t → Q (some (va_rf (some a))) (q_new h 2 a (c_ob 7 V))) : MW D m_J2_iterator [va_rf (some t)] h Q X := by
  refine MW_pre (q_open hc) fun h1 ho => MW_close ?_
  have hc1 : h1.1 = h.1 := by
    rcases ho with ⟨rfl, rfl⟩ | ⟨arr, cap, f, h2, h3, h4, h5, h6, h7, rfl⟩ <;> rfl
  refine f_J2_iterator t h1 ⟨by rw [hc1]; exact hcr, fun a ha => ?_⟩
  have hcase : ∃ arr : Nat, h1.2 t = some (c_ob 6 (q_lv k arr xs.length)) ∧ h.2 a = none ∧ a ≠ t ∧ ∀ (W : Nat → Value) (h9 : qH), h9 = q_put (q_put (q_put (q_new h1 (1 + 4 / 4) a (c_ob 7 fun k => defaultValue (tyJ22 k))) a (c_ob 7 (updV (fun k => defaultValue (tyJ22 k)) 3 (va_rf (some t))))) a (c_ob 7 (updV (updV (fun k => defaultValue (tyJ22 k)) 3 (va_rf (some t))) 1 (.int (-1))))) a (c_ob 7 W) → GS D h9 (q_new h 2 a (c_ob 7 W)) := by
    rcases ho with ⟨rfl, rfl⟩ | ⟨arr, cap, f, h2, h3, h4, h5, h6, h7, rfl⟩
    · have hat : a ≠ t := fun w => by subst w; rw [put_self] at ha; cases ha
      rw [put_ne hat] at ha
      refine ⟨d_s D 0, put_self, ha, hat, fun W h9 hh => ?_⟩
      subst hh
      refine GS_list0 (t := t) (k := k) (V := q_lv k (d_s D 0) 0) (by rw [put_ne (Ne.symm hat), put_ne (Ne.symm hat), put_ne (Ne.symm hat), new_ne (Ne.symm hat)]; exact put_self) rfl rfl rfl (Nat.le_refl _) (fun b e hb => ?_)
      by_cases hba : b = a
      · subst hba
        rw [new_self] at hb
        exact Or.inr ⟨hat, by rw [put_self]; exact hb⟩
      · rw [new_ne hba] at hb
        by_cases hbt : b = t
        · subst hbt
          rw [hc] at hb
          cases hb
          exact Or.inl ⟨rfl, rfl⟩
        · exact Or.inr ⟨hbt, by rw [put_ne hba, put_ne hba, put_ne hba, new_ne hba, put_ne hbt]; exact hb⟩
    · have har : a ≠ arr := fun w => by subst w; rw [put_self] at ha; cases ha
      rw [put_ne har] at ha
      have hat : a ≠ t := fun w => by subst w; rw [put_self] at ha; cases ha
      rw [put_ne hat] at ha
      refine ⟨arr, (put_ne (Ne.symm h2)).trans put_self, ha, hat, fun W h9 hh => ?_⟩
      subst hh
      refine GS_list (t := t) (k := k) (xs := xs) (arr := arr) (cap := cap) (f := f) (V := q_lv k arr xs.length) (by rw [put_ne (Ne.symm hat), put_ne (Ne.symm hat), put_ne (Ne.symm hat), new_ne (Ne.symm hat), put_ne (Ne.symm h2)]; exact put_self) rfl rfl rfl h2 (by rw [put_ne (Ne.symm har), put_ne (Ne.symm har), put_ne (Ne.symm har), new_ne (Ne.symm har)]; exact put_self) h4 h5 h6 h7 (Nat.le_refl _) (fun b e hb => ?_)
      by_cases hba : b = a
      · subst hba
        rw [new_self] at hb
        exact Or.inr ⟨hat, har, by rw [put_self]; exact hb⟩
      · rw [new_ne hba] at hb
        by_cases hbt : b = t
        · subst hbt
          rw [hc] at hb
          cases hb
          exact Or.inl ⟨rfl, rfl⟩
        · have hbr : b ≠ arr := fun q => by rw [q, h3] at hb; cases hb
          exact Or.inr ⟨hbt, hbr, by rw [put_ne hba, put_ne hba, put_ne hba, new_ne hba, put_ne hbr, put_ne hbt]; exact hb⟩
  obtain ⟨arr, e1, ha2, hat, hgs⟩ := hcase
  refine f_J22_init a t _ (pF new_self (pF put_self (gR (x := some t) put_self rfl (gI (x := k) (V := q_lv k arr xs.length) (by rw [put_ne (Ne.symm hat), put_ne (Ne.symm hat), new_ne (Ne.symm hat)]; exact e1) rfl (pF put_self ⟨rfl, ?_⟩)))))
  exact ⟨_, hQ a _ ha2 rfl rfl rfl, hgs _ _ rfl⟩
theorem j_hasNext (hD : q_DK D) (hc : h.2 t = some (c_ls k xs)) {V : Nat → Value} {i : Nat} (ha : h.2 a = some (c_ob 7 V)) (hV0 : V 0 = .int (nI i)) (hV3 : V 3 = .ref t) (hi : i ≤ xs.length) (hx : xs.length < 1000) (hQ : Q (some (.int (if i < xs.length then 1 else 0))) h) : MW D m_J22_hasNext [va_rf (some a)] h Q X := by
  refine MW_pre (q_open hc) fun h1 ho => MW_close ?_
  obtain ⟨arr, cap, f, e1, e2, e3, e4, e5, e6, e7⟩ := q_op_read hD hc ho
  have hat : a ≠ t := fun w => by rw [w, hc] at ha; cases ha
  have ha1 := e7 a _ hat ha
  refine f_J22_hasNext a h1 (gI ha1 hV0 (gR (x := some t) ha1 hV3 (gI (x := nI xs.length) e1 rfl ⟨fun z => ⟨h, ?_, e6⟩, fun z => ⟨h, ?_, e6⟩⟩)))
  · rw [if_neg (by rw [(nI_eq (by omega) (by omega)).mp z]; omega)] at hQ
    exact hQ
  · rw [if_pos (Nat.lt_of_le_of_ne hi (fun w => z (by rw [w])))] at hQ
    exact hQ
theorem j_next (hD : q_DK D) (hc : h.2 t = some (c_ls k xs)) {V : Nat → Value} {i : Nat} (ha : h.2 a = some (c_ob 7 V)) (hV0 : V 0 = .int (nI i)) (hV2 : V 2 = .int k) (hV3 : V 3 = .ref t) (hi : i < xs.length) (hx : xs.length < 1000) (hQ : ∀ W : Nat → Value, W 0 = .int (nI (i + 1)) → W 2 = .int k → W 3 = .ref t → Q (some (va_rf (some (xs.getD i 0)))) (q_put h a (c_ob 7 W))) : MW D m_J22_next [va_rf (some a)] h Q X := by
  refine MW_pre (q_open hc) fun h1 ho => MW_close ?_
  have ho9 := ho
  obtain ⟨arr, cap, f, e1, e2, e3, e4, e5, e6, e7⟩ := q_op_read hD hc ho
  have hat : a ≠ t := fun w => by rw [w, hc] at ha; cases ha
  have ha1 := e7 a _ hat ha
  have hli : ¬ nI xs.length ≤ nI i := nI_ge hi (by omega)
  refine f_J22_next a h1 ⟨rcv ha1 rfl, f_J22_checkForComodification a h1 (gR (x := some t) ha1 hV3 (gI (x := k) e1 rfl (gI ha1 hV2 ⟨fun _ => ⟨rfl, ?_⟩, fun z => absurd rfl z⟩)))⟩
  have e2' : ∃ f', q_cell D h1 arr (c_ra 4 cap f') ∧ ∀ i, i < xs.length → f' i = some (xs.getD i 0) := ⟨f, e2, e5⟩
  refine gI ha1 hV0 (gR (x := some t) ha1 hV3 (gI (x := nI xs.length) e1 rfl ⟨fun _ => gR (x := some t) ha1 hV3 (gR (x := some arr) e1 rfl (aNr e2 (by omega) ⟨fun _ => ?_, fun z => absurd (nI_lt (by omega) (by omega)) z⟩)), fun z => absurd (nI_lt hi (by omega)) z⟩))
  rw [nI_1]
  refine pF ha1 (pF put_self ?_)
  have hara : ∀ e8 e9 : qE, q_cell D (q_put (q_put h1 a e8) a e9) arr (c_ra 4 cap f) := by
    intro e8 e9
    rcases e2 with e2 | e2
    · have har : arr ≠ a := fun w => by rw [w, ha1] at e2; cases e2
      exact Or.inl (by rw [put_ne har, put_ne har]; exact e2)
    · exact Or.inr e2
  refine aR (hara _ _) (nI_in (by omega) (by omega)) ?_
  rw [nI_clamp (by omega), e5 i hi]
  refine ⟨_, hQ (updV (updV V 0 (.int (nI (i + 1)))) 1 (.int (nI i))) rfl hV2 hV3, ?_⟩
  rcases ho9 with ⟨rfl, rfl⟩ | ⟨arr', cap', f', h2, h3, h4, h5, h6, h7, rfl⟩
  · exact absurd hi (Nat.not_lt_zero i)
  · have har : arr' ≠ a := fun w => by rw [w, ha] at h3; cases h3
    refine GS_list (t := t) (k := k) (xs := xs) (arr := arr') (cap := cap') (f := f') (V := q_lv k arr' xs.length) (by rw [put_ne (Ne.symm hat), put_ne (Ne.symm hat), put_ne (Ne.symm h2)]; exact put_self) rfl rfl rfl h2 (by rw [put_ne har, put_ne har]; exact put_self) h4 h5 h6 h7 (Nat.le_refl _) (fun b e hb => ?_)
    by_cases hba : b = a
    · subst hba
      rw [put_self] at hb
      exact Or.inr ⟨hat, Ne.symm har, by rw [put_self]; exact hb⟩
    · rw [put_ne hba] at hb
      by_cases hbt : b = t
      · subst hbt
        rw [hc] at hb
        cases hb
        exact Or.inl ⟨rfl, rfl⟩
      · have hbr : b ≠ arr' := fun q => by rw [q, h3] at hb; cases hb
        exact Or.inr ⟨hbt, hbr, by rw [put_ne hba, put_ne hba, put_ne hbr, put_ne hbt]; exact hb⟩
end LV
