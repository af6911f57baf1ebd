set_option maxRecDepth 100000
/-! the component: a new line -/
theorem ov_ext {W : mW} {cc : Nat → qE} {g h : qH} (h1 : h.1 = g.1) (h2 : ∀ y k, W.2 y = some k → h.2 y = some (cc k)) (h3 : ∀ y, W.2 y = none → h.2 y = g.2 y) : h = ov W cc g := by
  refine Prod.ext h1 (funext fun b => ?_)
  cases hx : W.2 b with
  | none => rw [ov_bg hx, h3 b hx]
  | some j => rw [ov_in hx, h2 b j hx]
theorem oOK_iff {W : mW} {R R' : Nat → Prop} (h : oOK W R) (hR : ∀ k, R k ↔ R' k) : oOK W R' := ⟨fun k hk => h.1 k ((hR k).mpr hk), fun b k hb => ⟨(h.2 b k hb).1, (hR k).mp (h.2 b k hb).2⟩⟩
def lNew (v : lV) (hd w : Int) : lV := (mF (mA (mA (mA (mA (mA v.1 19 (v.1.1 14) hd) 38 (v.1.1 14) w) 18 (v.1.1 14) 0) 21 (v.1.1 14) 0) 17 (v.1.1 14) (-1)) 14 (v.1.1 14 + 1), fun j => if j = 6 + 3 * (v.1.1 14).toNat ∨ j = 7 + 3 * (v.1.1 14).toNat then [] else v.2 j)
section LHN
variable {D : qD} {Q : Option Value → qH → Prop} {x : Nat} {r : Int} {g0 : qH} {W : mW} {v : lV} {h : qH} {X : String → qH → Prop}
theorem j_X6_init {t : Nat} {V0 : Nat → Value} (hc : h.2 t = some (c_ob 5 V0)) {p : Int32} (hp : p = 0 ∨ p = 1) (hcr : 2 ≤ h.1) (hQ : ∀ a b h', h.2 a = none → h.2 b = none → a ≠ b → h'.1 + 2 = h.1 → h'.2 t = some (c_ob 5 (updV (updV (updV (updV V0 1 (va_rf (some a))) 2 (va_rf (some b))) 6 (.int (-1))) 0 (.int p))) → h'.2 a = some (c_ls 0 []) → h'.2 b = some (c_ls 0 []) → (∀ y, y ≠ t → y ≠ a → y ≠ b → h'.2 y = h.2 y) → Q none h') : MW D m_X6_init [va_rf (some t), .int p] h Q X := by
  refine f_X6_init _ _ h ⟨by show 1 ≤ h.1; omega, fun a ha => j_init new_self rfl ⟨rfl, ?_⟩⟩
  have hat : a ≠ t := fun w => by rw [w, hc] at ha; cases ha
  refine pF ((put_ne (Ne.symm hat)).trans ((new_ne (Ne.symm hat)).trans hc)) ⟨by show 1 ≤ h.1 - 1; omega, fun b hb => j_init new_self rfl ⟨rfl, ?_⟩⟩
  have hbt : b ≠ t := fun w => by rw [w, put_self] at hb; cases hb
  rw [put_ne hbt] at hb
  have hba : b ≠ a := fun w => by rw [w, put_self] at hb; cases hb
  rw [put_ne hba, new_ne hba] at hb
  refine pF ((put_ne (Ne.symm hbt)).trans ((new_ne (Ne.symm hbt)).trans put_self)) (pF put_self ⟨hp, pF put_self (hQ a b _ ha hb (Ne.symm hba) ?_ put_self ?_ ?_ (fun y h1 h2 h3 => ?_))⟩)
  · show h.1 - 1 - 1 + 2 = h.1
    omega
  · rw [put_ne hat, put_ne hat, put_ne hat, put_ne (Ne.symm hba), new_ne (Ne.symm hba), put_ne hat]
    exact put_self
  · rw [put_ne hbt, put_ne hbt, put_ne hbt]
    exact put_self
  · rw [put_ne h1, put_ne h1, put_ne h1, put_ne h3, new_ne h3, put_ne h1, put_ne h2, new_ne h2]
theorem LH_new (hD : q_DK D) (hH : LH x r g0 W v h) (hn : v.1.1 14 ≤ 63) (hcr : 40 ≤ h.1) {a1 : Nat} (ha1 : h.2 a1 = none) {hd w : Int} (hhd : hd = 0 ∨ hd = 1) {p0 w0 : Int32} (hp0 : p0 = zI hd) (hw0 : w0 = zI w) {K : qH → Prop} (k9 : ∀ W' h', LH x r g0 W' (lNew v hd w) h' → (∀ k : Nat, (k : Int) < 3 * v.1.1 14 + 5 → W'.1 k = W.1 k) → W'.1 (5 + 3 * (v.1.1 14).toNat) = a1 → h.1 ≤ h'.1 + 40 → K h') : c_V D m_X6_init [va_rf (some a1), .int p0] (q_new h 2 a1 (c_ob 5 (fun k => defaultValue (tyX6 k)))) X (fun h1 => g_R D h1 (some (W.1 0)) 4 1 (fun r2 => (recv D h1 r2 RJ2 ∧ c_I D m_J2_add_2 [va_rf r2, va_rf (some a1)] h1 X (fun _ h3 => p_F h3 (some a1) 5 3 (.int w0) K)))) := by
  subst hp0
  subst hw0
  have hX := hH.lx
  obtain ⟨h0, q, p, g, h1, h2, h3, h4, h5⟩ := hH
  have hN : ((v.1.1 14).toNat : Int) = v.1.1 14 := Int.toNat_of_nonneg h0
  have hle : q_le g h := by rw [h1]; exact ov_le h4
  have hw1 : W.2 a1 = none ∧ g.2 a1 = none := by rw [h1] at ha1; exact ov_none ha1
  have hg1 : h.1 = g.1 := by rw [h1]; rfl
  have hin : ∀ y k, W.2 y = some k → h.2 y = some (lcell W.1 x r v.1 q p k) := fun y k hy => by rw [h1]; exact ov_in hy
  have hout : ∀ y, W.2 y = none → h.2 y = g.2 y := fun y hy => by rw [h1]; exact ov_bg hy
  clear h1
  generalize hNN : (v.1.1 14).toNat = N at *
  refine j_X6_init new_self (by rcases hhd with rfl | rfl <;> simp [zl_0.symm, zl_1.symm]) (by show 2 ≤ h.1 - 2; omega) fun a b hi ha hb hab hic e1 e2 e3 e4 => ⟨rfl, ?_⟩
  have haa : a ≠ a1 := fun w => by rw [w, new_self] at ha; cases ha
  have hba : b ≠ a1 := fun w => by rw [w, new_self] at hb; cases hb
  rw [new_ne haa] at ha
  rw [new_ne hba] at hb
  have hwa : W.2 a = none ∧ g.2 a = none := by
    cases hx : W.2 a with
    | none => exact ⟨rfl, by rw [← hout a hx]; exact ha⟩
    | some j => rw [hin a j hx] at ha; cases ha
  have hwb : W.2 b = none ∧ g.2 b = none := by
    cases hx : W.2 b with
    | none => exact ⟨rfl, by rw [← hout b hx]; exact hb⟩
    | some j => rw [hin b j hx] at hb; cases hb
  have hic : hi.1 + 2 = h.1 - 2 := hic
  have hold : ∀ y, y ≠ a1 → y ≠ a → y ≠ b → hi.2 y = h.2 y := fun y y1 y2 y3 => (e4 y y1 y2 y3).trans (new_ne y1)
  have hR0 : lR (v.1.1 14) 0 := by show ((0 : Nat) : Int) < _; omega
  have hR1 : lR (v.1.1 14) 1 := by show ((1 : Nat) : Int) < _; omega
  have hrole : ∀ k, lR (v.1.1 14) k → W.1 k ≠ a1 ∧ W.1 k ≠ a ∧ W.1 k ≠ b ∧ hi.2 (W.1 k) = some (lcell W.1 x r v.1 q p k) := by
    intro k hk
    have hk9 := h2.1 k hk
    have k1 : W.1 k ≠ a1 := fun w => by rw [w, hw1.1] at hk9; cases hk9
    have k2 : W.1 k ≠ a := fun w => by rw [w, hwa.1] at hk9; cases hk9
    have k3 : W.1 k ≠ b := fun w => by rw [w, hwb.1] at hk9; cases hk9
    exact ⟨k1, k2, k3, by rw [hold _ k1 k2 k3]; exact hin _ k hk9⟩
  obtain ⟨z1, z2, z3, z4⟩ := hrole 0 hR0
  obtain ⟨o1, o2, o3, o4⟩ := hrole 1 hR1
  have hinj : ∀ i j, lR (v.1.1 14) i → lR (v.1.1 14) j → W.1 i = W.1 j → i = j := fun i j hi hj w => by
    have h9 := h2.1 i hi
    rw [w, h2.1 j hj] at h9
    cases h9
    rfl
  have hlist : ∀ y ∈ lLs W.1 (v.1.1 14), ∃ i : Nat, (i : Int) < v.1.1 14 ∧ y = W.1 (5 + 3 * i) := fun y hy => by
    obtain ⟨i, hi, rfl⟩ := mem_getD hy
    rw [lLs_len] at hi
    exact ⟨i, by omega, lLs_at (by omega)⟩
  have o5 : hi.2 (W.1 1) = some (c_ls (q 1) (lLs W.1 (v.1.1 14))) := o4
  have z5 : hi.2 (W.1 0) = some (c_ob 4 (lobV W.1 x r v.1)) := z4
  refine gR z5 (x := some (W.1 1)) rfl ⟨rls o5, j_add hD o5 (fun w => ?_) (Ne.symm o1) e1 rfl q1561 (fun y hy => ?_) (by rw [lLs_len]; omega) (by omega) (fun c' c1 c2 => ⟨_, rfl, ?_⟩)⟩
  · obtain ⟨i, hi9, w2⟩ := hlist _ w
    have := hinj 1 (5 + 3 * i) hR1 (by show ((5 + 3 * i : Nat) : Int) < _; omega) w2
    omega
  · obtain ⟨i, hi9, rfl⟩ := hlist y hy
    obtain ⟨i1, i2, i3, i4⟩ := hrole (5 + 3 * i) (by show ((5 + 3 * i : Nat) : Int) < _; omega)
    refine ⟨_, _, i4, ?_, q1561⟩
    unfold lcell
    rw [if_neg (by omega), if_neg (by omega), if_neg (by omega), if_neg (by omega), if_pos (by omega)]
    rfl
  · have f1 : ((c', (q_put hi (W.1 1) (c_ls (q 1 + 1) (lLs W.1 (v.1.1 14) ++ [a1]))).2) : qH).2 a1 = some (c_ob 5 (updV (updV (updV (updV (fun k => defaultValue (tyX6 k)) 1 (va_rf (some a))) 2 (va_rf (some b))) 6 (.int (-1))) 0 (.int (zI hd)))) := (put_ne (Ne.symm o1)).trans e1
    have hW'1 : ∀ k : Nat, (k : Int) < 3 * v.1.1 14 + 5 → (oadd (oadd (oadd W (5 + 3 * N) a1) (6 + 3 * N) a) (7 + 3 * N) b).1 k = W.1 k := by
      intro k hk
      show (if k = 7 + 3 * N then b else if k = 6 + 3 * N then a else if k = 5 + 3 * N then a1 else W.1 k) = W.1 k
      rw [if_neg (by omega), if_neg (by omega), if_neg (by omega)]
    have hWa1 : (oadd (oadd (oadd W (5 + 3 * N) a1) (6 + 3 * N) a) (7 + 3 * N) b).1 (5 + 3 * N) = a1 := by
      show (if 5 + 3 * N = 7 + 3 * N then b else if 5 + 3 * N = 6 + 3 * N then a else if 5 + 3 * N = 5 + 3 * N then a1 else W.1 (5 + 3 * N)) = a1
      rw [if_neg (by omega), if_neg (by omega), if_pos rfl]
    have hWa : (oadd (oadd (oadd W (5 + 3 * N) a1) (6 + 3 * N) a) (7 + 3 * N) b).1 (5 + 3 * N + 1) = a := by
      show (if 5 + 3 * N + 1 = 7 + 3 * N then b else if 5 + 3 * N + 1 = 6 + 3 * N then a else if 5 + 3 * N + 1 = 5 + 3 * N then a1 else W.1 (5 + 3 * N + 1)) = a
      rw [if_neg (by omega), if_pos (by omega)]
    have hWb : (oadd (oadd (oadd W (5 + 3 * N) a1) (6 + 3 * N) a) (7 + 3 * N) b).1 (5 + 3 * N + 2) = b := by
      show (if 5 + 3 * N + 2 = 7 + 3 * N then b else if 5 + 3 * N + 2 = 6 + 3 * N then a else if 5 + 3 * N + 2 = 5 + 3 * N then a1 else W.1 (5 + 3 * N + 2)) = b
      rw [if_pos (by omega)]
    have e14 : (lNew v hd w).1.1 14 = v.1.1 14 + 1 := rfl
    refine pF f1 (k9 (oadd (oadd (oadd W (5 + 3 * N) a1) (6 + 3 * N) a) (7 + 3 * N) b) _ ⟨by rw [e14]; omega, fun k => if k = 1 then q 1 + 1 else if k = 6 + 3 * N ∨ k = 7 + 3 * N then 0 else q k, fun k => if k = 6 + 3 * N ∨ k = 7 + 3 * N then [] else p k, (c', g.2), ?_, ?_, h3, ?_, ?_⟩ hW'1 hWa1 ?_)
    · have hW'2 : ∀ y k, (oadd (oadd (oadd W (5 + 3 * N) a1) (6 + 3 * N) a) (7 + 3 * N) b).2 y = some k → (y = b ∧ k = 7 + 3 * N) ∨ (y ≠ b ∧ y = a ∧ k = 6 + 3 * N) ∨ (y ≠ b ∧ y ≠ a ∧ y = a1 ∧ k = 5 + 3 * N) ∨ (y ≠ b ∧ y ≠ a ∧ y ≠ a1 ∧ W.2 y = some k) := by
        intro y k hy
        have hy : (if y = b then some (7 + 3 * N) else if y = a then some (6 + 3 * N) else if y = a1 then some (5 + 3 * N) else W.2 y) = some k := hy
        by_cases y1 : y = b
        · rw [if_pos y1] at hy; cases hy; exact Or.inl ⟨y1, rfl⟩
        · rw [if_neg y1] at hy
          by_cases y2 : y = a
          · rw [if_pos y2] at hy; cases hy; exact Or.inr (Or.inl ⟨y1, y2, rfl⟩)
          · rw [if_neg y2] at hy
            by_cases y3 : y = a1
            · rw [if_pos y3] at hy; cases hy; exact Or.inr (Or.inr (Or.inl ⟨y1, y2, y3, rfl⟩))
            · rw [if_neg y3] at hy
              exact Or.inr (Or.inr (Or.inr ⟨y1, y2, y3, hy⟩))
      refine ov_ext rfl (fun y k hy => ?_) (fun y hy => ?_)
      · rcases hW'2 y k hy with ⟨rfl, rfl⟩ | ⟨y1, rfl, rfl⟩ | ⟨y1, y2, rfl, rfl⟩ | ⟨y1, y2, y3, hy4⟩
        · rw [put_ne hba, lcell_list ⟨by omega, by omega⟩, if_neg (by omega), if_pos (Or.inr rfl), if_pos (Or.inr rfl)]
          exact (put_ne (Ne.symm o3)).trans e3
        · rw [put_ne haa, lcell_list ⟨by omega, by omega⟩, if_neg (by omega), if_pos (Or.inl rfl), if_pos (Or.inl rfl)]
          exact (put_ne (Ne.symm o2)).trans e2
        · rw [put_self]
          unfold lcell
          rw [if_neg (by omega), if_neg (by omega), if_neg (by omega), if_neg (by omega), if_pos (by omega)]
          refine congrArg (fun z => some (c_ob 5 z)) (funext fun m => ?_)
          have ei : ((((5 + 3 * N) - 5) / 3 : Nat) : Int) = v.1.1 14 := by omega
          unfold linV
          rw [hWa, hWb, ei]
          have g19 : (lNew v hd w).1.2 19 (v.1.1 14) = hd := by unfold lNew; simp [mF, mA]
          have g38 : (lNew v hd w).1.2 38 (v.1.1 14) = w := by unfold lNew; simp [mF, mA]
          have g18 : (lNew v hd w).1.2 18 (v.1.1 14) = 0 := by unfold lNew; simp [mF, mA]
          have g21 : (lNew v hd w).1.2 21 (v.1.1 14) = 0 := by unfold lNew; simp [mF, mA]
          have g17 : (lNew v hd w).1.2 17 (v.1.1 14) = -1 := by unfold lNew; simp [mF, mA]
          rw [g19, g38, g18, g21, g17]
          by_cases m0 : m = 0
          · subst m0; rfl
          · by_cases m1 : m = 1
            · subst m1; rfl
            · by_cases m2 : m = 2
              · subst m2; rfl
              · by_cases m3 : m = 3
                · subst m3; rfl
                · by_cases m4 : m = 4
                  · subst m4; rfl
                  · by_cases m5 : m = 5
                    · subst m5; rfl
                    · by_cases m6 : m = 6
                      · subst m6; rfl
                      · simp [updV, m0, m1, m2, m3, m4, m5, m6]
        · obtain ⟨ey, hyR⟩ := h2.2 y k hy4
          have hyR9 : (k : Int) < 3 * v.1.1 14 + 5 := hyR
          rw [put_ne y3]
          show (if y = W.1 1 then some (c_ls (q 1 + 1) (lLs W.1 (v.1.1 14) ++ [a1])) else hi.2 y) = _
          by_cases hy1 : y = W.1 1
          · have hk1 : k = 1 := by
              rw [hy1, h2.1 1 hR1] at hy4
              cases hy4
              rfl
            subst hk1
            rw [if_pos hy1]
            unfold lcell
            rw [if_neg (by omega), if_pos rfl]
            show some (c_ls (q 1 + 1) (lLs W.1 (v.1.1 14) ++ [a1])) = some (c_ls (q 1 + 1) (lLs (oadd (oadd (oadd W (5 + 3 * N) a1) (6 + 3 * N) a) (7 + 3 * N) b).1 (v.1.1 14 + 1)))
            refine congrArg (fun z => some (c_ls (q 1 + 1) z)) ?_
            unfold lLs
            rw [show (v.1.1 14 + 1).toNat = N + 1 by omega, hNN, List.range_succ, List.map_append]
            congr 1
            · refine List.map_congr_left fun i hi9 => ?_
              have := List.mem_range.mp hi9
              exact (hW'1 (5 + 3 * i) (by omega)).symm
            · exact congrArg (fun z => [z]) hWa1.symm
          · rw [if_neg hy1, hold y y3 y2 y1, hin y k hy4]
            have hk1 : k ≠ 1 := fun w => by rw [w] at ey; exact hy1 ey
            refine congrArg some ?_
            unfold lcell
            have ho : ∀ k', k' ≠ 19 → k' ≠ 38 → k' ≠ 18 → k' ≠ 21 → k' ≠ 17 → (lNew v hd w).1.2 k' = v.1.2 k' := fun k' a1 a2 a3 a4 a5 => by
              unfold lNew
              funext z
              simp [mF, mA, a1, a2, a3, a4, a5]
            have hs : ∀ k', k' ≠ 14 → (lNew v hd w).1.1 k' = v.1.1 k' := fun k' a1 => by
              unfold lNew
              simp [mF, mA, a1]
            by_cases c0 : k = 0
            · rw [if_pos c0, if_pos c0]
              unfold lobV
              rw [hW'1 1 (by omega), hW'1 2 (by omega), hW'1 3 (by omega), hW'1 4 (by omega), hs 22 (by omega), hs 28 (by omega), hs 29 (by omega), hs 23 (by omega)]
            · rw [if_neg c0, if_neg c0, if_neg hk1, if_neg hk1, ho 15 (by omega) (by omega) (by omega) (by omega) (by omega), ho 16 (by omega) (by omega) (by omega) (by omega) (by omega)]
              by_cases c2 : k = 2
              · rw [if_pos c2, if_pos c2]
              · rw [if_neg c2, if_neg c2]
                by_cases c3 : k = 3
                · rw [if_pos c3, if_pos c3]
                · rw [if_neg c3, if_neg c3]
                  by_cases c5 : k % 3 = 2
                  · rw [if_pos c5, if_pos c5]
                    unfold linV
                    have hz : ∀ k', (lNew v hd w).1.2 k' ((((k - 5) / 3 : Nat)) : Int) = v.1.2 k' ((((k - 5) / 3 : Nat)) : Int) := fun k' => by
                      have : ¬ ((((k - 5) / 3 : Nat)) : Int) = v.1.1 14 := by omega
                      unfold lNew
                      simp only [mF, mA, this, and_false, if_false]
                    rw [hW'1 (k + 1) (by omega), hW'1 (k + 2) (by omega), hz, hz, hz, hz, hz]
                  · rw [if_neg c5, if_neg c5]
                    show c_ls (q k) (p k) = c_ls (if k = 1 then q 1 + 1 else if k = 6 + 3 * N ∨ k = 7 + 3 * N then 0 else q k) (if k = 6 + 3 * N ∨ k = 7 + 3 * N then [] else p k)
                    rw [if_neg hk1, if_neg (by omega), if_neg (by omega)]
      · have hy : (if y = b then some (7 + 3 * N) else if y = a then some (6 + 3 * N) else if y = a1 then some (5 + 3 * N) else W.2 y) = none := hy
        by_cases y1 : y = b
        · rw [if_pos y1] at hy; cases hy
        · rw [if_neg y1] at hy
          by_cases y2 : y = a
          · rw [if_pos y2] at hy; cases hy
          · rw [if_neg y2] at hy
            by_cases y3 : y = a1
            · rw [if_pos y3] at hy; cases hy
            · rw [if_neg y3] at hy
              rw [put_ne y3]
              show (if y = W.1 1 then some (c_ls (q 1 + 1) (lLs W.1 (v.1.1 14) ++ [a1])) else hi.2 y) = g.2 y
              rw [if_neg (fun w => by rw [w, h2.1 1 hR1] at hy; cases hy), hold y y3 y2 y1, hout y hy]
    · have w1 := oadd_ok (a := a1) (k := 5 + 3 * N) h2 (fun w => by have w : ((5 + 3 * N : Nat) : Int) < 3 * v.1.1 14 + 5 := w; omega) hw1.1
      have w2 := oadd_ok (a := a) (k := 6 + 3 * N) w1 (fun w => by
        rcases w with w | w
        · omega
        · have w : ((6 + 3 * N : Nat) : Int) < 3 * v.1.1 14 + 5 := w; omega) (by
        show (if a = a1 then _ else W.2 a) = none
        rw [if_neg haa]
        exact hwa.1)
      have w3 := oadd_ok (a := b) (k := 7 + 3 * N) w2 (fun w => by
        rcases w with w | w | w
        · omega
        · omega
        · have w : ((7 + 3 * N : Nat) : Int) < 3 * v.1.1 14 + 5 := w; omega) (by
        show (if b = a then _ else if b = a1 then _ else W.2 b) = none
        rw [if_neg (Ne.symm hab), if_neg hba]
        exact hwb.1)
      refine oOK_iff w3 fun k => ?_
      rw [e14]
      show (k = 7 + 3 * N ∨ k = 6 + 3 * N ∨ k = 5 + 3 * N ∨ (k : Int) < 3 * v.1.1 14 + 5) ↔ (k : Int) < 3 * (v.1.1 14 + 1) + 5
      omega
    · intro y k hy
      have hy : (if y = b then some (7 + 3 * N) else if y = a then some (6 + 3 * N) else if y = a1 then some (5 + 3 * N) else W.2 y) = some k := hy
      show g.2 y = none
      by_cases y1 : y = b
      · rw [y1]; exact hwb.2
      · rw [if_neg y1] at hy
        by_cases y2 : y = a
        · rw [y2]; exact hwa.2
        · rw [if_neg y2] at hy
          by_cases y3 : y = a1
          · rw [y3]; exact hw1.2
          · rw [if_neg y3] at hy
            exact h4 y k hy
    · intro k hk hk2
      rw [e14] at hk2
      have e9 : (lNew v hd w).2 k = if k = 6 + 3 * N ∨ k = 7 + 3 * N then [] else v.2 k := by unfold lNew; rw [hNN]
      rw [e9]
      by_cases hkn : k = 6 + 3 * N ∨ k = 7 + 3 * N
      · simp only [if_pos hkn]
        exact ⟨rfl, fun i hi => absurd hi (Nat.not_lt_zero _)⟩
      · simp only [if_neg hkn]
        unfold lList at hk
        exact h5 k hk (by omega)
    · have c1 : hi.1 ≤ c' + 25 := c1
      show h.1 ≤ c' + 40
      omega
end LHN
