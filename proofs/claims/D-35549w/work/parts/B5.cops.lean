set_option maxRecDepth 100000
/-! the component's calls: put and take -/
section CO5
variable {D : qD} {C : mW} {xs : List Nat} {s : mS} {ks : List (List mR3)} {h : qH} {X : String → qH → Prop} {r : Int}
theorem x_put (hD : q_DK D) (hT : TI s) (hS : SC C xs s ks h) (hlt : s.1 0 < 64) {p k a st : Int} (bp : bd p) (bk : bd k) (ba : bd a) (bs : bd st) (hcr : 18000 ≤ h.1) {K : Int32 → qH → Prop} (hok : (0 ≤ p ∧ p ≤ s.1 0) → (0 ≤ k ∧ k ≤ 6) → mFine k a st → ∀ xs' h', ST C xs' (mPut s p k a st) ks h 18000 h' → K (zI (s.1 0 + 1)) h') (hno1 : ¬ (0 ≤ p ∧ p ≤ s.1 0) → ∀ h', ST C xs s ks h 18000 h' → X "java/lang/IndexOutOfBoundsException" h') (hno2 : (0 ≤ p ∧ p ≤ s.1 0) → ¬ ((0 ≤ k ∧ k ≤ 6) ∧ mFine k a st) → ∀ h', ST C xs s ks h 18000 h' → X "java/lang/IllegalArgumentException" h') : c_I D m_X1_put [va_rf (some (C.1 0)), .int (zI p), .int (zI k), .int (zI a), .int (zI st)] h X K := by
  have h64 := hT.1
  have hP := hS.P
  refine f_X1_put _ _ _ _ _ h (cp_story hP (st_size hD hP (x_place (n := s.1 0 + 1) hD rfl (by rw [zl_1, zI_add]) bp ⟨by omega, by omega⟩ ⟨0, by omega, rfl⟩ (by omega) (fun p1 p2 => x_isToken hD bk ba bs (by omega) (fun hk hf => cp_story hP (st_size hD hP ⟨fun w => ?_, fun _ => ?_⟩)) (fun w h' hl hc => hno2 ⟨p1, by omega⟩ w h' ((hS.st hl hc).wk (by omega)))) (fun w h' hl hc => hno1 (fun q => w (by omega)) h' ((hS.st hl hc).wk (by omega))))))
  · rw [zl_120, zI_le (by omega) (by omega) (by omega) (by omega)] at w
    omega
  refine f_X1_put_44 _ _ _ _ _ _ h (x_must (by omega) (fun _ => cp_story hP ⟨by show 1 + 3 / 4 ≤ h.1; omega, fun tok htok => ?_⟩) (fun w => absurd w (by decide)))
  obtain ⟨cc, g, h1, h2, h3, ⟨a1, ⟨kk, b1⟩, c1, d1, e1, f1, g1, i1, j1⟩, ⟨ff, y2, y3⟩, h6⟩ := hS
  subst h1
  obtain ⟨t1, t2⟩ := ov_none htok
  refine f_X4_init _ _ _ _ _ (pF new_self (pF put_self (pF put_self ?_)))
  rw [ov_new htok, ov_pbg t1, ov_pbg t1, ov_pbg t1]
  -- the background with the new token
  have hg1le : q_le g (q_put (q_put (q_put (q_new g (1 + 3 / 4) tok (c_ob 3 (fun k => defaultValue (tyX4 k)))) tok (c_ob 3 (updV (fun k => defaultValue (tyX4 k)) 0 (.int (zI k))))) tok (c_ob 3 (updV (updV (fun k => defaultValue (tyX4 k)) 0 (.int (zI k))) 1 (.int (zI a))))) tok (c_ob 3 (updV (updV (updV (fun k => defaultValue (tyX4 k)) 0 (.int (zI k))) 1 (.int (zI a))) 2 (.int (zI st))))) := ((((q_le.rf (h := g)).new t2).put t2).put t2).put t2
  have hg1t : (q_put (q_put (q_put (q_new g (1 + 3 / 4) tok (c_ob 3 (fun k => defaultValue (tyX4 k)))) tok (c_ob 3 (updV (fun k => defaultValue (tyX4 k)) 0 (.int (zI k))))) tok (c_ob 3 (updV (updV (fun k => defaultValue (tyX4 k)) 0 (.int (zI k))) 1 (.int (zI a))))) tok (c_ob 3 (updV (updV (updV (fun k => defaultValue (tyX4 k)) 0 (.int (zI k))) 1 (.int (zI a))) 2 (.int (zI st))))).2 tok = some (c_ob 3 (updV (updV (updV (fun k => defaultValue (tyX4 k)) 0 (.int (zI k))) 1 (.int (zI a))) 2 (.int (zI st)))) := put_self
  have hg1n : ∀ b j, C.2 b = some j → (q_put (q_put (q_put (q_new g (1 + 3 / 4) tok (c_ob 3 (fun k => defaultValue (tyX4 k)))) tok (c_ob 3 (updV (fun k => defaultValue (tyX4 k)) 0 (.int (zI k))))) tok (c_ob 3 (updV (updV (fun k => defaultValue (tyX4 k)) 0 (.int (zI k))) 1 (.int (zI a))))) tok (c_ob 3 (updV (updV (updV (fun k => defaultValue (tyX4 k)) 0 (.int (zI k))) 1 (.int (zI a))) 2 (.int (zI st))))).2 b = none := fun b j hb => by
    have hbt : b ≠ tok := fun w => by rw [w, t1] at hb; cases hb
    rw [put_ne hbt, put_ne hbt, put_ne hbt, new_ne hbt]
    exact h3 b j hb
  have hg1c : (q_put (q_put (q_put (q_new g (1 + 3 / 4) tok (c_ob 3 (fun k => defaultValue (tyX4 k)))) tok (c_ob 3 (updV (fun k => defaultValue (tyX4 k)) 0 (.int (zI k))))) tok (c_ob 3 (updV (updV (fun k => defaultValue (tyX4 k)) 0 (.int (zI k))) 1 (.int (zI a))))) tok (c_ob 3 (updV (updV (updV (fun k => defaultValue (tyX4 k)) 0 (.int (zI k))) 1 (.int (zI a))) 2 (.int (zI st))))).1 = g.1 - 1 := rfl
  generalize q_put (q_put (q_put (q_new g (1 + 3 / 4) tok (c_ob 3 (fun k => defaultValue (tyX4 k)))) tok (c_ob 3 (updV (fun k => defaultValue (tyX4 k)) 0 (.int (zI k))))) tok (c_ob 3 (updV (updV (fun k => defaultValue (tyX4 k)) 0 (.int (zI k))) 1 (.int (zI a))))) tok (c_ob 3 (updV (updV (updV (fun k => defaultValue (tyX4 k)) 0 (.int (zI k))) 1 (.int (zI a))) 2 (.int (zI st)))) = gN at *
  have hcr : 18000 ≤ g.1 := hcr
  have hr1 : cRole 1 := by unfold cRole; omega
  have hc1 : (ov C cc gN).2 (C.1 1) = some (c_ls kk xs) := by rw [cov_at h2 hr1, b1]
  have hC1 : gN.2 (C.1 1) = none := hg1n _ 1 (h2.c hr1)
  have htokN : xs.length ≤ 64 := by omega
  have hxel : ∀ y ∈ xs, ∃ V, gN.2 y = some (c_ob 3 V) := fun y hy => by
    obtain ⟨i, hi, rfl⟩ := mem_getD hy
    obtain ⟨V, v, -⟩ := d1 i hi
    exact ⟨V, hg1le _ _ v⟩
  have hp : p.toNat ≤ xs.length := by omega
  have epz : zI p = nI p.toNat := by rw [zI_n, Int.toNat_of_nonneg p1]
  rw [epz]
  refine ⟨rfl, rls hc1, j_add2 hD hc1 (fun w => ?_) (fun w => ?_) (ov_le hg1n _ _ hg1t) rfl q1560 (fun y hy => ?_) htokN (by show 25 ≤ gN.1; omega) hp (fun c' d2 d3 => ⟨rfl, ?_⟩)⟩
  · obtain ⟨V, hV⟩ := hxel _ w
    rw [hC1] at hV
    cases hV
  · rw [w, hC1] at hg1t
    cases hg1t
  · obtain ⟨V, hV⟩ := hxel y hy
    exact ⟨_, _, ov_le hg1n _ _ hV, rfl, q1560⟩
  have hnew : SCL C (xs.insertIdx p.toNat tok) (mPut s p k a st) ks (fun r => lLay s r) (c', (q_put (ov C cc gN) (C.1 1) (c_ls (kk + 1) (xs.insertIdx p.toNat tok))).2) := by
    have hlen : (xs.insertIdx p.toNat tok).length = xs.length + 1 := List.length_insertIdx_of_le_length hp tok
    refine ⟨fun j => if j = 1 then c_ls (kk + 1) (xs.insertIdx p.toNat tok) else cc j, (c', gN.2), by rw [cov_put h2 hr1]; rfl, h2.up hr1, hg1n, ⟨a1, ⟨_, rfl⟩, ?_, fun i hi => ?_, ?_, fun i hi => ?_, ?_, fun i hi => ?_, ?_⟩, ⟨ff, y2, fun r hr l hl => ?_⟩, h6.le hg1le⟩
    · rw [hlen]
      show ((xs.length + 1 : Nat) : Int) = s.1 0 + 1
      omega
    · rw [hlen] at hi
      rw [getD_insert hp]
      obtain ⟨m1, m2, m3⟩ := mPut_at (s := s) (p := p) (k := k) (a := a) (st := st) (z := (i : Int))
      rw [m1, m2, m3]
      by_cases hip : i < p.toNat
      · rw [if_pos hip, if_neg (by omega), if_neg (by omega), if_neg (by omega), if_neg (by omega), if_neg (by omega), if_neg (by omega)]
        obtain ⟨V, v, v1⟩ := d1 i (by omega)
        exact ⟨V, hg1le _ _ v, v1⟩
      · rw [if_neg hip]
        by_cases hip2 : i = p.toNat
        · rw [if_pos hip2, if_pos (by omega), if_pos (by omega), if_pos (by omega)]
          exact ⟨_, hg1t, rfl, rfl, rfl⟩
        · rw [if_neg hip2, if_neg (by omega), if_pos (by omega), if_neg (by omega), if_pos (by omega), if_neg (by omega), if_pos (by omega)]
          obtain ⟨V, v, v1⟩ := d1 (i - 1) (by omega)
          rw [show ((i - 1 : Nat) : Int) = (i : Int) - 1 by omega] at v1
          exact ⟨V, hg1le _ _ v, v1⟩
    · obtain ⟨f, q1, q2⟩ := e1
      exact ⟨f, hg1le _ _ q1, q2⟩
    · simp only [if_neg (show ¬ (10 + i = 1) by omega)]
      rw [mPut_ne (by omega), mPut_ne (by omega), mPut_ne (by omega)]
      exact f1 i hi
    · obtain ⟨f, q1, q2⟩ := g1
      exact ⟨f, hg1le _ _ q1, q2⟩
    · simp only [if_neg (show ¬ (20 + i = 1) by omega)]
      rw [mPut_ne (by omega)]
      exact i1 i hi
    · rw [mPut_ne (by omega)]
      exact j1
    · obtain ⟨A, q1, q2⟩ := y3 r hr l hl
      exact ⟨A, q1, q2.le hg1le⟩
  have hfr : q_fr C (ov C cc g) (c', (q_put (ov C cc gN) (C.1 1) (c_ls (kk + 1) (xs.insertIdx p.toNat tok))).2) := fun b e hb he => by
    show (q_put (ov C cc gN) (C.1 1) (c_ls (kk + 1) (xs.insertIdx p.toNat tok))).2 b = some e
    rw [put_ne (fun w => by rw [w] at hb; have := hb 1 (h2.c hr1); omega)]
    cases hx : C.2 b with
    | none =>
      rw [ov_bg hx] at he ⊢
      exact hg1le _ _ he
    | some j =>
      rw [ov_in hx] at he ⊢
      exact he
  have d2 : gN.1 ≤ c' + 25 := d2
  refine x_forgets hnew (fun h4 S4 f4 e4 => cp_story S4.P (st_size hD S4.P ⟨_, rfl, ?_⟩))
  have e4 : h4.1 = c' := e4
  exact hok ⟨p1, by omega⟩ hk hf _ h4 ⟨S4, hfr.tr f4, by show g.1 ≤ h4.1 + 18000; omega⟩
theorem x_take (hD : q_DK D) (hT : TI s) (hS : SC C xs s ks h) {p : Int} (bp : bd p) (hcr : 18000 ≤ h.1) {K : Int32 → qH → Prop} (hok : (0 ≤ p ∧ p < s.1 0) → ∀ xs' h', ST C xs' (mTake s p) ks h 18000 h' → K (zI (s.1 0 - 1)) h') (hno : ¬ (0 ≤ p ∧ p < s.1 0) → ∀ h', ST C xs s ks h 18000 h' → X "java/lang/IndexOutOfBoundsException" h') : c_I D m_X1_take [va_rf (some (C.1 0)), .int (zI p)] h X K := by
  have h64 := hT.1
  have hP := hS.P
  refine f_X1_take _ _ h (cp_story hP (cp_story hP (st_size hD hP (x_place hD rfl rfl bp ⟨by omega, by omega⟩ ⟨6, by omega, rfl⟩ (by omega) (fun p1 p2 => ?_) (fun w h' hl hc => hno w h' ((hS.st hl hc).wk (by omega)))))))
  obtain ⟨cc, g, h1, h2, h3, ⟨a1, ⟨kk, b1⟩, c1, d1, e1, f1, g1, i1, j1⟩, ⟨ff, y2, y3⟩, h6⟩ := hS
  subst h1
  have hr1 : cRole 1 := by unfold cRole; omega
  have hc1 : (ov C cc g).2 (C.1 1) = some (c_ls kk xs) := by rw [cov_at h2 hr1, b1]
  have hC1 : g.2 (C.1 1) = none := h3 _ 1 (h2.c hr1)
  have hxel : ∀ y ∈ xs, ∃ V, g.2 y = some (c_ob 3 V) := fun y hy => by
    obtain ⟨i, hi, rfl⟩ := mem_getD hy
    obtain ⟨V, v, -⟩ := d1 i hi
    exact ⟨V, v⟩
  have epz : zI p = nI p.toNat := by rw [zI_n, Int.toNat_of_nonneg p1]
  rw [epz]
  have hp : p.toNat < xs.length := by omega
  refine ⟨rls hc1, j_remove hD hc1 (fun w => ?_) (fun y hy => ?_) hp ⟨_, rfl, ?_⟩⟩
  · obtain ⟨V, hV⟩ := hxel _ w
    rw [hC1] at hV
    cases hV
  · obtain ⟨V, hV⟩ := hxel y hy
    exact ⟨_, _, ov_le h3 _ _ hV, rfl, q1560⟩
  have emt : ∀ j z, (mTake s p).2 j z = if (j = 1 ∨ j = 2 ∨ j = 3) ∧ p ≤ z ∧ z < s.1 0 - 1 then s.2 j (z + 1) else s.2 j z := fun _ _ => rfl
  have emo : ∀ j, j ≠ 1 ∧ j ≠ 2 ∧ j ≠ 3 → (mTake s p).2 j = s.2 j := fun j hj => by
    funext z
    rw [emt, if_neg (by omega)]
  have hnew : SCL C (xs.eraseIdx p.toNat) (mTake s p) ks (fun r => lLay s r) (q_put (ov C cc g) (C.1 1) (c_ls (kk + 1) (xs.eraseIdx p.toNat))) := by
    have hlen : (xs.eraseIdx p.toNat).length = xs.length - 1 := List.length_eraseIdx_of_lt hp
    refine ⟨fun j => if j = 1 then c_ls (kk + 1) (xs.eraseIdx p.toNat) else cc j, g, by rw [cov_put h2 hr1], h2.up hr1, h3, ⟨a1, ⟨_, rfl⟩, ?_, fun i hi => ?_, e1, fun i hi => ?_, g1, fun i hi => ?_, ?_⟩, ⟨ff, y2, y3⟩, h6⟩
    · rw [hlen]
      show ((xs.length - 1 : Nat) : Int) = s.1 0 - 1
      omega
    · rw [hlen] at hi
      rw [getD_erase, emt, emt, emt]
      by_cases hip : i < p.toNat
      · rw [if_pos hip, if_neg (by omega), if_neg (by omega), if_neg (by omega)]
        exact d1 i (by omega)
      · rw [if_neg hip, if_pos (by omega), if_pos (by omega), if_pos (by omega)]
        exact d1 (i + 1) (by omega)
    · simp only [if_neg (show ¬ (10 + i = 1) by omega)]
      rw [emo 4 (by omega), emo 5 (by omega), emo 6 (by omega)]
      exact f1 i hi
    · simp only [if_neg (show ¬ (20 + i = 1) by omega)]
      rw [emo 7 (by omega)]
      exact i1 i hi
    · rw [emo 11 (by omega)]
      exact j1
  have hfr : q_fr C (ov C cc g) (q_put (ov C cc g) (C.1 1) (c_ls (kk + 1) (xs.eraseIdx p.toNat))) := q_fr.put h2 hr1
  refine x_forgets hnew (fun h4 S4 f4 e4 => cp_story S4.P (st_size hD S4.P ⟨_, rfl, ?_⟩))
  exact hok ⟨p1, p2⟩ _ h4 ⟨S4, hfr.tr f4, by rw [e4]; show g.1 ≤ g.1 + 18000; omega⟩
end CO5
