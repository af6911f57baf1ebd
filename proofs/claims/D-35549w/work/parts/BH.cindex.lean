set_option maxRecDepth 100000
/-! the component's calls: index -/
section CIX
variable {D : qD} {h h0 : qH} {X : String → qH → Prop} {L : List Int} {a : Nat}
theorem drop_at {n : Nat} (hn : n < L.length) : L.drop n = L.getD n 0 :: L.drop (n + 1) := by
  rw [List.drop_eq_getElem_cons hn, List.getD_eq_getElem?_getD, List.getElem?_eq_getElem hn]
  rfl
theorem ixRun_cons {p q : Int} {R : List Int} : ixRun p (q :: R) = if q = p + 1 then ixRun q R + 1 else 0 := rfl
theorem x_ix (hD : q_DK D) (hPB : PB h0 a L h) (hl : L.length ≤ 64) (hb : ∀ q ∈ L, 1 ≤ q ∧ q ≤ 999) {K : Int32 → qH → Prop} {z : Int} (hok : K (zI z) h) : ∀ (j n f : Nat) (b : Int), n + j = L.length → (L.drop n).length ≤ f → 0 ≤ b → bd b → ixOf f (L.drop n) b = z → L_X1_index_82 D (fun v h1 => ∃ r : Int32, v = some (.int r) ∧ K r h1) X (some a) (zI b) (zI n) h := by
  have hbn : ∀ n : Nat, n < L.length → 1 ≤ L.getD n 0 ∧ L.getD n 0 ≤ 999 := fun n hn => hb _ (getD_inL hn)
  intro j
  induction j using Nat.strongRecOn with
  | _ j ih =>
  intro n f b hj hf b0 bb he
  by_cases hn : n = L.length
  · have hd : L.drop n = [] := by rw [hn, List.drop_length]
    rw [hd] at he
    have he : z = -1 := by
      cases f with
      | zero => exact he.symm
      | succ f => exact he.symm
    subst he
    refine f_X1_index_82 _ _ _ h (hPB.size hD ⟨fun _ => ⟨_, rfl, hok⟩, fun w => ?_⟩)
    rw [zI_le (by omega) (by omega) (by omega) (by omega)] at w
    omega
  have hn : n < L.length := by omega
  have hd := drop_at hn
  rw [hd] at he hf
  have hf : (L.drop (n + 1)).length + 1 ≤ f := hf
  obtain ⟨f, rfl⟩ : ∃ f', f = f' + 1 := ⟨f - 1, by omega⟩
  unfold ixOf at he
  have hbp := hbn n hn
  -- the run
  have h155 : ∀ t : Nat, n < t → t ≤ L.length → L.getD (t - 1) 0 = L.getD n 0 + ((t - n - 1 : Nat) : Int) → ixRun (L.getD n 0) (L.drop (n + 1)) = t - n - 1 → L_X1_index_155 D (fun v h1 => ∃ r : Int32, v = some (.int r) ∧ K r h1) X (some a) (zI b) (zI n) (zI t) h := by
    intro t t0 t1 tl tr
    have hbt := hbn (t - 1) (by omega)
    rw [tr] at he
    have h173 : ∀ (t' : Nat), n < t' → t' ≤ L.length → (if b = 0 then 1000 * L.getD n 0 + L.getD (t' - 1) 0 else ixOf f (L.drop t') (b - 1)) = z → L_X1_index_173 D (fun v h1 => ∃ r : Int32, v = some (.int r) ∧ K r h1) X (some a) (zI b) (zI n) (zI t') h := by
      intro t' u0 u1 hz
      have hbt' := hbn (t' - 1) (by omega)
      refine f_X1_index_173 _ _ _ _ h ⟨fun w => ?_, fun w => ?_⟩
      · rw [zl_0, zI_eq bb.1 bb.2 (by omega) (by omega)] at w
        rw [if_neg w] at hz
        rw [zl_m1, zI_add]
        have hbb := bb.2
        exact ih (L.length - t') (by omega) t' f (b + -1) (by omega) (by rw [List.length_drop] at *; omega) (by omega) ⟨by omega, by omega⟩ hz
      · rw [zl_0, zI_eq bb.1 bb.2 (by omega) (by omega)] at w
        rw [if_pos w] at hz
        refine hPB.get hD rfl (z := (n : Int)) (by omega) (by omega) (hPB.get hD (z := (t' : Int) - 1) (by rw [zl_1, zI_sub]) (by omega) (by omega) ⟨_, rfl, ?_⟩)
        rw [Int.toNat_natCast, show ((t' : Int) - 1).toNat = t' - 1 by omega, show (1000 : Int32) = zI 1000 from rfl, zI_mul, zI_add, hz]
        exact hok
    refine f_X1_index_155 _ _ _ _ h ⟨fun w => ?_, fun w => ?_⟩
    · rw [zI_sub, zl_3, zI_lt (by omega) (by omega) (by omega) (by omega)] at w
      rw [if_neg (by omega)] at he
      rw [zl_1, zI_add]
      refine h173 (n + 1) (by omega) (by omega) ?_
      rw [Nat.add_sub_cancel, ← he]
      by_cases q : b = 0
      · rw [if_pos q, if_pos q]; omega
      · rw [if_neg q, if_neg q]
    · rw [zI_sub, zl_3, zI_lt (by omega) (by omega) (by omega) (by omega)] at w
      rw [if_pos (by omega)] at he
      refine h173 t t0 t1 ?_
      rw [← he, tl]
      by_cases q : b = 0
      · rw [if_pos q, if_pos q]
      · rw [if_neg q, if_neg q, List.drop_drop, show n + 1 + (t - n - 1) = t by omega]
  have h100 : ∀ (k t : Nat), t + k = L.length → n < t → L.getD (t - 1) 0 = L.getD n 0 + ((t - n - 1 : Nat) : Int) → ixRun (L.getD n 0) (L.drop (n + 1)) = t - n - 1 + ixRun (L.getD (t - 1) 0) (L.drop t) → L_X1_index_100 D (fun v h1 => ∃ r : Int32, v = some (.int r) ∧ K r h1) X (some a) (zI b) (zI n) (zI t) h := by
    intro k
    induction k with
    | zero =>
      intro t hk t0 tl tr
      have hdt : L.drop t = [] := by rw [show t = L.length by omega, List.drop_length]
      rw [hdt] at tr
      have tr : ixRun (L.getD n 0) (L.drop (n + 1)) = t - n - 1 := tr
      refine f_X1_index_100 _ _ _ _ h (hPB.size hD ⟨fun _ => h155 t t0 (by omega) tl tr, fun w => ?_⟩)
      rw [zI_le (by omega) (by omega) (by omega) (by omega)] at w
      omega
    | succ k ih2 =>
      intro t hk t0 tl tr
      have hbt := hbn (t - 1) (by omega)
      have hbt2 := hbn t (by omega)
      have hdt := drop_at (L := L) (n := t) (by omega)
      rw [hdt] at tr
      rw [ixRun_cons] at tr
      refine f_X1_index_100 _ _ _ _ h (hPB.size hD ⟨fun w => ?_, fun _ => hPB.get hD rfl (z := (t : Int)) (by omega) (by omega) (hPB.get hD (z := (t : Int) - 1) (by rw [zl_1, zI_sub]) (by omega) (by omega) ⟨fun w => ?_, fun w => ?_⟩)⟩)
      · rw [zI_le (by omega) (by omega) (by omega) (by omega)] at w
        omega
      · rw [Int.toNat_natCast, show ((t : Int) - 1).toNat = t - 1 by omega, zl_1, zI_add, zI_eq (by omega) (by omega) (by omega) (by omega)] at w
        rw [if_neg w] at tr
        exact h155 t t0 (by omega) tl tr
      · rw [Int.toNat_natCast, show ((t : Int) - 1).toNat = t - 1 by omega, zl_1, zI_add, zI_eq (by omega) (by omega) (by omega) (by omega)] at w
        rw [if_pos w] at tr
        rw [zl_1, zI_add]
        refine ih2 (t + 1) (by omega) (by omega) ?_ ?_
        · rw [Nat.add_sub_cancel, w, tl]
          omega
        · rw [Nat.add_sub_cancel, tr]
          omega
  refine f_X1_index_82 _ _ _ h (hPB.size hD ⟨fun w => ?_, fun _ => ?_⟩)
  · rw [zI_le (by omega) (by omega) (by omega) (by omega)] at w
    omega
  · rw [zl_1, zI_add]
    refine h100 (L.length - (n + 1)) (n + 1) (by omega) (by omega) ?_ ?_
    · rw [Nat.add_sub_cancel, show n + 1 - n - 1 = 0 by omega]
      exact (Int.add_zero _).symm
    · rw [Nat.add_sub_cancel, show n + 1 - n - 1 = 0 by omega, Nat.zero_add]
theorem x_index (hD : q_DK D) {C : mW} {xs : List Nat} {s : mS} {ks : List (List mR3)} {r : Int} (hT : TI s) (hB : MB s) (hS : SC C xs s ks h) {m z : Int} (br : bd r) (bm : bd m) (bz : bd z) (hcr : 18000 ≤ h.1) {K : Int32 → qH → Prop} (hnone : (0 ≤ r ∧ r ≤ 3) → (0 ≤ m ∧ m ≤ 9) → 0 ≤ z → (s.2 11 m ≠ -1 ∨ (lLay s r).1.1 23 = -1) → ∀ h', ST C xs s ks h 18000 h' → K (zI (-1)) h') (hok : (0 ≤ r ∧ r ≤ 3) → (0 ≤ m ∧ m ≤ 9) → 0 ≤ z → s.2 11 m = -1 → (lLay s r).1.1 23 ≠ -1 → ∀ L : List Int, L.Pairwise (· < ·) → (∀ q : Int, q ∈ L ↔ ∃ u : Int, 0 ≤ u ∧ u < s.1 0 ∧ lMk s r m u = true ∧ lPage s r ((lLay s r).1.2 15 u) = q) → ∀ h', ST C xs s ks h 18000 h' → K (zI (ixOf L.length L z)) h') (hno : ¬ ((0 ≤ r ∧ r ≤ 3) ∧ (0 ≤ m ∧ m ≤ 9) ∧ 0 ≤ z) → ∀ h', ST C xs s ks h 18000 h' → X "java/lang/IndexOutOfBoundsException" h') : c_I D m_X1_index [va_rf (some (C.1 0)), .int (zI r), .int (zI m), .int (zI z)] h X K := by
  have h64 := hT.1
  refine f_X1_index _ _ _ _ h (x_layout hD hT hB hS rfl br (by omega) (fun hr A h1 S1 hX => ?_) (fun w h1 S1 => hno (fun q => w q.1) h1 (S1.wk (by omega))))
  have hr4 : 0 ≤ r ∧ r < 4 := ⟨hr.1, by omega⟩
  have hRF := RF_lay hT hB hr4
  have hCH := CH_lay hB hT hr4
  have e0 : (mLay s r).1 0 = s.1 0 := told_f (told_lay hB hT hr4) 0 (by simp)
  have hb15 : ∀ u : Int, 0 ≤ u → u < s.1 0 → -1 ≤ (lLay s r).1.2 15 u ∧ (lLay s r).1.2 15 u < (lLay s r).1.1 14 := fun u b0 b1 => by
    rw [hRF.2.1 u b0 b1, hRF.1]
    have h9 := hCH.2 u b0 (by omega)
    exact h9
  have hc := S1.2.2
  have hP := S1.1.P
  refine x_place hD rfl zl_10 bm (bdl rfl) ⟨11, by omega, rfl⟩ (by omega) (fun m0 m1 => ?_) (fun w h2 hl hc => hno (fun q => w (by omega)) h2 ((S1.le hl hc).wk (by omega)))
  refine ⟨fun w => ?_, fun w => ?_⟩
  · rw [zl_0, zI_le (by omega) (by omega) bz.1 bz.2] at w
    have hnone := hnone hr ⟨m0, by omega⟩ w
    have hok := hok hr ⟨m0, by omega⟩ w
    have h11 := hT.2.2.2.2.2.2.2.1 m (by omega) (by omega)
    refine cp_sees hP (cp_see hP rfl m0 m1 ⟨fun w2 => ?_, fun w2 => ?_⟩)
    · rw [zl_m1, zI_eq (by omega) (by omega) (by omega) (by omega)] at w2
      refine ⟨by show 1 ≤ h1.1; omega, fun a1 ha1 => j_init new_self rfl ⟨rfl, ?_⟩⟩
      have l1 : q_le h1 (q_put (q_new h1 (1 + 3 / 4) a1 (c_ob 6 (fun k => defaultValue (tyJ2 k)))) a1 (c_ls 0 [])) := (q_le.rf.new ha1).put ha1
      have hPB0 : PB h1 a1 [] (q_put (q_new h1 (1 + 3 / 4) a1 (c_ob 6 (fun k => defaultValue (tyJ2 k)))) a1 (c_ls 0 [])) := ⟨l1, ha1, 0, [], put_self, rfl, fun i hi => absurd hi (Nat.not_lt_zero _)⟩
      have hc0 : (q_put (q_new h1 (1 + 3 / 4) a1 (c_ob 6 (fun k => defaultValue (tyJ2 k)))) a1 (c_ls 0 [])).1 = h1.1 - 1 := rfl
      generalize q_put (q_new h1 (1 + 3 / 4) a1 (c_ob 6 (fun k => defaultValue (tyJ2 k)))) a1 (c_ls 0 []) = h2 at *
      refine f_X1_index_74 _ _ h2 ?_
      rw [zl_0]
      exact x_ix hD hPB0 (by show 0 ≤ 64; omega) (fun q hq => absurd hq List.not_mem_nil) (z := -1) (hnone (Or.inl w2) h2 ((S1.le l1 (d := 1) (by omega)).wk (by omega))) 0 0 0 z rfl (Nat.le_refl _) w bz rfl
    · rw [zl_m1, zI_eq (by omega) (by omega) (by omega) (by omega)] at w2
      refine x_pagesOf hD hT hB hP hX hr4 ⟨m0, m1⟩ rfl (by omega) (fun a h2 L hPB c2 hL1 hL2 => ?_)
      have S2 := (S1.le hPB.1 c2).wk (d := 18000) (by omega)
      refine f_X1_index_74 _ _ h2 ?_
      rw [zl_0]
      by_cases h23 : (lLay s r).1.1 23 = -1
      · have hL := hL1 h23
        subst hL
        exact x_ix hD hPB (by show 0 ≤ 64; omega) (fun q hq => absurd hq List.not_mem_nil) (z := -1) (hnone (Or.inr h23) h2 S2) 0 0 0 z rfl (Nat.le_refl _) w bz rfl
      · obtain ⟨p1, p2, p3⟩ := hL2 h23
        refine x_ix hD hPB p1 (fun q hq => ?_) (hok w2 h23 L p2 p3 h2 S2) L.length 0 L.length z (by omega) (Nat.le_refl _) w bz rfl
        obtain ⟨u, u0, u1, u2, u3⟩ := (p3 q).mp hq
        have := hb15 u u0 u1
        have := (of_decide_eq_true u2).2.1
        have := lPage_bd hT hB hr4 (i := (lLay s r).1.2 15 u) (by omega) (by omega) h23
        omega
  · rw [zl_0, zI_le (by omega) (by omega) bz.1 bz.2] at w
    exact x_throw1 hD (i := 18) rfl (by omega) rfl bz (by simp [qXN]) (by omega) (fun h2 hl hc => hno (fun q => w q.2.2) h2 ((S1.le hl hc).wk (by omega)))
end CIX
