set_option maxRecDepth 100000
/-! the component's calls: keep -/
section CKP
variable {D : qD} {C : mW} {xs : List Nat} {s : mS} {ks : List (List mR3)} {h : qH} {X : String → qH → Prop} {r : Int}
theorem mRowsAll_at {x : mS} {n m i : Nat} (hi : i < n) : (mRowsAll x r n m).getD i [] = mRows x r i m := by
  unfold mRowsAll
  rw [List.getD_eq_getElem?_getD, List.getElem?_map, List.getElem?_range hi]
  rfl
theorem mRowsAll_ln {x : mS} {n m : Nat} : (mRowsAll x r n m).length = n := by
  unfold mRowsAll
  rw [List.length_map, List.length_range]
theorem SC.K2 (hS : SC C xs s ks h) : ∃ (k : Int32) (ys : List Nat), h.2 (C.1 5) = some (c_ls k ys) ∧ C.2 (C.1 5) = some 5 ∧ ys.length = ks.length ∧ ∀ i, i < ks.length → C.2 (ys.getD i 0) = none ∧ RW h (ys.getD i 0) (ks.getD i []) := by
  obtain ⟨cc, g, h1, h2, h3, h4, h5, ⟨k, ys, k1, k2, k3⟩⟩ := hS
  have hr5 : cRole 5 := by unfold cRole; omega
  refine ⟨k, ys, by rw [h1, cov_at h2 hr5, k1], h2.c hr5, k2, fun i hi => ⟨?_, (k3 i hi).le ?_⟩⟩
  · cases hx : C.2 (ys.getD i 0) with
    | none => rfl
    | some j =>
      obtain ⟨k, zs, z1, -⟩ := k3 i hi
      rw [h3 _ _ hx] at z1
      cases z1
  · rw [h1]
    exact ov_le h3
theorem SC_kept (hS : SC C xs s ks h) {k : Int32} {ys : List Nat} {ks' : List (List mR3)} (hl : ys.length = ks'.length) (ha : ∀ i, i < ks'.length → C.2 (ys.getD i 0) = none ∧ RW h (ys.getD i 0) (ks'.getD i [])) {c : Nat} : SC C xs s ks' (c, (q_put h (C.1 5) (c_ls k ys)).2) ∧ q_fr C h (c, (q_put h (C.1 5) (c_ls k ys)).2) := by
  have hP := hS.P
  obtain ⟨cc, g, h1, h2, h3, h4, h5, ⟨k9, ys9, b5, -⟩⟩ := hS
  have hr5 : cRole 5 := by unfold cRole; omega
  refine ⟨⟨fun j => if j = 5 then c_ls k ys else cc j, (c, g.2), ?_, h2.up hr5, h3, ?_, ?_, ?_⟩, q_fr.put h2 hr5⟩
  · have e := cov_put (cc := cc) (g := g) (e := c_ls k ys) h2 hr5
    rw [h1, e]
    rfl
  · obtain ⟨p1, p2, p3, p4, p5, p6, p7, p8, p9⟩ := h4
    refine ⟨p1, p2, p3, p4, p5, fun i hi => ?_, p7, fun i hi => ?_, p9⟩
    · simp only [if_neg (show 10 + i ≠ 5 by omega)]
      exact p6 i hi
    · simp only [if_neg (show 20 + i ≠ 5 by omega)]
      exact p8 i hi
  · exact h5.le (fun _ _ q => q)
  · refine ⟨k, ys, if_pos rfl, hl, fun i hi => ?_⟩
    obtain ⟨a1, k1, zs, z1, z2, z3⟩ := ha i hi
    rw [h1, ov_bg a1] at z1
    refine ⟨k1, zs, z1, z2, fun j hj => ?_⟩
    obtain ⟨f, f1, f2⟩ := z3 j hj
    refine ⟨f, ?_, f2⟩
    cases hx : C.2 (zs.getD j 0) with
    | none => rw [h1, ov_bg hx] at f1; exact f1
    | some q =>
      exfalso
      rw [h1, ov_in hx] at f1
      have hj := (h2.1.2 _ q hx).2
      have this := Option.some.inj f1
      obtain ⟨⟨V0, b0, -⟩, ⟨k1, b1⟩, -, -, -, b10, -, b20, ⟨f4, b4, -⟩⟩ := h4
      obtain ⟨f6, b6, -⟩ := h5
      rcases hj with hj | ⟨hj, hj2⟩
      rotate_left
      · rcases h2.2 q hj hj2 with ⟨V9, e9⟩ | ⟨ty9, n9, f9, e9, e10⟩ | ⟨n9, f9, e9⟩
        · rw [e9] at this; cases this
        · rw [e9] at this; cases this; exact e10 rfl
        · rw [e9] at this; cases this
      unfold cRole at hj
      rcases hj with rfl | rfl | rfl | rfl | rfl | hj | hj
      · rw [b0] at this; cases this
      · rw [b1] at this; cases this
      · rw [b4] at this; cases this
      · rw [b5] at this; cases this
      · rw [b6] at this; cases this
      · obtain ⟨V, b, -⟩ := b10 (q - 10) (by omega)
        rw [show 10 + (q - 10) = q by omega] at b
        rw [b] at this
        cases this
      · obtain ⟨f, b, -⟩ := b20 (q - 20) (by omega)
        rw [show 20 + (q - 20) = q by omega] at b
        rw [b] at this
        cases this
theorem LX_kept {A : Nat → Nat} {v : lV} (hX : LX A (C.1 0) r v h) (hA : ∀ k : Nat, (k : Int) < 3 * v.1.1 14 + 5 → C.2 (A k) = none) {k : Int32} {ys : List Nat} (h5 : h.2 (C.1 5) = some (c_ls k ys)) (c5 : C.2 (C.1 5) = some 5) {c : Nat} {e : qE} : LX A (C.1 0) r v (c, (q_put h (C.1 5) e).2) := by
  obtain ⟨n0, q, p, w1, w2⟩ := hX
  refine ⟨n0, q, p, fun k hk => ?_, fun k hk hk2 => ⟨(w2 k hk hk2).1, fun i hi => ?_⟩⟩
  · have hne : A k ≠ C.1 5 := fun w => by
      have := hA k hk
      rw [w, c5] at this
      cases this
    exact (put_ne hne).trans (w1 k hk)
  · have := (w2 k hk hk2).2 i hi
    have hne : (p k).getD i 0 ≠ C.1 5 := fun w => by
      rw [w, h5] at this
      cases this
    exact (put_ne hne).trans this
theorem x_keep (hD : q_DK D) (hT : TI s) (hB : MB s) (hS : SC C xs s ks h) (br : bd r) (hcr : 18000 ≤ h.1) {K : Int32 → qH → Prop} (hok : (0 ≤ r ∧ r ≤ 3) → ∀ h', ST C xs s (mRowsAll (mLay s r) r ((mLay s r).1 14).toNat (s.1 0).toNat) h 18000 h' → K (zI ((mLay s r).1 14)) h') (hno : ¬ (0 ≤ r ∧ r ≤ 3) → ∀ h', ST C xs s ks h 18000 h' → X "java/lang/IndexOutOfBoundsException" h') : c_I D m_X1_keep [va_rf (some (C.1 0)), .int (zI r)] h X K := by
  refine f_X1_keep _ _ h (x_layout0 hD hT hB hS rfl br (by omega) (fun hr A h1 S1 hX hA => ?_) (fun w h1 S1 => hno w h1 (S1.wk (by omega))))
  have hr4 : 0 ≤ r ∧ r < 4 := ⟨hr.1, by omega⟩
  have h64 := hT.1
  have e14 := (RF_lay hT hB hr4).1
  have hn := (RF_lay hT hB hr4).2.2.2.2.2.2.2.1.1
  have hc1 := S1.2.2
  obtain ⟨k0, ys0, y1, y0, -⟩ := S1.1.K2
  refine cp_kept S1.1.P ⟨rls y1, j_clear hD y1 ⟨rfl, ?_⟩⟩
  obtain ⟨S2, F2⟩ := SC_kept S1.1 (k := k0 + 1) (ys := []) (ks' := []) rfl (fun i hi => absurd hi (Nat.not_lt_zero _)) (c := h1.1)
  have hLp : ∀ (j n : Nat) (h3 : qH), n + j = ((mLay s r).1 14).toNat → SC C xs s (mRowsAll (mLay s r) r n (s.1 0).toNat) h3 → LX A (C.1 0) r (lLay s r) h3 → q_fr C h1 h3 → h1.1 ≤ h3.1 + 26 * (mRowsAll (mLay s r) r n (s.1 0).toNat).flatten.length + 28 * n → L_X1_keep_17 D (fun v h1 => ∃ r : Int32, v = some (.int r) ∧ K r h1) X (C.1 0) (some (A 0)) (zI n) h3 := by
    intro j
    induction j with
    | zero =>
      intro n h3 hn3 S3 hX3 f3 c3
      have hn3 : n = ((mLay s r).1 14).toNat := by omega
      have hfl := mAll_len (s := mLay s r) (r := r) (m := (s.1 0).toNat) n
      have hcl := cnt_le (mPi (mLay s r) n 0) (s.1 0).toNat
      obtain ⟨k3, ys3, z1, -, z2, -⟩ := S3.K2
      rw [mRowsAll_ln] at z2
      refine f_X1_keep_17 _ _ _ h3 (lf_lines hX3 (ln_size hD hX3 ⟨fun _ => cp_kept S3.P (ls_size hD z1 ⟨_, rfl, ?_⟩), fun w => ?_⟩))
      · subst hn3
        have := hok hr h3 ⟨S3, S1.2.1.tr f3, by omega⟩
        rw [z2, Int.toNat_of_nonneg (by omega)]
        exact this
      · rw [zI_le (by omega) (by omega) (by omega) (by omega)] at w
        omega
    | succ j ih =>
      intro n h3 hn3 S3 hX3 f3 c3
      have hfl := mAll_len (s := mLay s r) (r := r) (m := (s.1 0).toNat) (n + 1)
      have hcl := cnt_le (mPi (mLay s r) (n + 1 : Nat) 0) (s.1 0).toNat
      have hsf := mRowsAll_succ (s := mLay s r) (r := r) (n := n) (m := (s.1 0).toNat)
      have hsl := congrArg List.length hsf
      rw [List.length_append] at hsl
      obtain ⟨hl1, hl2⟩ := lRows_len hT hB hr4 (i := (n : Int)) (by omega) (by omega)
      have hl3 := congrArg List.length hl2
      refine f_X1_keep_17 _ _ _ h3 (lf_lines hX3 (ln_size hD hX3 ⟨fun w => ?_, fun _ => cp_kept S3.P (x_rowsOf hD hT hB S3.P hX3 hr4 (z := (n : Int)) (by omega) (by omega) rfl (by omega) (fun a h4 ha q4 c4 hRW => ?_))⟩))
      · rw [zI_le (by omega) (by omega) (by omega) (by omega)] at w
        omega
      have S4 := S3.le q4
      have hX4 := hX3.le q4
      have haC : C.2 a = none := by
        cases hx : C.2 a with
        | none => rfl
        | some q =>
          obtain ⟨cc, g, w1, -⟩ := S3
          rw [w1, ov_in hx] at ha
          cases ha
      obtain ⟨k4, ys4, z1, z0, z2, z3⟩ := S4.K2
      rw [mRowsAll_ln] at z2
      rw [mRowsAll_ln] at z3
      obtain ⟨ka, za, a1, a2, a3⟩ := hRW
      have hnm : ∀ y ∈ ys4, C.2 y = none ∧ ∃ k zs, h4.2 y = some (c_ls k zs) := fun y hy => by
        obtain ⟨i, hi, rfl⟩ := mem_getD hy
        obtain ⟨p1, k, zs, p2, -⟩ := z3 i (by omega)
        exact ⟨p1, k, zs, p2⟩
      refine ⟨rls z1, j_add hD z1 (fun w => ?_) (fun w => ?_) a1 rfl q1552 (fun y hy => ?_) (by omega) (by omega) (fun c' d1 d2 => ⟨_, rfl, ?_⟩)⟩
      · rw [(hnm _ w).1] at z0
        cases z0
      · rw [w, z0] at haC
        cases haC
      · obtain ⟨-, k, zs, p⟩ := hnm y hy
        exact ⟨_, _, p, rfl, q1552⟩
      · obtain ⟨S5, F5⟩ := SC_kept S4 (k := k4 + 1) (ys := ys4 ++ [a]) (ks' := mRowsAll (mLay s r) r (n + 1) (s.1 0).toNat) (by rw [mRowsAll_ln, List.length_append, z2]; rfl) (fun i hi => by
          rw [mRowsAll_ln] at hi
          rw [getDA, mRowsAll_at hi]
          by_cases hin : i < n
          · rw [if_pos (by omega)]
            have := z3 i hin
            rw [mRowsAll_at hin] at this
            exact this
          · rw [if_neg (by omega), if_pos (by omega), show i = n by omega, ← hl2]
            exact ⟨haC, ka, za, a1, a2, a3⟩) (c := c')
        rw [zl_1, zI_add]
        refine ih (n + 1) _ (by omega) S5 (LX_kept hX4 hA z1 z0) (f3.tr (q4.fr.tr F5)) (by show h1.1 ≤ c' + _ + _; omega)
  refine hLp ((mLay s r).1 14).toNat 0 (h1.1, (q_put h1 (C.1 5) (c_ls (k0 + 1) [])).2) (by omega) S2 (LX_kept hX hA y1 y0) F2 ?_
  show h1.1 ≤ h1.1 + _ + _
  omega
end CKP
