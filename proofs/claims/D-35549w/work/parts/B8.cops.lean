set_option maxRecDepth 100000
/-! the component's calls: faults -/
/-- an iterator over the list at t, behind n elements, made over h1 -/
def IT (h1 : qH) (a t : Nat) (k : Int32) (n : Nat) (h : qH) : Prop := q_le h1 h ∧ h1.2 a = none ∧ h.1 + 2 = h1.1 ∧ ∃ V : Nat → Value, h.2 a = some (c_ob 7 V) ∧ V 0 = .int (nI n) ∧ V 2 = .int k ∧ V 3 = .ref t
section CO8
variable {D : qD} {C : mW} {xs : List Nat} {s : mS} {ks : List (List mR3)} {h h1 : qH} {X : String → qH → Prop} {r : Int}
theorem it_new (hD : q_DK D) {t : Nat} {k : Int32} {ys : List Nat} (hc : h.2 t = some (c_ls k ys)) (hcr : 2 ≤ h.1) {K : Option Nat → qH → Prop} (k9 : ∀ a h', IT h a t k 0 h' → K (some a) h') : recv D h (some t) RJ2 ∧ c_R D m_J2_iterator [va_rf (some t)] h X K := ⟨rls hc, j_iterator hD hc hcr (fun a V ha v0 v2 v3 => ⟨_, rfl, k9 a _ ⟨q_le.rf.new ha, ha, by show h.1 - 2 + 2 = h.1; omega, V, new_self, v0, v2, v3⟩⟩)⟩
theorem it_has (hD : q_DK D) {a t n : Nat} {k : Int32} {ys : List Nat} (hI : IT h1 a t k n h) (hc : h1.2 t = some (c_ls k ys)) (hn : n ≤ ys.length) (hl : ys.length < 1000) {K : Int32 → qH → Prop} (k9 : K (if n < ys.length then 1 else 0) h) : recv D h (some a) RJ22 ∧ c_I D m_J22_hasNext [va_rf (some a)] h X K := by
  obtain ⟨i1, i2, i3, V, i4, v0, v2, v3⟩ := hI
  exact ⟨rcv i4 rfl, j_hasNext hD (i1 _ _ hc) i4 v0 v3 hn hl ⟨_, rfl, k9⟩⟩
theorem it_next (hD : q_DK D) {a t n : Nat} {k : Int32} {ys : List Nat} (hI : IT h1 a t k n h) (hc : h1.2 t = some (c_ls k ys)) (hn : n < ys.length) (hl : ys.length < 1000) {K : Option Nat → qH → Prop} (k9 : ∀ h', IT h1 a t k (n + 1) h' → K (some (ys.getD n 0)) h') : recv D h (some a) RJ22 ∧ c_R D m_J22_next [va_rf (some a)] h X K := by
  obtain ⟨i1, i2, i3, V, i4, v0, v2, v3⟩ := hI
  exact ⟨rcv i4 rfl, j_next hD (i1 _ _ hc) i4 v0 v2 v3 hn hl (fun W w0 w2 w3 => ⟨_, rfl, k9 _ ⟨i1.put i2, i2, i3, W, put_self, w0, w2, w3⟩⟩)⟩
def lP02 (s : mS) (r w : Int) : Int → Bool := fun t => if w = 0 then decide (mPrn s r t ∧ s.1 8 < mWide s r t) else decide (s.2 1 t = 4 ∧ s.1 9 < s.2 2 t)
theorem x_faults (hD : q_DK D) (hT : TI s) (hB : MB s) (hS : SC C xs s ks h) {w : Int} (br : bd r) (bw : bd w) (hcr : 18000 ≤ h.1) {K : Int32 → qH → Prop} (hok : (0 ≤ r ∧ r ≤ 3) → (0 ≤ w ∧ w ≤ 4) → ∀ h', ST C xs s ks h 18000 h' → K (zI (lFaults s r w)) h') (hno : ¬ ((0 ≤ r ∧ r ≤ 3) ∧ (0 ≤ w ∧ w ≤ 4)) → ∀ h', ST C xs s ks h 18000 h' → X "java/lang/IndexOutOfBoundsException" h') : c_I D m_X1_faults [va_rf (some (C.1 0)), .int (zI r), .int (zI w)] h X K := by
  have h64 := hT.1
  refine f_X1_faults _ _ _ h (x_layout hD hT hB hS rfl br (by omega) (fun hr A h1 S1 hX => ?_) (fun w h1 S1 => hno (fun q => w q.1) h1 (S1.wk (by omega))))
  have hr4 : 0 ≤ r ∧ r < 4 := ⟨hr.1, by omega⟩
  have hRF := RF_lay hT hB hr4
  have hCH := CH_lay hB hT hr4
  have e0 : (mLay s r).1 0 = s.1 0 := told_f (told_lay hB hT hr4) 0 (by simp)
  have hb15 : ∀ u : Int, 0 ≤ u → u < s.1 0 → -1 ≤ (lLay s r).1.2 15 u ∧ (lLay s r).1.2 15 u ≤ 64 := fun u b0 b1 => by
    rw [hRF.2.1 u b0 b1]
    have h9 := hCH.2 u b0 (by omega)
    have h8 := hCH.1.1.2.2.1.1
    omega
  obtain ⟨-, -, -, -, -, -, -, hZ, hC, h22, h23⟩ := hRF
  have hc := S1.2.2
  have hn := hZ.1
  have hP := S1.1.P
  have h9 := hT.2.2.2.2.2.1
  have h8 := hT.2.2.2.2.1
  refine x_place hD rfl zl_5 bw (bdl rfl) ⟨24, by omega, rfl⟩ (by omega) (fun w1 w2 => ?_) (fun w h2 hl hc => hno (fun q => w (by omega)) h2 ((S1.le hl hc).wk (by omega)))
  have hok := hok hr ⟨w1, by omega⟩
  unfold lFaults at hok
  refine ⟨fun q1 => ⟨fun q3 => ⟨fun q4 => ?_, fun q4 => ?_⟩, fun q3 => ?_⟩, fun q1 => ?_⟩
  · -- tokens
    rw [zl_1, zI_eq (by omega) (by omega) (by omega) (by omega)] at q1
    rw [zl_3, zI_eq (by omega) (by omega) (by omega) (by omega)] at q3
    rw [zl_4, zI_eq (by omega) (by omega) (by omega) (by omega)] at q4
    rw [if_neg q1, if_neg q3, if_neg q4] at hok
    have hok : ∀ h', ST C xs s ks h 18000 h' → K (zI (cnt (lP02 s r w) (s.1 0).toNat : Nat)) h' := by
      by_cases w0 : w = 0
      · rw [if_pos w0] at hok
        have e : lP02 s r w = fun t => decide (mPrn s r t ∧ s.1 8 < mWide s r t) := by
          funext t
          unfold lP02
          rw [if_pos w0]
        rw [e]
        exact hok
      · rw [if_neg w0] at hok
        have e : lP02 s r w = fun t => decide (s.2 1 t = 4 ∧ s.1 9 < s.2 2 t) := by
          funext t
          unfold lP02
          rw [if_neg w0]
        rw [e]
        exact hok
    obtain ⟨-, ⟨kk, hst⟩, hlen, -⟩ := hP
    have hP := S1.1.P
    refine cp_story hP (it_new hD hst (by omega) (fun a h2 I2 => ?_))
    have hLp : ∀ (j n : Nat) (h3 : qH), n + j = (s.1 0).toNat → IT h1 a (C.1 1) kk n h3 → L_X1_faults_162 D (fun v h1 => ∃ r : Int32, v = some (.int r) ∧ K r h1) X (C.1 0) (zI w) (some (A 0)) (zI (cnt (lP02 s r w) n : Nat)) (some a) h3 := by
      intro j
      induction j with
      | zero =>
        intro n h3 hn3 I3
        refine f_X1_faults_162 _ _ _ _ _ h3 (it_has hD I3 hst (by omega) (by omega) ⟨fun _ => ⟨_, rfl, ?_⟩, fun q => ?_⟩)
        · rw [show n = (s.1 0).toNat by omega]
          exact hok h3 ((S1.le I3.1 (by have := I3.2.2.1; show h1.1 ≤ h3.1 + 2; omega)).wk (by omega))
        · rw [if_neg (by omega)] at q
          exact absurd rfl q
      | succ j ih =>
        intro n h3 hn3 I3
        have ih := ih (n + 1)
        rw [cnt_s] at ih
        have hb := cnt_le (lP02 s r w) n
        generalize cnt (lP02 s r w) n = c at *
        have t0 : (0 : Int) ≤ n := by omega
        have t1 : (n : Int) < s.1 0 := by omega
        have hk := hT.tok t0 t1
        have hk1 := hk.1
        have hk2 := hk.2.2.1
        refine f_X1_faults_162 _ _ _ _ _ h3 (it_has hD I3 hst (by omega) (by omega) ⟨fun q => ?_, fun _ => it_next hD I3 hst (by omega) (by omega) (fun h4 I4 => ?_)⟩)
        · rw [if_pos (by omega)] at q
          exact absurd q (by decide)
        have hP4 := hP.le I4.1
        have hX4 := hX.le I4.1
        obtain ⟨VV, hv, -⟩ := hP4.tok t0 t1
        rw [Int.toNat_natCast] at hv
        have h253 : ∀ y z : Int, y + z = (if lP02 s r w n = true then 1 else 0) → (0 ≤ z ∧ z ≤ 1) → L_X1_faults_253 D (fun v h1 => ∃ r : Int32, v = some (.int r) ∧ K r h1) X (C.1 0) (zI w) (some (A 0)) (some a) (zI y) (zI c + zI z) h4 := by
          intro y z hy hz
          refine f_X1_faults_253 _ _ _ _ _ _ h4 ?_
          have ih := ih h4 (by omega) I4
          rw [← hy, show (c : Int) + (y + z) = c + z + y by omega] at ih
          rw [zI_add, zI_add]
          exact ih
        have h252 : ∀ z : Int, z = (if lP02 s r w n = true then 1 else 0) → (0 ≤ z ∧ z ≤ 1) → L_X1_faults_252 D (fun v h1 => ∃ r : Int32, v = some (.int r) ∧ K r h1) X (C.1 0) (zI w) (some (A 0)) (some a) (zI c + zI z) h4 := fun z hz hz2 => f_X1_faults_252 _ _ _ _ _ h4 (h253 0 z (by omega) hz2)
        have etok : some (xs.getD n 0) = some (xs.getD (n : Int).toNat 0) := by rw [Int.toNat_natCast]
        have h217 : ∀ z : Int, (w = 0 → z = (if lP02 s r w n = true then 1 else 0)) → (w ≠ 0 → z = 0) → (0 ≤ z ∧ z ≤ 1) → L_X1_faults_217 D (fun v h1 => ∃ r : Int32, v = some (.int r) ∧ K r h1) X (C.1 0) (zI w) (some (A 0)) (some a) (some (xs.getD n 0)) (zI z) (zI c) h4 := by
          intro z hz0 hz1 hzb
          rw [etok]
          refine f_X1_faults_217 _ _ _ _ _ _ _ h4 ⟨fun q => h252 z ?_ hzb, fun q => ?_⟩
          · rw [zl_2, zI_eq (by omega) (by omega) (by omega) (by omega)] at q
            exact hz0 (by omega)
          · rw [zl_2, zI_eq (by omega) (by omega) (by omega) (by omega)] at q
            have hz := hz1 (by omega)
            subst hz
            have e02 : lP02 s r w n = decide (s.2 1 n = 4 ∧ s.1 9 < s.2 2 n) := if_neg (by omega)
            have hneg : ¬ (s.2 1 n = 4 ∧ s.1 9 < s.2 2 n) → (0 : Int) = (if lP02 s r w n = true then 1 else 0) := fun u => by rw [e02, if_neg (fun z => u (of_decide_eq_true z))]
            refine tk0 hP4 t0 t1 ⟨fun u => h252 0 (hneg ?_) hzb, fun u => tk1 hP4 t0 t1 (cp_l hP4 ⟨fun u2 => h252 0 (hneg ?_) hzb, fun u2 => h253 1 0 ?_ hzb⟩)⟩
            · rw [zl_4, zI_eq (by omega) (by omega) (by omega) (by omega)] at u
              exact fun z => u z.1
            · rw [zI_le (by omega) (by omega) (by omega) (by omega)] at u2
              omega
            · rw [zl_4, zI_eq (by omega) (by omega) (by omega) (by omega)] at u
              rw [zI_le (by omega) (by omega) (by omega) (by omega)] at u2
              rw [e02, if_pos (decide_eq_true ⟨u, by omega⟩)]
              rfl
        have h216 : (w = 0 → ¬ lP02 s r w n = true) → L_X1_faults_216 D (fun v h1 => ∃ r : Int32, v = some (.int r) ∧ K r h1) X (C.1 0) (zI w) (some (A 0)) (some a) (some (xs.getD n 0)) (zI c) h4 := fun q => f_X1_faults_216 _ _ _ _ _ _ h4 (h217 0 (fun w0 => by rw [if_neg (q w0)]) (fun _ => rfl) ⟨by omega, by omega⟩)
        refine ⟨Or.inr ⟨_, _, "Quirefold$Token", rfl, Or.inl hv, rfl, Or.inl rfl⟩, fun q => h216 (fun w0 => ?_), fun q => ?_⟩
        · rw [w0] at q
          exact absurd zl_0.symm q
        · rw [zl_0, zI_eq (by omega) (by omega) (by omega) (by omega)] at q
          have e02 : lP02 s r w n = decide (mPrn s r n ∧ s.1 8 < mWide s r n) := if_pos q
          have hwb := mWide_bd hT hr4 t0 t1
          rw [etok]
          refine x_isPrinted hT hP4 hX4.B hr4 t0 t1 ⟨fun u => ?_, fun u => ?_⟩
          · rw [← etok]
            refine h216 (fun _ z => ?_)
            rw [e02] at z
            rw [if_pos (of_decide_eq_true z).1] at u
            exact absurd u (by decide)
          · have hp : mPrn s r n := by
              by_cases z : mPrn s r n
              · exact z
              · rw [if_neg z] at u; exact absurd rfl u
            refine x_widthOf hT hP4 hX4.B hr4 t0 t1 hp (cp_w hP4 ⟨fun u2 => ?_, fun u2 => ?_⟩)
            · rw [zI_le (by omega) (by omega) (by omega) (by omega)] at u2
              rw [← etok]
              refine h216 (fun _ z => ?_)
              rw [e02] at z
              have := (of_decide_eq_true z).2
              omega
            · rw [zI_le (by omega) (by omega) (by omega) (by omega)] at u2
              rw [← etok]
              exact h217 1 (fun _ => by rw [e02, if_pos (decide_eq_true ⟨hp, by omega⟩)]) (fun z => absurd q z) ⟨by omega, by omega⟩
    exact hLp (s.1 0).toNat 0 h2 (by omega) I2
  · -- terms
    rw [zl_1, zI_eq (by omega) (by omega) (by omega) (by omega)] at q1
    rw [zl_3, zI_eq (by omega) (by omega) (by omega) (by omega)] at q3
    rw [zl_4, zI_eq (by omega) (by omega) (by omega) (by omega)] at q4
    rw [if_neg q1, if_neg q3, if_pos q4] at hok
    have hok := hok h1 (S1.wk (by omega))
    have hLp : ∀ j n : Nat, n + j = 10 → L_X1_faults_100 D (fun v h1 => ∃ r : Int32, v = some (.int r) ∧ K r h1) X (C.1 0) (some (A 0)) (zI (cnt (fun m => decide (s.2 11 m ≠ -1 ∧ cnt (lMk s r (mLast s m)) (s.1 0).toNat = 0)) n : Nat)) (zI n) h1 := by
      intro j
      induction j with
      | zero =>
        intro n hn3
        have hn3 : n = 10 := by omega
        subst hn3
        exact f_X1_faults_100 _ _ _ _ h1 ⟨fun _ => ⟨_, rfl, hok⟩, fun q => absurd (by decide) q⟩
      | succ j ih =>
        intro n hn3
        have ih := ih (n + 1) (by omega)
        rw [cnt_s] at ih
        have hb := cnt_le (fun m => decide (s.2 11 m ≠ -1 ∧ cnt (lMk s r (mLast s m)) (s.1 0).toNat = 0)) n
        generalize cnt (fun m => decide (s.2 11 m ≠ -1 ∧ cnt (lMk s r (mLast s m)) (s.1 0).toNat = 0)) n = c at *
        have h11 := hT.2.2.2.2.2.2.2.1 n (by omega) (by omega)
        have hlb := mRootS_bd hT 10 n ⟨by omega, by omega⟩
        have hlb : 0 ≤ mLast s n ∧ mLast s n < 10 := hlb
        have hcl := cnt_le (lMk s r (mLast s n)) (s.1 0).toNat
        have h139 : ∀ y : Int, y = (if decide (s.2 11 n ≠ -1 ∧ cnt (lMk s r (mLast s n)) (s.1 0).toNat = 0) = true then 1 else 0) → L_X1_faults_139 D (fun v h1 => ∃ r : Int32, v = some (.int r) ∧ K r h1) X (C.1 0) (some (A 0)) (zI n) (zI y) (zI c) h1 := fun y hy => f_X1_faults_139 _ _ _ _ _ h1 (by rw [zl_1, zI_add, zI_add, hy]; exact ih)
        have h138 : ¬ (s.2 11 n ≠ -1 ∧ cnt (lMk s r (mLast s n)) (s.1 0).toNat = 0) → L_X1_faults_138 D (fun v h1 => ∃ r : Int32, v = some (.int r) ∧ K r h1) X (C.1 0) (some (A 0)) (zI n) (zI c) h1 := fun q => f_X1_faults_138 _ _ _ _ h1 (h139 0 (if_neg (fun z => q (of_decide_eq_true z))).symm)
        refine f_X1_faults_100 _ _ _ _ h1 ⟨fun q => ?_, fun _ => cp_sees hP (cp_see hP rfl (by omega) (by omega) ⟨fun q => h138 ?_, fun q => x_rootOf hT hP ⟨by omega, by omega⟩ rfl (x_marksOf hD hT hP hX hb15 hlb rfl ⟨fun q2 => h138 ?_, fun q2 => h139 1 ?_⟩)⟩)⟩
        · rw [zl_10, zI_le (by omega) (by omega) (by omega) (by omega)] at q
          omega
        · rw [zl_m1, zI_eq (by omega) (by omega) (by omega) (by omega)] at q
          exact fun z => z.1 q
        · rw [zl_0, zI_eq (by omega) (by omega) (by omega) (by omega)] at q2
          exact fun z => q2 (by omega)
        · rw [zl_m1, zI_eq (by omega) (by omega) (by omega) (by omega)] at q
          rw [zl_0, zI_eq (by omega) (by omega) (by omega) (by omega)] at q2
          exact (if_pos (decide_eq_true ⟨q, by omega⟩)).symm
    exact hLp 10 0 (by omega)
  · rw [zl_1, zI_eq (by omega) (by omega) (by omega) (by omega)] at q1
    rw [zl_3, zI_eq (by omega) (by omega) (by omega) (by omega)] at q3
    rw [if_neg q1, if_pos q3] at hok
    have hok := hok h1 (S1.wk (by omega))
    refine lf_front hX ⟨fun q => ⟨_, rfl, ?_⟩, fun q => ⟨_, rfl, ?_⟩⟩
    · rw [zl_m1, zI_eq (by omega) (by omega) (by omega) (by omega)] at q
      rw [if_neg q] at hok
      exact hok
    · rw [zl_m1, zI_eq (by omega) (by omega) (by omega) (by omega)] at q
      rw [if_pos q] at hok
      exact hok
  · rw [zl_1, zI_eq (by omega) (by omega) (by omega) (by omega)] at q1
    rw [if_pos q1] at hok
    have hok := hok h1 (S1.wk (by omega))
    have hLp : ∀ j n : Nat, n + j = ((lLay s r).1.1 14).toNat → L_X1_faults_26 D (fun v h1 => ∃ r : Int32, v = some (.int r) ∧ K r h1) X (C.1 0) (some (A 0)) (zI (cnt (fun i => decide (s.1 9 < lNeeds (lLay s r).1 i 0)) n : Nat)) (zI n) h1 := by
      intro j
      induction j with
      | zero =>
        intro n hn3
        refine f_X1_faults_26 _ _ _ _ h1 (lf_lines hX (ln_size hD hX ⟨fun _ => ⟨_, rfl, ?_⟩, fun q => ?_⟩))
        · rw [show n = ((lLay s r).1.1 14).toNat by omega]
          exact hok
        · rw [zI_le (by omega) (by omega) (by omega) (by omega)] at q
          omega
      | succ j ih =>
        intro n hn3
        have ih := ih (n + 1) (by omega)
        rw [cnt_s] at ih
        have hb := cnt_le (fun i => decide (s.1 9 < lNeeds (lLay s r).1 i 0)) n
        generalize cnt (fun i => decide (s.1 9 < lNeeds (lLay s r).1 i 0)) n = c at *
        have hnb : 0 ≤ lNeeds (lLay s r).1 n 0 ∧ lNeeds (lLay s r).1 n 0 ≤ 1000 := by
          have t1 := lTakes_bd hZ (i := (n : Int)) (b := 0) (by omega) (by omega)
          unfold lNeeds
          split
          · next q =>
            have t2 := lTakes_bd hZ (i := (n : Int) + 1) (b := 1) (by omega) q.2
            split
            · next q2 =>
              have z21 := (hZ.2 ((n : Int) + 1) (by omega) q.2).2.2
              have t3 := lTakes_bd hZ (i := (n : Int) + 2) (b := 1) (by omega) (by omega)
              omega
            · omega
          · next q =>
            rw [if_neg (fun z => q z.1)]
            omega
        have h61 : ∀ y : Int, y = (if decide (s.1 9 < lNeeds (lLay s r).1 n 0) = true then 1 else 0) → L_X1_faults_61 D (fun v h1 => ∃ r : Int32, v = some (.int r) ∧ K r h1) X (C.1 0) (some (A 0)) (zI n) (zI y) (zI c) h1 := fun y hy => f_X1_faults_61 _ _ _ _ _ h1 (by rw [zl_1, zI_add, zI_add, hy]; exact ih)
        refine f_X1_faults_26 _ _ _ _ h1 (lf_lines hX (ln_size hD hX ⟨fun q => ?_, fun _ => x_needs hD hZ hX (by omega) (by omega) (bdl rfl) rfl zl_0 (cp_l hP ⟨fun q => h61 0 ?_, fun q => h61 1 ?_⟩)⟩))
        · rw [zI_le (by omega) (by omega) (by omega) (by omega)] at q
          omega
        · rw [zI_le (by omega) (by omega) (by omega) (by omega)] at q
          exact (if_neg (fun z => by have := of_decide_eq_true z; omega)).symm
        · rw [zI_le (by omega) (by omega) (by omega) (by omega)] at q
          exact (if_pos (decide_eq_true (by omega))).symm
    exact hLp ((lLay s r).1.1 14).toNat 0 (by omega)
end CO8
