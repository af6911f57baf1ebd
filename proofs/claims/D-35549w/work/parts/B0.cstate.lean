set_option maxRecDepth 100000
/-! the component as a whole -/
def cRole (k : Nat) : Prop := k = 0 ∨ k = 1 ∨ k = 4 ∨ k = 5 ∨ k = 6 ∨ (10 ≤ k ∧ k < 16) ∨ (20 ≤ k ∧ k < 24)
/-- .. and, from 1000 on, cells that are another's -/
def cRx (C : mW) (k : Nat) : Prop := cRole k ∨ (1000 ≤ k ∧ C.2 (C.1 k) = some k)
/-- what such a cell may be -/
def mcl (e : qE) : Prop := (∃ V, e = c_ob 2 V) ∨ (∃ ty n f, e = c_ia ty n f ∧ n ≠ 3) ∨ ∃ n f, e = c_la n f
def cOK (C : mW) (cc : Nat → qE) : Prop := oOK C (cRx C) ∧ ∀ k, 1000 ≤ k → C.2 (C.1 k) = some k → mcl (cc k)
theorem cOK.up {C : mW} {cc : Nat → qE} {k : Nat} {e : qE} (h : cOK C cc) (hk : cRole k) : cOK C (fun j => if j = k then e else cc j) := ⟨h.1, fun j hj hj2 => by
  unfold cRole at hk
  simp only [if_neg (show ¬ j = k by omega)]
  exact h.2 j hj hj2⟩
theorem cov_at {C : mW} {cc : Nat → qE} {g : qH} {k : Nat} (h : cOK C cc) (hk : cRole k) : (ov C cc g).2 (C.1 k) = some (cc k) := ov_at h.1 (Or.inl hk)
theorem cov_put {C : mW} {cc : Nat → qE} {g : qH} {k : Nat} {e : qE} (h : cOK C cc) (hk : cRole k) : q_put (ov C cc g) (C.1 k) e = ov C (fun j => if j = k then e else cc j) g := ov_put h.1 (Or.inl hk)
theorem cOK.c {C : mW} {cc : Nat → qE} {k : Nat} (h : cOK C cc) (hk : cRole k) : C.2 (C.1 k) = some k := h.1.1 k (Or.inl hk)
/-- what it holds of what is told: mutable cells cc, the others in g -/
def CPc (C : Nat → Nat) (cc : Nat → qE) (xs : List Nat) (s : mS) (g : qH) : Prop :=
  (∃ V, cc 0 = c_ob 0 V ∧ V 0 = va_rf (some (C 1)) ∧ V 1 = va_rf (some (C 2)) ∧ V 2 = va_rf (some (C 3)) ∧ V 3 = .int (zI (s.1 8)) ∧ V 4 = .int (zI (s.1 9)) ∧ V 5 = .int (zI (s.1 10)) ∧ V 6 = va_rf (some (C 4)) ∧ V 7 = .int (zI (s.1 12)) ∧ V 8 = .int (zI (s.1 13)) ∧ V 9 = va_rf (some (C 5)) ∧ V 10 = va_rf (some (C 6))) ∧
  (∃ k, cc 1 = c_ls k xs) ∧ (xs.length : Int) = s.1 0 ∧
  (∀ i, i < xs.length → ∃ V, g.2 (xs.getD i 0) = some (c_ob 3 V) ∧ V 0 = .int (zI (s.2 1 i)) ∧ V 1 = .int (zI (s.2 2 i)) ∧ V 2 = .int (zI (s.2 3 i))) ∧
  (∃ f, g.2 (C 2) = some (c_ra 5 6 f) ∧ ∀ i, i < 6 → f i = some (C (10 + i))) ∧
  (∀ i : Nat, i < 6 → ∃ V, cc (10 + i) = c_ob 1 V ∧ V 0 = va_rf (if s.2 4 i = -1 then none else some (C (10 + (s.2 4 i).toNat))) ∧ V 1 = .int (zI (s.2 5 i)) ∧ V 2 = .int (zI (s.2 6 i))) ∧
  (∃ f, g.2 (C 3) = some (c_ra 6 4 f) ∧ ∀ i, i < 4 → f i = some (C (20 + i))) ∧
  (∀ r : Nat, r < 4 → ∃ f, cc (20 + r) = c_ia 0 4 f ∧ ∀ i : Nat, i < 4 → f i = zI (s.2 7 (4 * r + i))) ∧
  (∃ f, cc 4 = c_ia 0 10 f ∧ ∀ i : Nat, i < 10 → f i = zI (s.2 11 i))
/-- a list of rows -/
def RW (h : qH) (a : Nat) (R : List mR3) : Prop := ∃ (k : Int32) (zs : List Nat), h.2 a = some (c_ls k zs) ∧ zs.length = R.length ∧ ∀ j, j < R.length → ∃ f, h.2 (zs.getD j 0) = some (c_ia 0 3 f) ∧ f 0 = zI (R.getD j (0, 0, 0)).1 ∧ f 1 = zI (R.getD j (0, 0, 0)).2.1 ∧ f 2 = zI (R.getD j (0, 0, 0)).2.2
def KP (c5 : qE) (ks : List (List mR3)) (g : qH) : Prop := ∃ (k : Int32) (ys : List Nat), c5 = c_ls k ys ∧ ys.length = ks.length ∧ ∀ i, i < ks.length → RW g (ys.getD i 0) (ks.getD i [])
def LYS (x : Nat) (s : mS) (c6 : qE) (g : qH) : Prop := ∃ f, c6 = c_ra 7 4 f ∧ ∀ r : Nat, r < 4 → ∀ l, f r = some l → ∃ A, A 0 = l ∧ LX A x r (lLay s r) g
def SC (C : mW) (xs : List Nat) (s : mS) (ks : List (List mR3)) (h : qH) : Prop := ∃ (cc : Nat → qE) (g : qH), h = ov C cc g ∧ cOK C cc ∧ (∀ b k, C.2 b = some k → g.2 b = none) ∧ CPc C.1 cc xs s g ∧ LYS (C.1 0) s (cc 6) g ∧ KP (cc 5) ks g
/-- what isn't the component's stays -/
def q_fr (C : mW) (h h' : qH) : Prop := ∀ b e, (∀ k, C.2 b = some k → 1000 ≤ k) → h.2 b = some e → h'.2 b = some e
section SCS
variable {D : qD} {C : mW} {xs : List Nat} {s s' : mS} {ks : List (List mR3)} {h h' g g' : qH} {X : String → qH → Prop} {Q : Option Value → qH → Prop}
theorem RW.le {a : Nat} {R : List mR3} (hR : RW g a R) (hl : q_le g g') : RW g' a R := by
  obtain ⟨k, zs, h1, h2, h3⟩ := hR
  refine ⟨k, zs, hl _ _ h1, h2, fun j hj => ?_⟩
  obtain ⟨f, f1, f2⟩ := h3 j hj
  exact ⟨f, hl _ _ f1, f2⟩
theorem KP.le {c5 : qE} (hK : KP c5 ks g) (hl : q_le g g') : KP c5 ks g' := by
  obtain ⟨k, ys, h1, h2, h3⟩ := hK
  exact ⟨k, ys, h1, h2, fun i hi => (h3 i hi).le hl⟩
theorem LYS.le {x : Nat} {c6 : qE} (hY : LYS x s c6 g) (hl : q_le g g') : LYS x s c6 g' := by
  obtain ⟨f, h1, h2⟩ := hY
  refine ⟨f, h1, fun r hr l hl9 => ?_⟩
  obtain ⟨A, a1, a2⟩ := h2 r hr l hl9
  exact ⟨A, a1, a2.le hl⟩
theorem CPc.le {C : Nat → Nat} {cc : Nat → qE} (hP : CPc C cc xs s g) (hl : q_le g g') : CPc C cc xs s g' := by
  obtain ⟨a1, b1, c1, d1, ⟨f, e1, e2⟩, g1, ⟨f2, i1, i2⟩, j1, k1⟩ := hP
  refine ⟨a1, b1, c1, fun i hi => ?_, ⟨f, hl _ _ e1, e2⟩, g1, ⟨f2, hl _ _ i1, i2⟩, j1, k1⟩
  obtain ⟨V, x1, x2⟩ := d1 i hi
  exact ⟨V, hl _ _ x1, x2⟩
theorem CPc.P {cc : Nat → qE} (hW : cOK C cc) (hd : ∀ b k, C.2 b = some k → g.2 b = none) (hP : CPc C.1 cc xs s g) : CP C.1 xs s (ov C cc g) := by
  have hl := ov_le (cc := cc) hd
  have at_ : ∀ k, cRole k → (ov C cc g).2 (C.1 k) = some (cc k) := fun k hk => cov_at hW hk
  obtain ⟨⟨V, a1, a2⟩, ⟨k, b1⟩, c1, d1, ⟨f, e1, e2⟩, g1, ⟨f2, i1, i2⟩, j1, ⟨f3, k1, k2⟩⟩ := hP
  refine ⟨⟨V, by rw [at_ 0 (by unfold cRole; omega), a1], a2⟩, ⟨k, by rw [at_ 1 (by unfold cRole; omega), b1]⟩, c1, fun i hi => ?_, ⟨f, hl _ _ e1, e2⟩, fun i hi => ?_, ⟨f2, hl _ _ i1, i2⟩, fun i hi => ?_, ⟨f3, by rw [at_ 4 (by unfold cRole; omega), k1], k2⟩⟩
  · obtain ⟨V, x1, x2⟩ := d1 i hi
    exact ⟨V, hl _ _ x1, x2⟩
  · obtain ⟨V, x1, x2⟩ := g1 i hi
    exact ⟨V, by rw [at_ _ (by unfold cRole; omega), x1], x2⟩
  · obtain ⟨f, x1, x2⟩ := j1 i hi
    exact ⟨f, by rw [at_ _ (by unfold cRole; omega), x1], x2⟩
theorem SC.P (hS : SC C xs s ks h) : CP C.1 xs s h := by
  obtain ⟨cc, g, h1, h2, h3, h4, h5, h6⟩ := hS
  rw [h1]
  exact h4.P h2 h3
theorem SC.le (hS : SC C xs s ks h) (hl : q_le h h') : SC C xs s ks h' := by
  obtain ⟨cc, g, h1, h2, h3, h4, h5, h6⟩ := hS
  have hg : q_le g (h'.1, fun b => if C.2 b = none then h'.2 b else none) := fun b e hb => by
    have hn : C.2 b = none := by
      cases hx : C.2 b with
      | none => rfl
      | some k => rw [h3 b k hx] at hb; cases hb
    show (if C.2 b = none then h'.2 b else none) = some e
    rw [if_pos hn]
    refine hl b e ?_
    rw [h1, ov_bg hn]
    exact hb
  refine ⟨cc, (h'.1, fun b => if C.2 b = none then h'.2 b else none), ov_ext rfl (fun y k hy => ?_) (fun y hy => ?_), h2, fun b k hb => ?_, h4.le hg, h5.le hg, h6.le hg⟩
  · refine hl y _ ?_
    rw [h1]
    exact ov_in hy
  · exact (if_pos hy).symm
  · show (if C.2 b = none then h'.2 b else none) = none
    rw [if_neg (by rw [hb]; exact fun q => nomatch q)]
theorem q_fr.rf : q_fr C h h := fun _ _ _ q => q
theorem q_fr.tr {h1 h2 h3 : qH} (a : q_fr C h1 h2) (b : q_fr C h2 h3) : q_fr C h1 h3 := fun x e q q2 => b x e q (a x e q q2)
theorem q_le.fr (hl : q_le h h') : q_fr C h h' := fun b e _ hb => hl b e hb
theorem q_fr.put {cc : Nat → qE} {k : Nat} {e : qE} (hW : cOK C cc) (hk : cRole k) : q_fr C h (q_put h (C.1 k) e) := fun b x hb hx => by
  rw [put_ne (fun w => ?_)]
  · exact hx
  · have h9 := hW.c hk
    rw [← w] at h9
    have := hb k h9
    unfold cRole at hk
    omega
theorem canon_tq (ht : tq s s') (r : Int) : canon s' r = canon s r := by
  refine Prod.ext (funext fun j => ?_) (funext fun j => funext fun z => ?_)
  · show (if j = 0 ∨ j = 8 ∨ j = 9 ∨ j = 10 then s'.1 j else 0) = (if j = 0 ∨ j = 8 ∨ j = 9 ∨ j = 10 then s.1 j else 0)
    split
    · exact ht.1 j (by omega)
    · rfl
  · show (if 1 ≤ j ∧ j ≤ 6 then s'.2 j z else if j = 7 ∧ 0 ≤ z ∧ z < 4 then s'.2 7 (4 * r + z) else 0) = (if 1 ≤ j ∧ j ≤ 6 then s.2 j z else if j = 7 ∧ 0 ≤ z ∧ z < 4 then s.2 7 (4 * r + z) else 0)
    rw [ht.2 7 (by omega)]
    split
    · rw [ht.2 j (by omega)]
    · rfl
theorem SC.tq (hS : SC C xs s ks h) (ht : tq s s') : SC C xs s' ks h := by
  obtain ⟨cc, g, h1, h2, h3, h4, ⟨f, y1, y2⟩, h6⟩ := hS
  refine ⟨cc, g, h1, h2, h3, ?_, ⟨f, y1, fun r hr l hl => ?_⟩, h6⟩
  · unfold CPc at h4 ⊢
    rw [ht.1 0 (by omega), ht.1 8 (by omega), ht.1 9 (by omega), ht.1 10 (by omega), ht.1 12 (by omega), ht.1 13 (by omega), ht.2 1 (by omega), ht.2 2 (by omega), ht.2 3 (by omega), ht.2 4 (by omega), ht.2 5 (by omega), ht.2 6 (by omega), ht.2 7 (by omega), ht.2 11 (by omega)]
    exact h4
  · obtain ⟨A, a1, a2⟩ := y2 r hr l hl
    refine ⟨A, a1, ?_⟩
    have e : lLay s' r = lLay s r := by
      unfold lLay
      rw [canon_tq ht]
    rw [e]
    exact a2
/-- place, with what is left behind -/
theorem x_place (hD : q_DK D) {z n : Int} {p m : Int32} (hp : p = zI z) (hm : m = zI n) (bz : bd z) (bn : bd n) {sx : Nat} (hs : q_str D sx) (hcr : 2000 ≤ h.1) {K : Int32 → qH → Prop} (hok : 0 ≤ z → z < n → K (zI z) h) (hno : ¬ (0 ≤ z ∧ z < n) → ∀ h', q_le h h' → h.1 ≤ h'.1 + 2000 → X "java/lang/IndexOutOfBoundsException" h') : c_I D m_X1_place [.int p, .int m, va_rf (some sx)] h X K := by
  subst hp
  subst hm
  exact j_place hD hs bz.1 bz.2 bn.1 bn.2 hcr (fun a b => ⟨_, rfl, hok a b⟩) hno
theorem x_within (hD : q_DK D) {z lo hi : Int} {p l m : Int32} (hp : p = zI z) (hl : l = zI lo) (hm : m = zI hi) (bz : bd z) (bl : bd lo) (bh : bd hi) (hcr : 2000 ≤ h.1) {K : qH → Prop} (hok : lo ≤ z → z ≤ hi → K h) (hno : ¬ (lo ≤ z ∧ z ≤ hi) → ∀ h', q_le h h' → h.1 ≤ h'.1 + 2000 → X "java/lang/IllegalArgumentException" h') : c_V D m_X1_isWithin [.int p, .int l, .int m] h X K := by
  subst hp
  subst hl
  subst hm
  exact j_isWithin hD bz.1 bz.2 bl.1 bl.2 bh.1 bh.2 hcr (fun a b => ⟨rfl, hok a b⟩) hno
theorem x_must {p : Int32} {sx : Nat} (hcr : 2000 ≤ h.1) {K : qH → Prop} (hok : ¬ p = 0 → K h) (hno : p = 0 → ∀ h', q_le h h' → h.1 ≤ h'.1 + 2000 → X "java/lang/IllegalStateException" h') : c_V D m_X1_must [.int p, va_rf (some sx)] h X K := j_must hcr (fun w => ⟨rfl, hok w⟩) hno
/-- what a call leaves -/
def ST (C : mW) (xs : List Nat) (s : mS) (ks : List (List mR3)) (h0 : qH) (c : Nat) (h : qH) : Prop := SC C xs s ks h ∧ q_fr C h0 h ∧ h0.1 ≤ h.1 + c
theorem ST.le {h0 : qH} {c d : Nat} (hS : ST C xs s ks h0 c h) (hl : q_le h h') (hc : h.1 ≤ h'.1 + d) : ST C xs s ks h0 (c + d) h' := ⟨hS.1.le hl, hS.2.1.tr hl.fr, by have := hS.2.2; omega⟩
theorem SC.rcX1 (hS : SC C xs s ks h) : recv D h (some (C.1 0)) RX1 := by
  obtain ⟨⟨V, a, -⟩, -⟩ := hS.P
  exact rcv a rfl
/-- the layout of a record -/
theorem x_layout0 (hD : q_DK D) (hT : TI s) (hB : MB s) (hS : SC C xs s ks h) {r : Int} {p : Int32} (hp : p = zI r) (br : bd r) (hcr : 10000 ≤ h.1) {K : Option Nat → qH → Prop} (hok : (0 ≤ r ∧ r ≤ 3) → ∀ (A : Nat → Nat) h', ST C xs s ks h 8000 h' → LX A (C.1 0) r (lLay s r) h' → (∀ k : Nat, (k : Int) < 3 * (lLay s r).1.1 14 + 5 → C.2 (A k) = none) → K (some (A 0)) h') (hno : ¬ (0 ≤ r ∧ r ≤ 3) → ∀ h', ST C xs s ks h 2000 h' → X "java/lang/IndexOutOfBoundsException" h') : recv D h (some (C.1 0)) RX1 ∧ c_R D m_X1_layout [va_rf (some (C.1 0)), .int p] h X K := by
  subst hp
  refine ⟨hS.rcX1, f_X1_layout _ _ h (x_place hD rfl zl_4 br (bdl rfl) ⟨9, by omega, rfl⟩ (by omega) (fun a b => ?_) (fun w h' hl hc => hno (fun q => w (by omega)) h' ⟨hS.le hl, hl.fr, hc⟩))⟩
  have hr : 0 ≤ r ∧ r < 4 := ⟨a, b⟩
  have hP := hS.P
  have hS9 := hS
  obtain ⟨cc, g, h1, h2, h3, h4, ⟨f, y1, y2⟩, h6⟩ := hS9
  have h6r : cRole 6 := by unfold cRole; omega
  have hc6 : h.2 (C.1 6) = some (c_ra 7 4 f) := by rw [h1, cov_at h2 h6r, y1]
  have hcl : (zI r).toNatClampNeg = r.toNat := zI_cl hr.1 (by omega)
  refine cp_lays hP (aR (Or.inl hc6) (zI_in hr.1 (by omega) (by omega)) ?_)
  rw [hcl]
  refine ⟨fun w => f_X1_layout_32 _ _ h (cp_lays hP (aR (Or.inl hc6) (zI_in hr.1 (by omega) (by omega)) ?_)), fun w => cp_lays hP (x_newLayout hD hP hT hB hr (by omega) (fun W h' H' c' ha => ?_))⟩
  · rw [hcl]
    cases hf : f r.toNat with
    | none => exact absurd hf w
    | some l =>
      obtain ⟨A, a1, a2⟩ := y2 r.toNat (by omega) l hf
      rw [Int.toNat_of_nonneg hr.1] at a2
      refine ⟨_, rfl, ?_⟩
      rw [← a1]
      refine hok ⟨hr.1, by omega⟩ A h ⟨hS, q_fr.rf, by omega⟩ (a2.le ?_) (fun k hk => ?_)
      · rw [h1]
        exact ov_le h3
      · obtain ⟨n0, q, p, w1, w2⟩ := a2
        cases hx : C.2 (A k) with
        | none => rfl
        | some j =>
          have := w1 k hk
          rw [h3 _ j hx] at this
          cases this
  · have hle := H'.le
    have hX := H'.lx
    have hc6' := hle _ _ hc6
    have hSC' : SC C xs s ks h' := hS.le hle
    have hP' := hSC'.P
    have hob := hX.ob
    have hW0 : C.2 (W.1 0) = none := by
      cases hx : C.2 (W.1 0) with
      | none => rfl
      | some k => rw [h1, ov_in hx] at ha; cases ha
    refine ⟨C.1 6, 4, f, rfl, hc6', zI_in hr.1 (by omega) (by omega), Or.inr ⟨_, _, "Quirefold$Layout", rfl, Or.inl hob, rfl, Or.inl ⟨rfl, 4, _, rfl, rfl⟩⟩, ?_⟩
    rw [hcl]
    -- the new state
    have hA : ∀ k : Nat, (k : Int) < 3 * (lLay s r).1.1 14 + 5 → C.2 (W.1 k) = none := by
      intro k hk
      cases hx : C.2 (W.1 k) with
      | none => rfl
      | some j =>
        exfalso
        obtain ⟨-, q, p, gg, u1, u2, u3, u4, u5⟩ := H'
        have e1 := u2.1 k hk
        have e2 := u4 _ k e1
        have e3 : h.2 (W.1 k) = some (cc j) := by rw [h1]; exact ov_in hx
        rw [u3 _ _ e3] at e2
        cases e2
    obtain ⟨cc', g', v1, v2, v3, v4, ⟨f', z1, z2⟩, v6⟩ := hSC'
    have hcc : cc' 6 = c_ra 7 4 f := by
      have := hc6'
      rw [v1, cov_at v2 h6r] at this
      exact Option.some.inj this
    have hXg : LX W.1 (C.1 0) r (lLay s r) g' := by
      obtain ⟨n0, q, p, w1, w2⟩ := hX
      refine ⟨n0, q, p, fun k hk => ?_, fun k hk hk2 => ?_⟩
      · have := w1 k hk
        rw [v1, ov_bg (hA k hk)] at this
        exact this
      · obtain ⟨d1, d2⟩ := w2 k hk hk2
        refine ⟨d1, fun i hi => ?_⟩
        have := d2 i hi
        cases hx : C.2 ((p k).getD i 0) with
        | none => rw [v1, ov_bg hx] at this; exact this
        | some j =>
          exfalso
          rw [v1, ov_in hx] at this
          have hj := (v2.1.2 _ j hx).2
          have this := Option.some.inj this
          obtain ⟨⟨V0, b0, -⟩, ⟨k1, b1⟩, -, -, -, b10, -, b20, ⟨f4, b4, -⟩⟩ := v4
          obtain ⟨k5, y5, b5, -⟩ := v6
          rcases hj with hj | ⟨hj, hj2⟩
          rotate_left
          · rcases v2.2 j hj hj2 with ⟨V9, e9⟩ | ⟨ty9, n9, f9, e9, e10⟩ | ⟨n9, f9, e9⟩
            · rw [e9] at this; cases this
            · rw [e9] at this; cases this
            · rw [e9] at this; cases this
          unfold cRole at hj
          rcases hj with rfl | rfl | rfl | rfl | rfl | hj | hj
          · rw [b0] at this; cases this
          · rw [b1] at this; cases this
          · rw [b4] at this; cases this
          · rw [b5] at this; cases this
          · rw [hcc] at this; cases this
          · obtain ⟨V, b, -⟩ := b10 (j - 10) (by omega)
            rw [show 10 + (j - 10) = j by omega] at b
            rw [b] at this
            cases this
          · obtain ⟨f, b, -⟩ := b20 (j - 20) (by omega)
            rw [show 20 + (j - 20) = j by omega] at b
            rw [b] at this
            cases this
    have hnew : SC C xs s ks (q_put h' (C.1 6) (c_ra 7 4 (va_up f r.toNat (some (W.1 0))))) := by
      refine ⟨fun j => if j = 6 then c_ra 7 4 (va_up f r.toNat (some (W.1 0))) else cc' j, g', by rw [v1, cov_put v2 h6r], v2.up h6r, v3, ?_, ⟨_, if_pos rfl, fun r' hr' l hl => ?_⟩, v6⟩
      · obtain ⟨p1, p2, p3, p4, p5, p6, p7, p8, p9⟩ := v4
        refine ⟨p1, p2, p3, p4, p5, fun i hi => ?_, p7, fun i hi => ?_, p9⟩
        · simp only [if_neg (show 10 + i ≠ 6 by omega)]
          exact p6 i hi
        · simp only [if_neg (show 20 + i ≠ 6 by omega)]
          exact p8 i hi
      · by_cases hrr : r' = r.toNat
        · simp only [va_up, if_pos hrr] at hl
          cases hl
          refine ⟨W.1, rfl, ?_⟩
          rw [hrr, Int.toNat_of_nonneg hr.1]
          exact hXg
        · simp only [va_up, if_neg hrr] at hl
          rw [hcc] at z1
          cases z1
          exact z2 r' hr' l hl
    have hPn := hnew.P
    refine f_X1_layout_32 _ _ _ (cp_lays hPn (aR (Or.inl put_self) (zI_in hr.1 (by omega) (by omega)) ?_))
    rw [hcl]
    refine ⟨some (W.1 0), ?_, hok ⟨hr.1, by omega⟩ W.1 _ ⟨hnew, hle.fr.tr (q_fr.put v2 h6r), c'⟩ ?_ hA⟩
    · simp [va_up]
    · obtain ⟨cc2, g2, w1, w2, w3, -, -, -⟩ := hnew
      have e : q_put h' (C.1 6) (c_ra 7 4 (va_up f r.toNat (some (W.1 0)))) = ov C (fun j => if j = 6 then c_ra 7 4 (va_up f r.toNat (some (W.1 0))) else cc' j) g' := by rw [v1, cov_put v2 h6r]
      rw [e]
      exact hXg.le (ov_le v3)
theorem x_layout (hD : q_DK D) (hT : TI s) (hB : MB s) (hS : SC C xs s ks h) {r : Int} {p : Int32} (hp : p = zI r) (br : bd r) (hcr : 10000 ≤ h.1) {K : Option Nat → qH → Prop} (hok : (0 ≤ r ∧ r ≤ 3) → ∀ (A : Nat → Nat) h', ST C xs s ks h 8000 h' → LX A (C.1 0) r (lLay s r) h' → K (some (A 0)) h') (hno : ¬ (0 ≤ r ∧ r ≤ 3) → ∀ h', ST C xs s ks h 2000 h' → X "java/lang/IndexOutOfBoundsException" h') : recv D h (some (C.1 0)) RX1 ∧ c_R D m_X1_layout [va_rf (some (C.1 0)), .int p] h X K :=
  x_layout0 hD hT hB hS hp br hcr (fun hr A h1 S1 hX _ => hok hr A h1 S1 hX) hno
end SCS
