set_option maxRecDepth 100000
/-! the component's calls: what is told -/
section CO3
variable {D : qD} {C : mW} {xs : List Nat} {s : mS} {ks : List (List mR3)} {h : qH} {X : String → qH → Prop} {r : Int}
theorem SC.st (hS : SC C xs s ks h) {h' : qH} {c : Nat} (hl : q_le h h') (hc : h.1 ≤ h'.1 + c) : ST C xs s ks h c h' := ⟨hS.le hl, hl.fr, hc⟩
theorem x_grid (hD : q_DK D) (hS : SC C xs s ks h) {a b c : Int} (ba : bd a) (bb : bd b) (bc : bd c) (hcr : 18000 ≤ h.1) {K : qH → Prop} (hok : (5 ≤ a ∧ a ≤ 20) → (3 ≤ b ∧ b ≤ 20) → (1 ≤ c ∧ c ≤ 2) → ∀ h', ST C xs (mF (mF (mF s 8 a) 9 b) 10 c) ks h 18000 h' → K h') (hno : ¬ ((5 ≤ a ∧ a ≤ 20) ∧ (3 ≤ b ∧ b ≤ 20) ∧ (1 ≤ c ∧ c ≤ 2)) → ∀ h', ST C xs s ks h 18000 h' → X "java/lang/IllegalArgumentException" h') : c_V D m_X1_grid [va_rf (some (C.1 0)), .int (zI a), .int (zI b), .int (zI c)] h X K := by
  have hx : ¬ ((5 ≤ a ∧ a ≤ 20) ∧ (3 ≤ b ∧ b ≤ 20) ∧ (1 ≤ c ∧ c ≤ 2)) → ∀ h', q_le h h' → h.1 ≤ h'.1 + 2000 → X "java/lang/IllegalArgumentException" h' := fun w h' hl hc => hno w h' ((hS.st hl hc).wk (by omega))
  refine f_X1_grid _ _ _ _ h (x_within hD rfl zl_5 zl_20 ba (bdl rfl) (bdl rfl) (by omega) (fun a1 a2 => x_within hD rfl zl_3 zl_20 bb (bdl rfl) (bdl rfl) (by omega) (fun b1 b2 => x_within hD rfl zl_1 zl_2 bc (bdl rfl) (bdl rfl) (by omega) (fun c1 c2 => ?_) (fun w => hx (fun q => w q.2.2))) (fun w => hx (fun q => w q.2.1))) (fun w => hx (fun q => w q.1)))
  exact SC_F hS.scl (Or.inl ⟨rfl, rfl⟩) rfl (fun h1 S1 f1 e1 => SC_F S1 (Or.inr (Or.inl ⟨rfl, rfl⟩)) rfl (fun h2 S2 f2 e2 => SC_F S2 (Or.inr (Or.inr (Or.inl ⟨rfl, rfl⟩))) rfl (fun h3 S3 f3 e3 => x_forgets S3 (fun h4 S4 f4 e4 => ⟨rfl, hok ⟨a1, a2⟩ ⟨b1, b2⟩ ⟨c1, c2⟩ h4 ⟨S4, ((f1.tr f2).tr f3).tr f4, by omega⟩⟩))))
/-- another state that lays out the same -/
theorem SCL.canon {L : Nat → lV} (hS : SCL C xs s ks L h) (hL : ∀ r : Nat, r < 4 → L r = lLay s r) : SC C xs s ks h := by
  obtain ⟨cc, g, h1, h2, h3, h4, ⟨f, f2, f3⟩, h6⟩ := hS
  refine ⟨cc, g, h1, h2, h3, h4, ⟨f, f2, fun r hr l hl => ?_⟩, h6⟩
  obtain ⟨A, p1, p2⟩ := f3 r hr l hl
  rw [hL r hr] at p2
  exact ⟨A, p1, p2⟩
theorem lLay_canon {s s' : mS} (h : canon s r = canon s' r) : lLay s r = lLay s' r := by
  unfold lLay
  rw [h]
theorem canon_F {k : Nat} {z : Int} (hk : ¬ (k = 0 ∨ k = 8 ∨ k = 9 ∨ k = 10)) : canon (mF s k z) r = canon s r := by
  refine Prod.ext (funext fun j => ?_) rfl
  show (if j = 0 ∨ j = 8 ∨ j = 9 ∨ j = 10 then (if j = k then z else s.1 j) else 0) = (if j = 0 ∨ j = 8 ∨ j = 9 ∨ j = 10 then s.1 j else 0)
  split
  · rw [if_neg (fun q => hk (by omega))]
  · rfl
theorem canon_A {k : Nat} {z w : Int} (hk : 7 < k) : canon (mA s k z w) r = canon s r := by
  refine Prod.ext rfl (funext fun j => funext fun u => ?_)
  show (if 1 ≤ j ∧ j ≤ 6 then (if j = k ∧ u = z then w else s.2 j u) else if j = 7 ∧ 0 ≤ u ∧ u < 4 then (if 7 = k ∧ 4 * r + u = z then w else s.2 7 (4 * r + u)) else 0) = (if 1 ≤ j ∧ j ≤ 6 then s.2 j u else if j = 7 ∧ 0 ≤ u ∧ u < 4 then s.2 7 (4 * r + u) else 0)
  rw [if_neg (by omega : ¬ (7 = k ∧ 4 * r + u = z))]
  split
  · rw [if_neg (by omega)]
  · rfl
theorem x_throw2 (hD : q_DK D) {i sx j sy : Nat} (hsx : sx = 100 + i) (hi : i < 25) (hsy : sy = 100 + j) (hj : j < 25) {z : Int} {p : Int32} (hp : p = zI z) (bz : bd z) {E : String} (hE : E ∈ qXN) (hcr : 2000 ≤ h.1) (hX : ∀ h', q_le h h' → h.1 ≤ h'.1 + 2000 → X E h') : x_N h E (fun a2 h3 => n_O h3 9 4 tyJ10 (fun a4 h5 => c_V D m_J10_init [va_rf (some a4)] h5 X (fun h6 => (recv D h6 (some a4) RJ10 ∧ c_R D m_J10_append [va_rf (some a4), va_rf (some (d_s D sx))] h6 X (fun r8 h7 => (recv D h7 r8 RJ10 ∧ c_R D m_J10_append_2 [va_rf r8, .int p] h7 X (fun r10 h9 => (recv D h9 r10 RJ10 ∧ c_R D m_J10_append [va_rf r10, va_rf (some (d_s D sy))] h9 X (fun r12 h11 => (recv D h11 r12 RJ10 ∧ c_R D m_J10_toString [va_rf r12] h11 X (fun r14 h13 => x_I h13 (some a2) E (fun h15 => x_T h15 (some a2) X)))))))))))) := by
  subst hsx
  subst hsy
  subst hp
  refine ⟨by omega, fun a ha => ⟨by show _ ≤ h.1 - 2; omega, fun sb hsb => ?_⟩⟩
  refine j_sbInit (h0 := q_new h 2 a (c_ex E false)) new_self rfl (q_le.rf.new hsb) hsb (by show 5 ≤ h.1 - 2 - (1 + 4 / 4); omega) (fun h1 S1 c1 => ⟨rfl, ?_⟩)
  have c1 : h.1 - 2 - (1 + 4 / 4) ≤ h1.1 + 5 := c1
  have r1 : ∀ {h9 : qH} {cap cnt : Nat}, q_SB (q_new h 2 a (c_ex E false)) h9 sb cap cnt → recv D h9 (some sb) RJ10 := fun S => by
    obtain ⟨-, -, V, arr, f, e1, -⟩ := S
    exact rcv e1 rfl
  refine ⟨r1 S1, j_appS hD S1 hi (by omega) (by omega) (fun h2 cap2 cnt2 S2 b2 c2 => ⟨_, rfl, r1 S2, ?_⟩)⟩
  refine j_appI hD S2 bz.1 bz.2 (by omega) (by omega) (fun h3 cap3 cnt3 S3 b3 c3 => ⟨_, rfl, r1 S3, ?_⟩)
  refine j_appS hD S3 hj (by omega) (by omega) (fun h4 cap4 cnt4 S4 b4 c4 => ⟨_, rfl, r1 S4, ?_⟩)
  refine j_toString S4 (by omega) (fun m h5 le5 c5 => ⟨_, rfl, ?_⟩)
  exact j_thrown hE ha rfl le5 (by omega) hX
theorem x_fold (hD : q_DK D) (hS : SC C xs s ks h) {a b : Int} (ba : bd a) (bb : bd b) (hcr : 18000 ≤ h.1) {K : qH → Prop} (hok : (a = 4 ∨ a = 8 ∨ a = 16) → (0 ≤ b ∧ b ≤ 9) → ∀ h', ST C xs (mF (mF s 12 a) 13 b) ks h 18000 h' → K h') (hno : ¬ ((a = 4 ∨ a = 8 ∨ a = 16) ∧ (0 ≤ b ∧ b ≤ 9)) → ∀ h', ST C xs s ks h 18000 h' → X "java/lang/IllegalArgumentException" h') : c_V D m_X1_fold [va_rf (some (C.1 0)), .int (zI a), .int (zI b)] h X K := by
  have hx : ¬ ((a = 4 ∨ a = 8 ∨ a = 16) ∧ (0 ≤ b ∧ b ≤ 9)) → ∀ h', q_le h h' → h.1 ≤ h'.1 + 2000 → X "java/lang/IllegalArgumentException" h' := fun w h' hl hc => hno w h' ((hS.st hl hc).wk (by omega))
  have h56 : (a = 4 ∨ a = 8 ∨ a = 16) → L_X1_fold_56 D (fun v h1 => v = none ∧ K h1) X (C.1 0) (zI a) (zI b) h := by
    intro ha
    refine f_X1_fold_56 _ _ _ h (x_within hD rfl zl_0 zl_9 bb (bdl rfl) (bdl rfl) (by omega) (fun b1 b2 => SC_F hS.scl (Or.inr (Or.inr (Or.inr (Or.inl ⟨rfl, rfl⟩)))) rfl (fun h1 S1 f1 e1 => SC_F S1 (Or.inr (Or.inr (Or.inr (Or.inr ⟨rfl, rfl⟩)))) rfl (fun h2 S2 f2 e2 => ⟨rfl, hok ha ⟨b1, b2⟩ h2 ⟨S2.canon (fun r hr => lLay_canon (by rw [canon_F (by omega), canon_F (by omega)])), f1.tr f2, by omega⟩⟩))) (fun w => hx (fun q => w q.2)))
  refine f_X1_fold _ _ _ h (x_within hD rfl zl_4 zl_16 ba (bdl rfl) (bdl rfl) (by omega) (fun a1 a2 => ⟨fun w => h56 (Or.inl ?_), fun w => ⟨fun w2 => h56 (Or.inr (Or.inl ?_)), fun w2 => ⟨fun w3 => h56 (Or.inr (Or.inr ?_)), fun w3 => ?_⟩⟩⟩) (fun w => hx (fun q => w (by omega))))
  · rw [zl_4, zI_eq (by omega) (by omega) (by omega) (by omega)] at w
    exact w
  · rw [zl_8, zI_eq (by omega) (by omega) (by omega) (by omega)] at w2
    exact w2
  · rw [zl_16, zI_eq (by omega) (by omega) (by omega) (by omega)] at w3
    exact w3
  · rw [zl_4, zI_eq (by omega) (by omega) (by omega) (by omega)] at w
    rw [zl_8, zI_eq (by omega) (by omega) (by omega) (by omega)] at w2
    rw [zl_16, zI_eq (by omega) (by omega) (by omega) (by omega)] at w3
    exact x_throw2 hD (i := 13) (j := 14) rfl (by omega) rfl (by omega) rfl ba (by simp [qXN]) (by omega) (hx (fun q => by omega))
theorem canon_data {a b c : Int} (hb : 0 ≤ b ∧ b < 4) (hr : r ≠ a) : canon (mA s 7 (4 * a + b) c) r = canon s r := by
  refine Prod.ext rfl (funext fun j => funext fun z => ?_)
  show (if 1 ≤ j ∧ j ≤ 6 then (if j = 7 ∧ z = 4 * a + b then c else s.2 j z) else if j = 7 ∧ 0 ≤ z ∧ z < 4 then (if 7 = 7 ∧ 4 * r + z = 4 * a + b then c else s.2 7 (4 * r + z)) else 0) = (if 1 ≤ j ∧ j ≤ 6 then s.2 j z else if j = 7 ∧ 0 ≤ z ∧ z < 4 then s.2 7 (4 * r + z) else 0)
  by_cases h1 : 1 ≤ j ∧ j ≤ 6
  · rw [if_pos h1, if_pos h1, if_neg (by omega)]
  · rw [if_neg h1, if_neg h1]
    by_cases h2 : j = 7 ∧ 0 ≤ z ∧ z < 4
    · rw [if_pos h2, if_pos h2, if_neg (by omega)]
    · rw [if_neg h2, if_neg h2]
theorem x_data (hD : q_DK D) (hS : SC C xs s ks h) {a b c : Int} (ba : bd a) (bb : bd b) (bc : bd c) (hcr : 18000 ≤ h.1) {K : Int32 → qH → Prop} (hok : (0 ≤ a ∧ a ≤ 3) → (0 ≤ b ∧ b ≤ 3) → (0 ≤ c ∧ c ≤ 9) → ∀ h', ST C xs (mA s 7 (4 * a + b) c) ks h 18000 h' → K (zI (s.2 7 (4 * a + b))) h') (hno1 : ¬ ((0 ≤ a ∧ a ≤ 3) ∧ (0 ≤ b ∧ b ≤ 3)) → ∀ h', ST C xs s ks h 18000 h' → X "java/lang/IndexOutOfBoundsException" h') (hno2 : ((0 ≤ a ∧ a ≤ 3) ∧ (0 ≤ b ∧ b ≤ 3)) → ¬ (0 ≤ c ∧ c ≤ 9) → ∀ h', ST C xs s ks h 18000 h' → X "java/lang/IllegalArgumentException" h') : c_I D m_X1_data [va_rf (some (C.1 0)), .int (zI a), .int (zI b), .int (zI c)] h X K := by
  have hx : ¬ ((0 ≤ a ∧ a ≤ 3) ∧ (0 ≤ b ∧ b ≤ 3)) → ∀ h', q_le h h' → h.1 ≤ h'.1 + 2000 → X "java/lang/IndexOutOfBoundsException" h' := fun w h' hl hc => hno1 w h' ((hS.st hl hc).wk (by omega))
  have hP := hS.P
  refine f_X1_data _ _ _ _ h (x_place hD rfl zl_4 ba (bdl rfl) ⟨9, by omega, rfl⟩ (by omega) (fun a1 a2 => x_place hD rfl zl_4 bb (bdl rfl) ⟨10, by omega, rfl⟩ (by omega) (fun b1 b2 => x_within hD rfl zl_0 zl_9 bc (bdl rfl) (bdl rfl) (by omega) (fun c1 c2 => cp_data hP (cp_row hP rfl a1 a2 (cp_datum hP a1 a2 rfl b1 b2 (cp_data hP (cp_row hP rfl a1 a2 (SC_row hS.scl ⟨a1, a2⟩ rfl ⟨b1, b2⟩ rfl (fun h1 S1 f1 e1 => cp_lays S1.P (SC_lay S1 rfl ⟨a1, a2⟩ (L' := fun r => lLay (mA s 7 (4 * a + b) c) r) (fun r hr => lLay_canon (canon_data ⟨b1, b2⟩ hr)) (fun h2 S2 f2 e2 => ⟨_, rfl, hok ⟨a1, by omega⟩ ⟨b1, by omega⟩ ⟨c1, c2⟩ h2 ⟨S2, f1.tr f2, by omega⟩⟩))))))))) (fun w h' hl hc => hno2 ⟨⟨a1, by omega⟩, b1, by omega⟩ w h' ((hS.st hl hc).wk (by omega)))) (fun w => hx (fun q => w (by omega)))) (fun w => hx (fun q => w (by omega))))
/-- chains met: g is met from v on -/
theorem x_see28 (hD : q_DK D) (hT : TI s) (hS : SC C xs s ks h) {a b : Int} (ha : 0 ≤ a ∧ a ≤ 9) (bb : bd b) {Q : Option Value → qH → Prop} (rk : Int → Nat) (hr : ∀ i, 0 ≤ i → i < 10 → s.2 11 i ≠ -1 → rk (s.2 11 i) < rk i) : ∀ (f : Nat) (v l : Int), (v = -1 ∨ (0 ≤ v ∧ v < 10 ∧ rk v < f)) → (l = 0 ∨ l = 1) → ((l = 1 ∨ mChase s 11 a f v ≠ -1) → L_X1_see_71 D Q X (C.1 0) (zI a) (zI b) 0 h) → (l = 0 → mChase s 11 a f v = -1 → L_X1_see_71 D Q X (C.1 0) (zI a) (zI b) 1 h) → L_X1_see_28 D Q X (C.1 0) (zI a) (zI b) (zI l) (zI v) h := by
  intro f
  induction f with
  | zero =>
    intro v l hv hl h0 h1
    have hv : v = -1 := by
      rcases hv with q | q
      · exact q
      · omega
    subst hv
    refine f_X1_see_28 _ _ _ _ _ h ⟨fun _ => ⟨fun w => h0 (Or.inl ?_), fun w => h1 ?_ rfl⟩, fun w => absurd zl_m1.symm w⟩
    · rw [zl_0, zI_eq (by omega) (by omega) (by omega) (by omega)] at w
      omega
    · rw [zl_0, zI_eq (by omega) (by omega) (by omega) (by omega)] at w
      exact w
  | succ f ih =>
    intro v l hv hl h0 h1
    by_cases hvm : v = -1
    · subst hvm
      have e : mChase s 11 a (f + 1) (-1) = -1 := if_pos (Or.inl rfl)
      rw [e] at h0 h1
      refine f_X1_see_28 _ _ _ _ _ h ⟨fun _ => ⟨fun w => h0 (Or.inl ?_), fun w => h1 ?_ rfl⟩, fun w => absurd zl_m1.symm w⟩
      · rw [zl_0, zI_eq (by omega) (by omega) (by omega) (by omega)] at w
        omega
      · rw [zl_0, zI_eq (by omega) (by omega) (by omega) (by omega)] at w
        exact w
    · have hv := hv.resolve_left hvm
      have hb := hT.2.2.2.2.2.2.2.1 v hv.1 hv.2.1
      have hnext : (s.2 11 v = -1 ∨ (0 ≤ s.2 11 v ∧ s.2 11 v < 10 ∧ rk (s.2 11 v) < f)) := by
        by_cases q : s.2 11 v = -1
        · exact Or.inl q
        · have := hr v hv.1 hv.2.1 q
          exact Or.inr ⟨by omega, by omega, by omega⟩
      have hP := hS.P
      have h49 : ∀ m : Int, (m = 0 ∨ m = 1) → (m = 1 ↔ (l = 1 ∨ v = a)) → L_X1_see_49 D Q X (C.1 0) (zI a) (zI b) (zI v) (zI m) h := by
        intro m hm hml
        refine f_X1_see_49 _ _ _ _ _ h (cp_sees hP (cp_see hP rfl hv.1 hv.2.1 (ih _ m hnext hm (fun q => h0 ?_) (fun q1 q2 => h1 (by omega) ?_))))
        · by_cases hva : v = a
          · refine Or.inr ?_
            have e : mChase s 11 a (f + 1) v = v := if_pos (Or.inr hva)
            rw [e]
            exact hvm
          · have e : mChase s 11 a (f + 1) v = mChase s 11 a f (s.2 11 v) := if_neg (by omega)
            rw [e]
            rcases q with q | q
            · exact Or.inl (by have := hml.mp q; omega)
            · exact Or.inr q
        · have hva : v ≠ a := fun q => by have := hml.mpr (Or.inr q); omega
          have e : mChase s 11 a (f + 1) v = mChase s 11 a f (s.2 11 v) := if_neg (by omega)
          rw [e]
          exact q2
      have h44 : (l = 1 ∨ v = a) → L_X1_see_44 D Q X (C.1 0) (zI a) (zI b) (zI v) h := fun q => f_X1_see_44 _ _ _ _ h (h49 1 (Or.inr rfl) ⟨fun _ => q, fun _ => rfl⟩)
      refine f_X1_see_28 _ _ _ _ _ h ⟨fun w => ?_, fun _ => ⟨fun w => h44 (Or.inl ?_), fun w => ⟨fun w2 => h49 0 (Or.inl rfl) ⟨fun q => by omega, fun q => ?_⟩, fun w2 => h44 (Or.inr ?_)⟩⟩⟩
      · rw [zl_m1, zI_eq (by omega) (by omega) (by omega) (by omega)] at w
        exact absurd w hvm
      · rw [zl_0, zI_eq (by omega) (by omega) (by omega) (by omega)] at w
        omega
      · rw [zl_0, zI_eq (by omega) (by omega) (by omega) (by omega)] at w
        rw [zI_eq (by omega) (by omega) (by omega) (by omega)] at w2
        omega
      · rw [zI_eq (by omega) (by omega) (by omega) (by omega)] at w2
        exact w2
theorem x_see (hD : q_DK D) (hT : TI s) (hS : SC C xs s ks h) {a b : Int} (ba : bd a) (bb : bd b) (hcr : 18000 ≤ h.1) {K : Int32 → qH → Prop} (hok : (0 ≤ a ∧ a ≤ 9) → (-1 ≤ b ∧ b ≤ 9) → mChase s 11 a 10 b = -1 → ∀ h', ST C xs (mA s 11 a b) ks h 18000 h' → K (zI (s.2 11 a)) h') (hno1 : ¬ ((0 ≤ a ∧ a ≤ 9) ∧ (-1 ≤ b ∧ b ≤ 9)) → ∀ h', ST C xs s ks h 18000 h' → X "java/lang/IndexOutOfBoundsException" h') (hno2 : (0 ≤ a ∧ a ≤ 9) → (-1 ≤ b ∧ b ≤ 9) → mChase s 11 a 10 b ≠ -1 → ∀ h', ST C xs s ks h 18000 h' → X "java/lang/IllegalStateException" h') : c_I D m_X1_see [va_rf (some (C.1 0)), .int (zI a), .int (zI b)] h X K := by
  have hx : ¬ ((0 ≤ a ∧ a ≤ 9) ∧ (-1 ≤ b ∧ b ≤ 9)) → ∀ h', q_le h h' → h.1 ≤ h'.1 + 2000 → X "java/lang/IndexOutOfBoundsException" h' := fun w h' hl hc => hno1 w h' ((hS.st hl hc).wk (by omega))
  have hP := hS.P
  obtain ⟨rk, r1, r2⟩ := hT.2.2.2.2.2.2.2.2.2.2.2
  have h76 : (0 ≤ a ∧ a ≤ 9) → (-1 ≤ b ∧ b ≤ 9) → mChase s 11 a 10 b = -1 → L_X1_see_76 D (fun v h1 => ∃ r : Int32, v = some (.int r) ∧ K r h1) X (C.1 0) (zI a) (zI b) h := fun ha hb hc => f_X1_see_76 _ _ _ h (cp_sees hP (cp_see hP rfl ha.1 (by omega) (cp_sees hP (SC_see hS.scl rfl ⟨ha.1, by omega⟩ rfl (fun h1 S1 f1 e1 => ⟨_, rfl, hok ha hb hc h1 ⟨S1.canon (fun r hr => lLay_canon (by rw [canon_A (by omega)])), f1, by omega⟩⟩)))))
  refine f_X1_see _ _ _ h (x_place hD rfl zl_10 ba (bdl rfl) ⟨11, by omega, rfl⟩ (by omega) (fun a1 a2 => ⟨fun w => ?_, fun w => x_place hD rfl zl_10 bb (bdl rfl) ⟨11, by omega, rfl⟩ (by omega) (fun b1 b2 => ?_) (fun w2 => hx (fun q => w2 ?_))⟩) (fun w => hx (fun q => w (by omega))))
  · rw [zl_m1, zI_eq bb.1 bb.2 (by omega) (by omega)] at w
    subst w
    exact h76 ⟨a1, by omega⟩ ⟨by omega, by omega⟩ rfl
  · rw [zl_m1, zI_eq bb.1 bb.2 (by omega) (by omega)] at w
    refine x_see28 hD hT hS ⟨a1, by omega⟩ bb rk r2 10 b 0 (Or.inr ⟨b1, b2, by have := r1 b b1 b2; omega⟩) (Or.inl rfl) (fun q => f_X1_see_71 _ _ _ _ h (x_must (by omega) (fun w => absurd rfl w) (fun _ h' hl hc => hno2 ⟨a1, by omega⟩ ⟨by omega, by omega⟩ (by omega) h' ((hS.st hl hc).wk (by omega))))) (fun _ q => f_X1_see_71 _ _ _ _ h (x_must (by omega) (fun _ => h76 ⟨a1, by omega⟩ ⟨by omega, by omega⟩ q) (fun w => absurd w (by decide))))
  · rw [zl_m1, zI_eq bb.1 bb.2 (by omega) (by omega)] at w
    omega
end CO3
