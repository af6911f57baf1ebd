set_option maxRecDepth 100000
/-! the law's loop: what holds ahead of each call -/
def LV (C W : mW) (n : Nat) (h : qH) : Prop := ∃ (xs : List Nat) (y : mS) (ks : List (List mR3)) (f : Nat → Int64), JJ C W xs y ks y f h ∧ TI y ∧ MB y ∧ KR y ks ∧ y.1 0 ≤ n ∧ 18000 * (64 - n) ≤ h.1
/-- the script -/
abbrev SCR (D : qD) (b L : Nat) (g : Nat → Int) : Prop := d_ro D b (c_ia 9 L (fun i => zI (g i)))
section LW
variable {D : qD} {C W : mW} {xs xs' : List Nat} {y y2 s' : mS} {ks ks' : List (List mR3)} {f : Nat → Int64} {Q : Option Value → qH → Prop} {X : String → qH → Prop} {b L n : Nat} {g : Nat → Int} {h h5 : qH} {w k z z2 : Int}
theorem scr (hs : SCR D b L g) (hL : L ≤ 320) {i : Int32} {z : Int} (hi : i = zI z) (h0 : 0 ≤ z) (h1 : z < L) {K : Int32 → Prop} (k : K (zI (g z.toNat))) : a_I D h (some b) 9 i K := by
  subst hi
  refine ⟨b, L, _, rfl, Or.inr hs, zI_in h0 h1 (by omega), ?_⟩
  rw [zI_cl h0 (by omega)]
  exact k
theorem lgs {a : Int64} : lg_cmp a a = 0 := by
  unfold lg_cmp
  simp
theorem LV.next (hW : mOK D W) (hJW : JW C W) (hJ : JJ C W xs' s' ks' y f h5) (hT' : TI s') (hm : mAns k z s' ks' z2 y2) (hB2 : MB y2) (hn : s'.1 0 ≤ (n : Int) + 1) (hc : 18000 * (64 - (n + 1)) ≤ h5.1) : LV C W (n + 1) (mh W y2 h5) := by
  obtain ⟨-, -, htq, hKR⟩ := hm
  have hJ2 := hJ.model (y2 := y2) hT' hW hJW
  have e0 := htq.1 0 (by omega)
  exact ⟨xs', y2, ks', f, ⟨hJ2.1.tq htq, hJ2.2⟩, TI.of_tq htq hT', hB2, hKR, by omega, hc⟩
/-- behind a wrapper that answers a number: the model's call, what it threw, its number -/
theorem law_v {M : qM} {as : List Int} {vs : List Value} {R : OUT} {x6 : Int32} (hW : mOK D W) (hJW : JW C W) (hn : n < 64) (hcr : 18000 * (64 - n) ≤ h.1) (hy0 : y.1 0 ≤ n) (hA : cAns C W y h R x6 h5) (hR : RG y R) (N : pI D W X M as y (KA R)) (hv : vs = as.map fun z => .int (zI z)) {G Bd : qH → Prop} (GO : ∀ h', LV C W (n + 1) h' → G h') :
    (recv D h5 (some (W.1 100)) RX3 ∧ c_I D M (va_rf (some (W.1 100)) :: vs) h5 X (fun x12 h11 => (recv D h11 (some (W.1 100)) RX3 ∧ c_I D m_X3_thrown [va_rf (some (W.1 100))] h11 X (fun x14 h13 => ((x14 = x6 → ((¬ x6 = 0 → G h13) ∧ (x6 = 0 → a_L D h13 (some (C.1 2000)) 0 (fun y15 => (((lg_cmp y15 x12.toInt64) = 0 → G h13) ∧ (¬ (lg_cmp y15 x12.toInt64) = 0 → Bd h13)))))) ∧ (¬ x14 = x6 → Bd h13)))))) := by
  obtain ⟨k, z, s', ks', xs', f, rfl, hR9, hJ, hc, hz⟩ := hA
  obtain ⟨hT', hk, hs0⟩ := hR k z s' ks' hR9
  rw [← hJ.mid hW hJW]
  refine ⟨mrc hW, mcI N hv (fun z2 y2 bz hB2 hK => ⟨mrc hW, mcI (as := []) (q_thrown hW hB2 (K := fun a b => a = y2.1 37 ∧ b = y2) ⟨rfl, rfl⟩) rfl (fun z3 y3 bz3 hB3 hK3 => ?_)⟩)⟩
  obtain ⟨rfl, rfl⟩ := hK3
  have hm := hK k z s' ks' hR9
  have hnext : LV C W (n + 1) (mh W y3 h5) := LV.next hW hJW hJ hT' hm hB2 (by omega) (by omega)
  obtain ⟨h37, hzz, -, -⟩ := hm
  rw [h37]
  refine ⟨fun _ => ⟨fun _ => GO _ hnext, fun w => ?_⟩, fun w => absurd rfl w⟩
  have hk0 : k = 0 := (mz_eq (a := k) (b := 0) rfl zl_0 ⟨by omega, by omega⟩ (bdl rfl)).mp w
  have e1 := hzz hk0
  have e2 := hz hk0
  subst e1
  refine ⟨C.1 2000, 1, f, rfl, Or.inl (hJ.model (y2 := y3) hT' hW hJW).2.2, by rw [zl_0]; exact zI_in (by omega) (by omega) (by omega), ?_⟩
  have e3 : f (0 : Int32).toNatClampNeg = (zI z2).toInt64 := e2
  rw [e3]
  exact ⟨fun _ => GO _ hnext, fun w => absurd lgs w⟩
/-- .. that answers yes or no -/
theorem law_b {M : qM} {as : List Int} {vs : List Value} {R : OUT} {x6 : Int32} (hW : mOK D W) (hJW : JW C W) (hn : n < 64) (hcr : 18000 * (64 - n) ≤ h.1) (hy0 : y.1 0 ≤ n) (hA : cAns C W y h R x6 h5) (hR : RG y R) (h01 : ∀ k z s' ks', R k z s' ks' → k = 0 → z = 0 ∨ z = 1) (N : pI D W X M as y (KA R)) (hv : vs = as.map fun z => .int (zI z)) {G Bd : qH → Prop} {T : Int64 → Int64 → qH → Prop} (GO : ∀ h', LV C W (n + 1) h' → G h') (GT : ∀ v h', LV C W (n + 1) h' → T v v h') :
    (recv D h5 (some (W.1 100)) RX3 ∧ c_I D M (va_rf (some (W.1 100)) :: vs) h5 X (fun x12 h11 => (recv D h11 (some (W.1 100)) RX3 ∧ c_I D m_X3_thrown [va_rf (some (W.1 100))] h11 X (fun x14 h13 => ((x14 = x6 → ((¬ x6 = 0 → G h13) ∧ (x6 = 0 → a_L D h13 (some (C.1 2000)) 0 (fun y15 => ((x12 = 0 → T 0 y15 h13) ∧ (¬ x12 = 0 → T 1 y15 h13)))))) ∧ (¬ x14 = x6 → Bd h13)))))) := by
  obtain ⟨k, z, s', ks', xs', f, rfl, hR9, hJ, hc, hz⟩ := hA
  obtain ⟨hT', hk, hs0⟩ := hR k z s' ks' hR9
  have hz01 := h01 k z s' ks' hR9
  rw [← hJ.mid hW hJW]
  refine ⟨mrc hW, mcI N hv (fun z2 y2 bz hB2 hK => ⟨mrc hW, mcI (as := []) (q_thrown hW hB2 (K := fun a b => a = y2.1 37 ∧ b = y2) ⟨rfl, rfl⟩) rfl (fun z3 y3 bz3 hB3 hK3 => ?_)⟩)⟩
  obtain ⟨rfl, rfl⟩ := hK3
  have hm := hK k z s' ks' hR9
  have hnext : LV C W (n + 1) (mh W y3 h5) := LV.next hW hJW hJ hT' hm hB2 (by omega) (by omega)
  obtain ⟨h37, hzz, -, -⟩ := hm
  rw [h37]
  refine ⟨fun _ => ⟨fun _ => GO _ hnext, fun w => ?_⟩, fun w => absurd rfl w⟩
  have hk0 : k = 0 := (mz_eq (a := k) (b := 0) rfl zl_0 ⟨by omega, by omega⟩ (bdl rfl)).mp w
  have e1 := hzz hk0
  have e2 := hz hk0
  have e4 := hz01 hk0
  subst e1
  refine ⟨C.1 2000, 1, f, rfl, Or.inl (hJ.model (y2 := y3) hT' hW hJW).2.2, by rw [zl_0]; exact zI_in (by omega) (by omega) (by omega), ?_⟩
  have e3 : f (0 : Int32).toNatClampNeg = (zI z2).toInt64 := e2
  rw [e3]
  rcases e4 with rfl | rfl
  · exact ⟨fun _ => GT _ _ hnext, fun w => absurd rfl w⟩
  · exact ⟨fun w => absurd w (by decide), fun _ => GT _ _ hnext⟩
/-- .. that answers nothing -/
theorem law_n {M : qM} {as : List Int} {vs : List Value} {R : OUT} {x6 : Int32} (hW : mOK D W) (hJW : JW C W) (hn : n < 64) (hcr : 18000 * (64 - n) ≤ h.1) (hy0 : y.1 0 ≤ n) (hA : cAnv C W y h R x6 h5) (hR : RG y R) (N : pV D W X M as y (KV R)) (hv : vs = as.map fun z => .int (zI z)) {G Bd : qH → Prop} (GO : ∀ h', LV C W (n + 1) h' → G h') :
    (recv D h5 (some (W.1 100)) RX3 ∧ c_V D M (va_rf (some (W.1 100)) :: vs) h5 X (fun h11 => (recv D h11 (some (W.1 100)) RX3 ∧ c_I D m_X3_thrown [va_rf (some (W.1 100))] h11 X (fun x14 h13 => ((x14 = x6 → G h13) ∧ (¬ x14 = x6 → Bd h13)))))) := by
  obtain ⟨k, s', ks', xs', f, rfl, hR9, hJ, hc⟩ := hA
  obtain ⟨hT', hk, hs0⟩ := hR k 0 s' ks' hR9
  rw [← hJ.mid hW hJW]
  refine ⟨mrc hW, mcV N hv (fun y2 hB2 hK => ⟨mrc hW, mcI (as := []) (q_thrown hW hB2 (K := fun a b => a = y2.1 37 ∧ b = y2) ⟨rfl, rfl⟩) rfl (fun z3 y3 bz3 hB3 hK3 => ?_)⟩)⟩
  obtain ⟨rfl, rfl⟩ := hK3
  have hm := hK k s' ks' hR9
  have hnext : LV C W (n + 1) (mh W y3 h5) := LV.next hW hJW hJ hT' hm hB2 (by omega) (by omega)
  rw [hm.1]
  exact ⟨fun _ => GO _ hnext, fun w => absurd rfl w⟩
theorem RK_g {A : Prop} {val : Int} {KS : List (List mR3)} (hT : TI y) : RG y (RK y ks A val KS) := by
  rintro k z s' ks' ⟨rfl, ⟨-, rfl, -⟩ | ⟨-, rfl, -⟩⟩
  · exact ⟨hT, by omega, by omega⟩
  · exact ⟨hT, by omega, by omega⟩
end LW
