set_option maxRecDepth 100000
/-! component, model and the law's array in one heap -/
def mRole (k : Nat) : Prop := mArr k = true ∨ k = 100
theorem mRole_lt {k : Nat} (h : mRole k) : k < 200 := by
  rcases h with h | h
  · apply Classical.byContradiction
    intro w
    have : mArr k = false := by
      simp only [mArr, Bool.or_eq_false_iff, beq_eq_false_iff_ne]
      omega
    rw [this] at h
    cases h
  · omega
/-- model's roles in the component's overlay, from 1000 on; 2000 the law's array -/
def JW (C W : mW) : Prop := (∀ b k, W.2 b = some k → mRole k) ∧ (∀ k, mRole k → C.1 (1000 + k) = W.1 k ∧ C.2 (W.1 k) = some (1000 + k)) ∧ C.2 (C.1 2000) = some 2000 ∧ ∀ k, 1000 ≤ k → C.2 (C.1 k) = some k → k = 2000 ∨ ∃ j, mRole j ∧ k = 1000 + j
/-- component's state s with what is kept, model's state y, the array's number -/
def JJ (C W : mW) (xs : List Nat) (s : mS) (ks : List (List mR3)) (y : mS) (f : Nat → Int64) (h : qH) : Prop := SC C xs s ks h ∧ (∀ k, mRole k → h.2 (W.1 k) = some (mcell W y k)) ∧ h.2 (C.1 2000) = some (c_la 1 f)
theorem CPc_congr {C C' : Nat → Nat} {cc cc' : Nat → qE} {xs : List Nat} {s : mS} {g : qH} (hT : TI s) (hC : ∀ k, k < 100 → C' k = C k) (hc : ∀ k, k < 100 → cc' k = cc k) (h : CPc C cc xs s g) : CPc C' cc' xs s g := by
  obtain ⟨p1, p2, p3, p4, p5, p6, p7, p8, p9⟩ := h
  refine ⟨?_, ?_, p3, p4, ?_, fun i hi => ?_, ?_, fun i hi => ?_, ?_⟩
  · rw [hc 0 (by omega), hC 1 (by omega), hC 2 (by omega), hC 3 (by omega), hC 4 (by omega), hC 5 (by omega), hC 6 (by omega)]
    exact p1
  · rw [hc 1 (by omega)]
    exact p2
  · obtain ⟨f, a, b⟩ := p5
    exact ⟨f, by rw [hC 2 (by omega)]; exact a, fun i hi => by rw [hC (10 + i) (by omega)]; exact b i hi⟩
  · have hb := hT.base (v := (i : Int)) (by omega) (by omega)
    rw [hc (10 + i) (by omega), hC (10 + (s.2 4 i).toNat) (by omega)]
    exact p6 i hi
  · obtain ⟨f, a, b⟩ := p7
    exact ⟨f, by rw [hC 3 (by omega)]; exact a, fun i hi => by rw [hC (20 + i) (by omega)]; exact b i hi⟩
  · rw [hc (20 + i) (by omega)]
    exact p8 i hi
  · rw [hc 4 (by omega)]
    exact p9
section GL
variable {D : qD} {C W : mW} {xs xs' : List Nat} {s s' y y2 : mS} {ks ks' : List (List mR3)} {h h' h1 : qH} {f : Nat → Int64} {X : String → qH → Prop}
/-- more cells of another's -/
theorem SC.glue (hT : TI s) (hS : SC C xs s ks h1) (hle : q_le h1 h) {C' : mW} (e1 : ∀ k, k < 1000 → C'.1 k = C.1 k) (e2 : ∀ k, cRole k → C'.2 (C.1 k) = some k) (e3 : ∀ b k, C'.2 b = some k → b = C'.1 k ∧ cRx C' k) (e4 : ∀ k, 1000 ≤ k → C'.2 (C'.1 k) = some k → h1.2 (C'.1 k) = none ∧ ∃ e, h.2 (C'.1 k) = some e ∧ mcl e) : SC C' xs s ks h := by
  obtain ⟨cc, g, u1, u2, u3, u4, u5, u6⟩ := hS
  have hlt : ∀ k, cRole k → k < 1000 := fun k hk => by unfold cRole at hk; omega
  have hC1 : ∀ k, cRole k → C'.1 k = C.1 k := fun k hk => e1 k (hlt k hk)
  have hg : q_le g (h.1, fun b => if C'.2 b = none then h.2 b else none) := by
    intro b e hb
    have hn : C.2 b = none := by
      cases hx : C.2 b with
      | none => rfl
      | some k => rw [u3 b k hx] at hb; cases hb
    have hb1 : h1.2 b = some e := by rw [u1, ov_bg hn]; exact hb
    have hn' : C'.2 b = none := by
      cases hx : C'.2 b with
      | none => rfl
      | some k =>
        exfalso
        obtain ⟨q1, q2⟩ := e3 b k hx
        rcases q2 with q2 | ⟨q2, q3⟩
        · rw [q1, hC1 k q2, u2.c q2] at hn
          cases hn
        · have := (e4 k q2 q3).1
          rw [← q1, hb1] at this
          cases this
    show (if C'.2 b = none then h.2 b else none) = some e
    rw [if_pos hn']
    exact hle b e hb1
  have hc : ∀ k, k < 1000 → (if k < 1000 then cc k else (h.2 (C'.1 k)).getD (c_bx 0)) = cc k := fun k hk => if_pos hk
  refine ⟨fun k => if k < 1000 then cc k else (h.2 (C'.1 k)).getD (c_bx 0), (h.1, fun b => if C'.2 b = none then h.2 b else none), ov_ext rfl (fun b k hy => ?_) (fun b hy => ?_), ⟨⟨fun k hk => ?_, e3⟩, fun k hk hk2 => ?_⟩, fun b k hb => ?_, CPc_congr hT (fun k hk => e1 k (by omega)) (fun k hk => hc k (by omega)) (u4.le hg), ?_, ?_⟩
  · obtain ⟨q1, q2⟩ := e3 b k hy
    rcases q2 with q2 | ⟨q2, q3⟩
    · simp only [if_pos (hlt k q2)]
      rw [q1, hC1 k q2]
      refine hle _ _ ?_
      rw [u1]
      exact cov_at u2 q2
    · simp only [if_neg (show ¬ k < 1000 by omega)]
      obtain ⟨-, e, a, -⟩ := e4 k q2 q3
      rw [q1, a]
      rfl
  · exact (if_pos hy).symm
  · rcases hk with hk | ⟨-, hk⟩
    · rw [hC1 k hk]
      exact e2 k hk
    · exact hk
  · simp only [if_neg (show ¬ k < 1000 by omega)]
    obtain ⟨-, e, a, b⟩ := e4 k hk hk2
    rw [a]
    exact b
  · show (if C'.2 b = none then h.2 b else none) = none
    rw [if_neg (by rw [hb]; exact fun q => nomatch q)]
  · show LYS (C'.1 0) s (if 6 < 1000 then cc 6 else (h.2 (C'.1 6)).getD (c_bx 0)) _
    rw [hc 6 (by omega), e1 0 (by omega)]
    exact u5.le hg
  · show KP (if 5 < 1000 then cc 5 else (h.2 (C'.1 5)).getD (c_bx 0)) ks _
    rw [hc 5 (by omega)]
    exact u6.le hg
/-- the other's cells change -/
theorem SC.model (hT : TI s) (hS : SC C xs s ks h) (hb : ∀ b, (∀ k, C.2 b = some k → k < 1000) → h'.2 b = h.2 b) (hm : ∀ k, 1000 ≤ k → C.2 (C.1 k) = some k → ∃ e, h'.2 (C.1 k) = some e ∧ mcl e) : SC C xs s ks h' := by
  obtain ⟨cc, g, u1, u2, u3, u4, u5, u6⟩ := hS
  have hg : q_le g (h'.1, g.2) := fun _ _ q => q
  have hc : ∀ k, k < 1000 → (if k < 1000 then cc k else (h'.2 (C.1 k)).getD (c_bx 0)) = cc k := fun k hk => if_pos hk
  refine ⟨fun k => if k < 1000 then cc k else (h'.2 (C.1 k)).getD (c_bx 0), (h'.1, g.2), ov_ext rfl (fun b k hy => ?_) (fun b hy => ?_), ⟨u2.1, fun k hk hk2 => ?_⟩, u3, CPc_congr hT (fun _ _ => rfl) (fun k hk => hc k (by omega)) (u4.le hg), ?_, ?_⟩
  · by_cases hk : k < 1000
    · simp only [if_pos hk]
      rw [hb b (fun k' hk' => by rw [hy] at hk'; cases hk'; exact hk), u1]
      exact ov_in hy
    · simp only [if_neg hk]
      have e := (u2.1.2 b k hy).1
      obtain ⟨x, a, -⟩ := hm k (by omega) (by rw [← e]; exact hy)
      rw [e, a]
      rfl
  · rw [hb b (fun k hk => by rw [hy] at hk; cases hk), u1]
    exact ov_bg hy
  · simp only [if_neg (show ¬ k < 1000 by omega)]
    obtain ⟨e, a, b⟩ := hm k hk hk2
    rw [a]
    exact b
  · show LYS (C.1 0) s (if 6 < 1000 then cc 6 else (h'.2 (C.1 6)).getD (c_bx 0)) _
    rw [hc 6 (by omega)]
    exact u5.le hg
  · show KP (if 5 < 1000 then cc 5 else (h'.2 (C.1 5)).getD (c_bx 0)) ks _
    rw [hc 5 (by omega)]
    exact u6.le hg
theorem mlen_ne3 (k : Nat) : mlen k ≠ 3 := by
  unfold mlen
  repeat' split
  all_goals omega
theorem mcell_mcl {k : Nat} : mcl (mcell W y k) := by
  unfold mcell
  by_cases hk : k = 100
  · rw [if_pos hk]
    exact Or.inl ⟨_, rfl⟩
  · rw [if_neg hk]
    exact Or.inr (Or.inl ⟨_, _, _, rfl, mlen_ne3 k⟩)
theorem JJ.mid (hW : mOK D W) (hJW : JW C W) (hJ : JJ C W xs s ks y f h) : mh W y h = h := by
  rw [mh_ov]
  refine ov_id fun b j hb => ?_
  rw [hW.2 b j hb]
  exact hJ.2.1 j (hJW.1 b j hb)
/-- the component's step -/
theorem JJ.comp (hJW : JW C W) (hJ : JJ C W xs s ks y f h) {c : Nat} (hS : ST C xs' s' ks' h c h') : JJ C W xs' s' ks' y f h' := by
  obtain ⟨a, b, -⟩ := hS
  refine ⟨a, fun k hk => b _ _ (fun k' hk' => ?_) (hJ.2.1 k hk), b _ _ (fun k' hk' => ?_) hJ.2.2⟩
  · rw [(hJW.2.1 k hk).2] at hk'
    have := Option.some.inj hk'
    omega
  · rw [hJW.2.2.1] at hk'
    have := Option.some.inj hk'
    omega
theorem JJ.ne (hJW : JW C W) {k : Nat} (hk : mRole k) : W.1 k ≠ C.1 2000 := by
  intro w
  have h1 := (hJW.2.1 k hk).2
  rw [w, hJW.2.2.1] at h1
  have := mRole_lt hk
  have := Option.some.inj h1
  omega
theorem JJ.rl (hJW : JW C W) (hJ : JJ C W xs s ks y f h) {k : Nat} (hk : 1000 ≤ k) (hk2 : C.2 (C.1 k) = some k) : ∃ e, h.2 (C.1 k) = some e ∧ mcl e := by
  rcases hJW.2.2.2 k hk hk2 with rfl | ⟨j, hj, rfl⟩
  · exact ⟨_, hJ.2.2, Or.inr (Or.inr ⟨_, _, rfl⟩)⟩
  · rw [(hJW.2.1 j hj).1]
    exact ⟨_, hJ.2.1 j hj, mcell_mcl⟩
/-- the law's array is written -/
theorem JJ.out (hT : TI s) (hJW : JW C W) (hJ : JJ C W xs s ks y f h) {f' : Nat → Int64} : JJ C W xs s ks y f' (q_put h (C.1 2000) (c_la 1 f')) := by
  refine ⟨hJ.1.model hT (fun b hb => put_ne fun w => ?_) (fun k hk hk2 => ?_), fun k hk => (put_ne (JJ.ne hJW hk)).trans (hJ.2.1 k hk), put_self⟩
  · have := hb 2000 (by rw [w]; exact hJW.2.2.1)
    omega
  · by_cases hb : C.1 k = C.1 2000
    · rw [hb]
      exact ⟨_, put_self, Or.inr (Or.inr ⟨_, _, rfl⟩)⟩
    · obtain ⟨e, a, b⟩ := hJ.rl hJW hk hk2
      exact ⟨e, (put_ne hb).trans a, b⟩
/-- the model's step -/
theorem JJ.model (hT : TI s) (hW : mOK D W) (hJW : JW C W) (hJ : JJ C W xs s ks y f h) : JJ C W xs s ks y2 f (mh W y2 h) := by
  have hn : ∀ b, W.2 b = none → (mh W y2 h).2 b = h.2 b := fun b hb => by rw [mh_ov]; exact ov_bg hb
  have hs : ∀ k, mRole k → (mh W y2 h).2 (W.1 k) = some (mcell W y2 k) := fun k hk => mh_at hW hk
  have h2 : (mh W y2 h).2 (C.1 2000) = some (c_la 1 f) := by
    rw [hn]
    · exact hJ.2.2
    · cases hx : W.2 (C.1 2000) with
      | none => rfl
      | some k => exact absurd (hW.2 _ k hx).symm (JJ.ne hJW (hJW.1 _ k hx))
  refine ⟨hJ.1.model hT (fun b hb => hn b ?_) (fun k hk hk2 => ?_), hs, h2⟩
  · cases hx : W.2 b with
    | none => rfl
    | some k =>
      have hr := hJW.1 _ k hx
      have := hb (1000 + k) (by rw [hW.2 b k hx]; exact (hJW.2.1 k hr).2)
      omega
  · rcases hJW.2.2.2 k hk hk2 with rfl | ⟨j, hj, rfl⟩
    · exact ⟨_, h2, Or.inr (Or.inr ⟨_, _, rfl⟩)⟩
    · rw [(hJW.2.1 j hj).1]
      exact ⟨_, hs j hj, mcell_mcl⟩
theorem KR.eq (h : KR s ks) (e31 : s'.1 31 = s.1 31) (ea : ∀ k, k = 32 ∨ k = 33 ∨ k = 34 ∨ k = 35 → s'.2 k = s.2 k) : KR s' ks := by
  unfold KR at h ⊢
  rw [e31, ea 32 (by omega), ea 33 (by omega), ea 34 (by omega), ea 35 (by omega)]
  exact h
theorem KR.told (h : KR s ks) (ht : told s' = told s) : KR s' ks := h.eq (told_f ht 31 (by omega)) (fun k hk => told_a ht k (by omega))
theorem KL_of (hB : MB s) (h : KR s ks) : KL ks := by
  obtain ⟨-, k2, k3, -, k5⟩ := h
  have hm : ∀ R ∈ ks.flatten, bd R.1 ∧ bd R.2.1 ∧ bd R.2.2 := by
    intro R hR
    obtain ⟨j, hj, rfl⟩ := List.getElem_of_mem hR
    have e := k5 j hj
    rw [List.getD_eq_getElem?_getD, List.getElem?_eq_getElem hj] at e
    have e : (s.2 33 (j : Int), s.2 34 (j : Int), s.2 35 (j : Int)) = ks.flatten[j] := e
    rw [← e]
    exact ⟨hB.2 _ _, hB.2 _ _, hB.2 _ _⟩
  refine ⟨k2, fun i hi => ?_⟩
  have hi9 : ks.getD i [] = ks[i] := by rw [List.getD_eq_getElem?_getD, List.getElem?_eq_getElem hi]; rfl
  rw [hi9]
  have hmem : ks[i] ∈ ks := List.getElem_mem hi
  refine ⟨fun j hj => ?_, ?_⟩
  · have hj9 : (ks[i]).getD j (0, 0, 0) = (ks[i])[j] := by rw [List.getD_eq_getElem?_getD, List.getElem?_eq_getElem hj]; rfl
    rw [hj9]
    exact hm _ (List.mem_flatten.mpr ⟨_, hmem, List.getElem_mem hj⟩)
  · refine Nat.le_trans (List.Sublist.length_le ?_) k3
    exact List.sublist_flatten_of_mem hmem
/-- weaker posts of a method with handlers -/
theorem MWh_imp {M : qM} {av : List Value} {Q Q' : Option Value → qH → Prop} (G : MWh D M av h Q' X) (kQ : ∀ v h1, Q' v h1 → Q v h1) : MWh D M av h Q X := by
  intro sz us
  refine MetFree.mono (G sz us) (fun a s h => h) (fun _ _ _ _ _ h => h) (fun a s o s' hp hq => ?_)
  rcases hq with ⟨⟨v, h', e1, e2, e3⟩, hL⟩ | hq
  · exact Or.inl ⟨⟨v, h', e1, kQ v h' e2, e3⟩, hL⟩
  · exact Or.inr hq
theorem cIW_imp {M : qM} {av : List Value} {K K' : Int32 → qH → Prop} (G : c_IW D M av h X K') (k : ∀ r h1, K' r h1 → K r h1) : c_IW D M av h X K := MWh_imp G fun _ _ ⟨r, e, q⟩ => ⟨r, e, k r _ q⟩
/-- what the component answers: code, number, new state, what is kept -/
abbrev OUT : Type := Int → Int → mS → List (List mR3) → Prop
def cAns (C W : mW) (y : mS) (h : qH) (R : OUT) (x : Int32) (h' : qH) : Prop := ∃ (k z : Int) (s' : mS) (ks' : List (List mR3)) (xs' : List Nat) (f : Nat → Int64), x = zI k ∧ R k z s' ks' ∧ JJ C W xs' s' ks' y f h' ∧ h.1 ≤ h'.1 + 18000 ∧ (k = 0 → f 0 = (zI z).toInt64)
def mAns (k z : Int) (s' : mS) (ks' : List (List mR3)) (z2 : Int) (y2 : mS) : Prop := y2.1 37 = k ∧ (k = 0 → z2 = z) ∧ tq s' y2 ∧ KR y2 ks'
theorem ansOK (hJW : JW C W) (hJ : JJ C W xs s ks y f h) {R : OUT} {z : Int} (hT : TI s') (hR : R 0 z s' ks') (hS : ST C xs' s' ks' h 18000 h') : s_L h' (some (C.1 2000)) 0 (zI z).toInt64 (fun h3 => ∃ r : Int32, some (Value.int 0) = some (.int r) ∧ cAns C W y h R r h3) := by
  have hJ' := hJ.comp hJW hS
  refine ⟨C.1 2000, 1, f, rfl, hJ'.2.2, by rw [zl_0]; exact zI_in (by omega) (by omega) (by omega), 0, rfl, 0, z, s', ks', xs', _, rfl, hR, hJ'.out hT hJW, hS.2.2, fun _ => ?_⟩
  show vp_updL f (zI 0).toNatClampNeg _ 0 = _
  rw [zI_cl (by omega) (by omega)]
  simp [vp_updL]
theorem ansNO (hJW : JW C W) (hJ : JJ C W xs s ks y f h) {R : OUT} {k z : Int} {kk : Int32} (hk : kk = zI k) (hk0 : k ≠ 0) (hR : R k z s' ks') (hS : ST C xs' s' ks' h 18000 h') : ∃ r : Int32, some (Value.int kk) = some (.int r) ∧ cAns C W y h R r h' := ⟨kk, rfl, k, z, s', ks', xs', f, hk, hR, hJ.comp hJW hS, hS.2.2, fun w => absurd w hk0⟩
/-- .. of a call that answers nothing -/
def cAnv (C W : mW) (y : mS) (h : qH) (R : OUT) (x : Int32) (h' : qH) : Prop := ∃ (k : Int) (s' : mS) (ks' : List (List mR3)) (xs' : List Nat) (f : Nat → Int64), x = zI k ∧ R k 0 s' ks' ∧ JJ C W xs' s' ks' y f h' ∧ h.1 ≤ h'.1 + 18000
theorem anv (hJW : JW C W) (hJ : JJ C W xs s ks y f h) {R : OUT} {k : Int} {kk : Int32} (hk : kk = zI k) (hR : R k 0 s' ks') (hS : ST C xs' s' ks' h 18000 h') : ∃ r : Int32, some (Value.int kk) = some (.int r) ∧ cAnv C W y h R r h' := ⟨kk, rfl, k, s', ks', xs', f, hk, hR, hJ.comp hJW hS, hS.2.2⟩
end GL
