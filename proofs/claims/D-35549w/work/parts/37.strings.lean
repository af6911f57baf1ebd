set_option maxRecDepth 100000
/-! messages: StringBuilder's methods, by contract -/
section SBU
variable {D : qD} {Q : Option Value → qH → Prop} {X : String → qH → Prop} {h h0 : qH} {a t sb cap cnt arr n : Nat}
/-- a longer copy of bytes -/
theorem j_copyOfB {m a0 : Nat} {f : Nat → Int32} (hc : q_cell D h a0 (c_ia 2 n f)) (hf : q_by f) (hn : n < m) (hm : m ≤ 2000) (hcr : 1 + m / 4 ≤ h.1) (hQ : ∀ (a : Nat) (g : Nat → Int32), h.2 a = none → q_by g → Q (some (va_rf (some a))) (q_put (q_new h (1 + m / 4) a (c_ia 2 m (fun _ => 0))) a (c_ia 2 m g))) : MW D m_J14_copyOf [va_rf (some a0), .int (nI m)] h Q X := by
  refine f_J14_copyOf _ _ h (aNi hc (by omega) ⟨fun _ => ⟨m, rfl, by omega, hcr, fun a ha => ?_⟩, fun z => absurd ((nI_eq (by omega) (by omega)).mp z) (by omega)⟩)
  have hc2 : q_cell D (q_new h (1 + m / 4) a (c_ia 2 m fun _ => 0)) a0 (c_ia 2 n f) := by
    rcases hc with hc | hc
    · exact Or.inl ((new_ne (fun z => by rw [← z, hc] at ha; cases ha)).trans hc)
    · exact Or.inr hc
  refine aNi hc2 (by omega) ?_
  have hmin : (if nI m < nI n then nI m else nI n) = nI n := if_neg (nI_nlt (by omega) (by omega))
  rw [hmin]
  have hcl : (nI n).toNatClampNeg = n := nI_clamp (by omega)
  refine ⟨a0, n, f, a, m, _, rfl, rfl, hc2, new_self, by decide, by decide, nI_pos (by omega), ?_, ?_, hf, ?_⟩
  · rw [hcl]
    show 0 + n ≤ n
    omega
  · rw [hcl]
    show 0 + n ≤ m
    omega
  · exact hQ a _ ha (q_by_cpy hf q_by0)
theorem j_newLen {x y z : Nat} (hx : x ≤ 1000) (hy : y ≤ 1000) (hz : z ≤ 2000) (h0 : 1 ≤ z) (hQ : Q (some (.int (nI (x + if y < z then z else y)))) h) : MW D m_J12_newLength [.int (nI x), .int (nI y), .int (nI z)] h Q X := by
  have e : nI x + (if nI y < nI z then nI z else nI y) = nI (x + if y < z then z else y) := by
    by_cases hyz : y < z
    · rw [if_pos (nI_lt hyz (by omega)), if_pos hyz, nI_add]
    · rw [if_neg (nI_nlt (by omega) (by omega)), if_neg hyz, nI_add]
  have hb : (x + if y < z then z else y) ≤ 3000 ∧ 1 ≤ (x + if y < z then z else y) := by
    by_cases hyz : y < z
    · rw [if_pos hyz]; omega
    · rw [if_neg hyz]; omega
  refine f_J12_newLength _ _ _ h ⟨fun w => ?_, fun _ => ⟨fun w => ?_, fun _ => ?_⟩⟩
  · rw [e] at w
    exact absurd w (nI_nle (by omega) (by omega))
  · rw [e] at w
    have h9 : (2147483639 : Int32) = nI 2147483639 := rfl
    rw [h9] at w
    exact absurd w (nI_nlt (by omega) (by omega))
  · rw [e]
    exact hQ
theorem j_newCap {V : Nat → Value} {f : Nat → Int32} {m : Nat} (e1 : h.2 sb = some (c_ob 9 V)) (v0 : V 0 = .ref arr) (v1 : V 1 = .int 0) (e2 : h.2 arr = some (c_ia 2 cap f)) (hm : cap < m) (hm2 : m ≤ 400) (hQ : Q (some (.int (nI (cap + if m - cap < cap + 2 then cap + 2 else m - cap)))) h) : MW D m_J9_newCapacity [va_rf (some sb), .int (nI m)] h Q X := by
  have e3 : (2 : Int32) <<< ((0 : Int32) &&& 31) = 2 := by decide
  refine f_J9_newCapacity _ _ h (gR (x := some arr) e1 v0 (aNi (Or.inl e2) (by omega) (gI (x := 0) e1 v1 (gI (x := 0) e1 v1 ?_))))
  rw [q_shl0, e3]
  have e4 : nI m - nI cap = nI (m - cap) := by
    rw [zI_n, zI_n, zI_n, zI_sub]
    congr 1
    omega
  have e5 : nI cap + 2 = nI (cap + 2) := nI_add cap 2
  rw [e4, e5]
  have hb : (cap + if m - cap < cap + 2 then cap + 2 else m - cap) ≤ 1000 := by
    by_cases hyz : m - cap < cap + 2
    · rw [if_pos hyz]; omega
    · rw [if_neg hyz]; omega
  refine j_newLen (by omega) (by omega) (by omega) (by omega) ⟨_, rfl, fun _ => gI (x := 0) e1 v1 ?_, fun w => ?_⟩
  · rw [q_shr0]
    exact hQ
  · have h9 : (2147483647 : Int32) = nI 2147483647 := rfl
    rw [h9] at w
    exact absurd ((nI_eq (by omega) (by omega)).mp w) (by omega)
theorem j_ensure (hS : q_SB h0 h sb cap cnt) {m : Nat} (hm1 : cnt ≤ m) (hm2 : m ≤ 390) (hcr : 201 ≤ h.1) (hQ : ∀ h' cap', q_SB h0 h' sb cap' cnt → m ≤ cap' → h.1 ≤ h'.1 + 201 → Q none h') : MW D m_J9_ensureCapacityInternal [va_rf (some sb), .int (nI m)] h Q X := by
  have hS2 := hS
  obtain ⟨hle, hsb, V, arr, f, e1, v0, v1, v3, hne, harr, e2, hf, hc1, hc2, hc3⟩ := hS2
  refine f_J9_ensureCapacityInternal _ _ h (gR (x := some arr) e1 v0 (aNi (Or.inl e2) (by omega) (gI (x := 0) e1 v1 ?_)))
  rw [q_shr0]
  have e4 : nI m - nI cap = zI ((m : Int) - cap) := by rw [zI_n, zI_n, zI_sub]
  rw [e4, zl_0, zI_le (by omega) (by omega) (by omega) (by omega)]
  refine ⟨fun w => hQ h cap hS (by omega) (by omega), fun w => gR (x := some arr) e1 v0 ⟨rcv e1 rfl, ?_⟩⟩
  generalize hcap' : (cap + if m - cap < cap + 2 then cap + 2 else m - cap) = cap'
  have hb : m ≤ cap' ∧ cap' ≤ 800 ∧ cap < cap' := by
    rw [← hcap']
    by_cases hyz : m - cap < cap + 2
    · rw [if_pos hyz]; omega
    · rw [if_neg hyz]; omega
  refine j_newCap e1 v0 v1 e2 (by omega) (by omega) ⟨_, rfl, gI (x := 0) e1 v1 ?_⟩
  rw [hcap', q_shl0]
  refine j_copyOfB (Or.inl e2) hf (by omega) (by omega) (by omega) (fun a g ha hg => ⟨_, rfl, ?_⟩)
  have hsa : sb ≠ a := fun w => by rw [← w, e1] at ha; cases ha
  refine pF ((put_ne hsa).trans ((new_ne hsa).trans e1)) ?_
  have ha0 := hle.no ha
  refine hQ _ cap' ⟨((hle.new ha0).put ha0).put hsb, hsb, _, a, g, put_self, rfl, v1, v3, Ne.symm hsa, ha0, (put_ne (Ne.symm hsa)).trans put_self, hg, by omega, by omega, by omega⟩ hb.1 ?_
  show h.1 ≤ h.1 - (1 + cap' / 4) + 201
  omega
theorem j_appS (hD : q_DK D) (hS : q_SB h0 h sb cap cnt) {i : Nat} (hi : i < 25) (hm : cnt ≤ 330) (hcr : 201 ≤ h.1) (hQ : ∀ h' cap' cnt', q_SB h0 h' sb cap' cnt' → cnt' ≤ cnt + 60 → h.1 ≤ h'.1 + 201 → Q (some (va_rf (some sb))) h') : MW D m_J10_append [va_rf (some sb), va_rf (some (d_s D (100 + i)))] h Q X := by
  obtain ⟨Vs, as, ls, fs, s1, s2, s3, s4, s5, s6⟩ := hD.2.2.2.2 i hi
  have hS2 := hS
  obtain ⟨hle, hsb, V, arr, f, e1, v0, v1, v3, hne, harr, e2, hf, hc1, hc2, hc3⟩ := hS2
  refine f_J10_append _ _ h ⟨rcv e1 rfl, ?_⟩
  refine f_J9_append _ _ h ⟨fun _ => ⟨rcvc (Or.inr s1) rfl, ?_⟩, fun w => nomatch w⟩
  refine f_J8_length _ h (gRc (x := some as) (Or.inr s1) s2 (aNi (Or.inr s4) (by omega) ⟨rcvc (Or.inr s1) rfl, ?_⟩))
  refine f_J8_coder _ h ⟨fun w => absurd w (by decide), fun _ => gIc (Or.inr s1) s3 ⟨by decide, _, rfl, ?_⟩⟩
  simp only [q_shr0]
  refine ⟨_, rfl, gI e1 v3 ⟨rcv e1 rfl, ?_⟩⟩
  rw [nI_add]
  refine j_ensure hS (by omega) (by omega) hcr (fun h' cap' hS' hcap' hcr' => ⟨rfl, ?_⟩)
  obtain ⟨hle', hsb', V', arr', f', e1', v0', v1', v3', hne', harr', e2', hf', hc1', hc2', hc3'⟩ := hS'
  refine gI e1' v3' ⟨rcv e1' rfl, ?_⟩
  refine f_J9_putStringAt _ _ _ h' ⟨rcv e1' rfl, ?_⟩
  refine f_J9_inflateIfNeededFor _ _ h' ⟨fun w => absurd w (by decide), fun _ => gI e1' v1' ⟨rcvc (Or.inr s1) rfl, ?_⟩⟩
  refine f_J8_coder _ h' ⟨fun w => absurd w (by decide), fun _ => gIc (Or.inr s1) s3 ⟨by decide, _, rfl, fun _ => ⟨rfl, ?_⟩, fun w => absurd rfl w⟩⟩
  refine gR (x := some arr') e1' v0' (gI e1' v1' ⟨rcvc (Or.inr s1) rfl, ?_⟩)
  refine f_J8_getBytes _ _ _ _ h' ⟨rcvc (Or.inr s1) rfl, ?_⟩
  refine f_J8_coder _ h' ⟨fun w => absurd w (by decide), fun _ => gIc (Or.inr s1) s3 ⟨by decide, _, rfl, fun w => absurd rfl w, fun _ => ?_⟩⟩
  refine gRc (x := some as) (Or.inr s1) s2 (gRc (x := some as) (Or.inr s1) s2 (aNi (Or.inr s4) (by omega) ?_))
  rw [q_shl0]
  have cl1 : (nI cnt).toNatClampNeg = cnt := nI_clamp (by omega)
  have cl2 : (nI ls).toNatClampNeg = ls := nI_clamp (by omega)
  refine ⟨as, ls, fs, arr', cap', f', rfl, rfl, Or.inr s4, e2', by decide, nI_pos (by omega), nI_pos (by omega), ?_, by rw [cl1, cl2]; omega, s6, rfl, rfl, ?_⟩
  · rw [cl2]
    show 0 + ls ≤ ls
    omega
  have hsa : sb ≠ arr' := Ne.symm hne'
  refine gI ((put_ne hsa).trans e1') v3' (pF ((put_ne hsa).trans e1') ⟨_, rfl, ?_⟩)
  rw [nI_add]
  exact hQ _ cap' (cnt + ls) ⟨(hle'.put harr').put hsb', hsb', _, arr', _, put_self, v0', v1', rfl, hne', harr', (put_ne hne').trans put_self, q_by_cpy s6 hf', by omega, by omega, hc3'⟩ (by omega) hcr'
theorem j_appI (hD : q_DK D) (hS : q_SB h0 h sb cap cnt) {z : Int} (hz1 : -2147483648 ≤ z) (hz2 : z < 2147483648) (hm : cnt ≤ 330) (hcr : 201 ≤ h.1) (hQ : ∀ h' cap' cnt', q_SB h0 h' sb cap' cnt' → cnt' ≤ cnt + 60 → h.1 ≤ h'.1 + 201 → Q (some (va_rf (some sb))) h') : MW D m_J10_append_2 [va_rf (some sb), .int (zI z)] h Q X := by
  have hS2 := hS
  obtain ⟨hle, hsb, V, arr, f, e1, v0, v1, v3, hne, harr, e2, hf, hc1, hc2, hc3⟩ := hS2
  refine f_J10_append_2 _ _ h ⟨rcv e1 rfl, ?_⟩
  refine f_J9_append_2 _ _ h (gI e1 v3 ?_)
  refine j_stringSize hz1 hz2 (fun k hk1 hk2 hk3 => ⟨_, rfl, rcv e1 rfl, ?_⟩)
  have hs : ∃ s : Nat, (s : Int) = (k : Int) + (if z < 0 then 1 else 0) ∧ s ≤ 11 := by
    by_cases hz : z < 0
    · rw [if_pos hz]; exact ⟨k + 1, by omega, by omega⟩
    · rw [if_neg hz]; exact ⟨k, by omega, by omega⟩
  obtain ⟨s, hs1, hs2⟩ := hs
  have e9 : nI cnt + zI (↑k + if z < 0 then 1 else 0) = nI (cnt + s) := by
    rw [← hs1, ← zI_n, nI_add]
  rw [e9]
  refine j_ensure hS (by omega) (by omega) hcr (fun h' cap' hS' hcap' hcr' => ⟨rfl, ?_⟩)
  obtain ⟨hle', hsb', V', arr', f', e1', v0', v1', v3', hne', harr', e2', hf', hc1', hc2', hc3'⟩ := hS'
  refine ⟨rcv e1' rfl, ?_⟩
  refine f_J9_isLatin1 _ h' ⟨fun w => absurd w (by decide), fun _ => gI e1' v1' ⟨fun w => absurd rfl w, fun _ => ⟨_, rfl, fun w => absurd w (by decide), fun _ => ?_⟩⟩⟩
  refine gR (x := some arr') e1' v0' ?_
  rw [zI_n]
  refine j_getChars hD (by omega) e2' hf' hz1 hz2 hk1 hk2 hk3 (by omega) (by omega) (fun x h2 hh => ⟨_, rfl, ?_⟩)
  obtain ⟨f2, b1, b2, b3, b4⟩ := hh
  refine f_J9_append_2_48 _ _ h2 (pF ((b4 sb (Ne.symm hne')).trans e1') ⟨_, rfl, ?_⟩)
  rw [← zI_n]
  refine hQ _ cap' (cnt + s) ⟨?_, hsb', _, arr', f2, put_self, v0', v1', rfl, hne', harr', (put_ne hne').trans b3, b1, by omega, by omega, hc3'⟩ (by omega) (by show h.1 ≤ h2.1 + 201; omega)
  intro b x hb
  have hb1 : b ≠ sb := fun w => by rw [w, hsb'] at hb; cases hb
  have hb2 : b ≠ arr' := fun w => by rw [w, harr'] at hb; cases hb
  rw [put_ne hb1, b4 b hb2]
  exact hle' b x hb
theorem j_sbInit {V : Nat → Value} (e1 : h.2 sb = some (c_ob 9 V)) (v3 : V 3 = .int 0) (hle : q_le h0 h) (hsb : h0.2 sb = none) (hcr : 5 ≤ h.1) (hQ : ∀ h', q_SB h0 h' sb 16 0 → h.1 ≤ h'.1 + 5 → Q none h') : MW D m_J10_init [va_rf (some sb)] h Q X := by
  refine f_J10_init _ h ?_
  refine f_J9_init _ _ h ⟨fun w => absurd w (by decide), fun _ => ⟨16, rfl, by omega, by omega, fun a ha => ?_⟩⟩
  have hsa : sb ≠ a := fun w => by rw [← w, e1] at ha; cases ha
  have ha0 := hle.no ha
  refine pF ((new_ne hsa).trans e1) (pF put_self ⟨rfl, hQ _ ⟨((hle.new ha0).put hsb).put hsb, hsb, _, a, _, put_self, rfl, rfl, v3, Ne.symm hsa, ha0, (put_ne (Ne.symm hsa)).trans ((put_ne (Ne.symm hsa)).trans new_self), q_by0, by omega, by omega, by omega⟩ (by show h.1 ≤ h.1 - (1 + 16 / 4) + 5; omega)⟩)
theorem j_toString (hS : q_SB h0 h sb cap cnt) (hcr : 220 ≤ h.1) (hQ : ∀ a h', q_le h0 h' → h.1 ≤ h'.1 + 220 → Q (some (va_rf (some a))) h') : MW D m_J10_toString [va_rf (some sb)] h Q X := by
  obtain ⟨hle, hsb, V, arr, f, e1, v0, v1, v3, hne, harr, e2, hf, hc1, hc2, hc3⟩ := hS
  refine f_J10_toString _ h ⟨by omega, fun a ha => ?_⟩
  have hsa : sb ≠ a := fun w => by rw [← w, e1] at ha; cases ha
  have hra : arr ≠ a := fun w => by rw [← w, e2] at ha; cases ha
  have ha0 := hle.no ha
  have e1' := (new_ne (c := 1 + 4 / 4) (e := c_ob 10 fun k => defaultValue (tyJ8 k)) hsa).trans e1
  have e2' := (new_ne (c := 1 + 4 / 4) (e := c_ob 10 fun k => defaultValue (tyJ8 k)) hra).trans e2
  refine f_J8_init _ _ _ ?_
  refine f_J8_init_2 _ _ _ ⟨rcv e1' rfl, ?_⟩
  refine f_J9_getValue _ _ (gR (x := some arr) e1' v0 ⟨_, rfl, rcv e1' rfl, ?_⟩)
  refine f_J10_length _ _ ⟨rcv e1' rfl, ?_⟩
  refine f_J9_length _ _ (gI e1' v3 ⟨_, rfl, _, rfl, rcv e1' rfl, ?_⟩)
  refine f_J9_isLatin1 _ _ ⟨fun w => absurd w (by decide), fun _ => gI e1' v1 ⟨fun w => absurd rfl w, fun _ => ⟨_, rfl, fun w => absurd w (by decide), fun _ => ?_⟩⟩⟩
  refine pF new_self ?_
  have e2'' : (q_put (q_new h (1 + 4 / 4) a (c_ob 10 fun k => defaultValue (tyJ8 k))) a (c_ob 10 (updV (fun k => defaultValue (tyJ8 k)) 1 (.int 0)))).2 arr = some (c_ia 2 cap f) := (put_ne hra).trans e2'
  have hfin : ∀ (b : Nat) (g : Nat → Int32) (k : Nat) (h2 : qH), k ≤ 210 → h.1 ≤ h2.1 + 210 → q_le h0 h2 → h2.2 a = some (c_ob 10 (updV (fun k => defaultValue (tyJ8 k)) 1 (.int 0))) → p_F h2 (some a) 10 0 (va_rf (some b)) (fun h11 => (none : Option Value) = none ∧ ((none : Option Value) = none ∧ Q (some (va_rf (some a))) h11)) := by
    intro b g k h2 _ k2 k3 k4
    exact pF k4 ⟨rfl, rfl, hQ a _ (k3.put ha0) (by show h.1 ≤ h2.1 + 220; omega)⟩
  have hl10 : L_J14_copyOfRange_10 D (fun v h1 => ∃ r, v = some (va_rf r) ∧ p_F h1 (some a) 10 0 (va_rf r) (fun h11 => (none : Option Value) = none ∧ ((none : Option Value) = none ∧ Q (some (va_rf (some a))) h11))) X arr 0 (nI cnt) (q_put (q_new h (1 + 4 / 4) a (c_ob 10 fun k => defaultValue (tyJ8 k))) a (c_ob 10 (updV (fun k => defaultValue (tyJ8 k)) 1 (.int 0)))) := by
    refine f_J14_copyOfRange_10 _ _ _ _ ?_
    refine f_J14_copyOfRangeByte _ _ _ _ ?_
    refine f_J14_checkLength _ _ _ ⟨fun _ => ⟨rfl, ?_⟩, fun w => absurd (nI_pos' (by omega)) w⟩
    have e0 : nI cnt - 0 = nI cnt := Int32.sub_zero _
    rw [e0]
    refine ⟨cnt, rfl, by omega, by show _ ≤ h.1 - 2; omega, fun b hb => ?_⟩
    have hba : b ≠ a := fun w => by subst w; rw [put_self] at hb; cases hb
    have hbr : arr ≠ b := fun w => by subst w; rw [e2''] at hb; cases hb
    rw [put_ne hba, new_ne hba] at hb
    have hb0 := hle.no hb
    refine aNi (Or.inl ((new_ne hbr).trans e2'')) (by omega) ?_
    have e00 : nI cap - 0 = nI cap := Int32.sub_zero _
    rw [e00]
    have hmin : (if nI cnt < nI cap then nI cnt else nI cap) = nI cnt := by
      by_cases hlt : cnt < cap
      · rw [if_pos (nI_lt hlt (by omega))]
      · rw [if_neg (nI_nlt (by omega) (by omega)), show cap = cnt by omega]
    rw [hmin]
    have cl : (nI cnt).toNatClampNeg = cnt := nI_clamp (by omega)
    refine ⟨arr, cap, f, b, cnt, _, rfl, rfl, Or.inl ((new_ne hbr).trans e2''), new_self, by decide, by decide, nI_pos (by omega), ?_, ?_, hf, _, rfl, _, rfl, ?_⟩
    · rw [cl]; show 0 + cnt ≤ cap; omega
    · rw [cl]; show 0 + cnt ≤ cnt; omega
    · refine hfin b (fun _ => 0) 0 _ (by omega) ?_ ((((hle.new ha0).put ha0).new hb0).put hb0) ((put_ne (Ne.symm hba)).trans ((new_ne (Ne.symm hba)).trans put_self))
      show h.1 ≤ h.1 - 2 - (1 + cnt / 4) + 210
      omega
  refine f_J14_copyOfRange _ _ _ _ ⟨fun _ => hl10, fun _ => aNi (Or.inl e2'') (by omega) ⟨fun w => ?_, fun _ => hl10⟩⟩
  refine ⟨arr, cap, f, rfl, e2'', hf, by show _ ≤ h.1 - 2; omega, fun b hb => ?_⟩
  have hba : b ≠ a := fun w => by subst w; rw [put_self] at hb; cases hb
  rw [put_ne hba, new_ne hba] at hb
  have hb0 := hle.no hb
  refine ⟨⟨b, cap, f, rfl, Or.inl new_self⟩, _, rfl, hfin b (fun _ => 0) 0 _ (by omega) ?_ (((hle.new ha0).put ha0).new hb0) ((new_ne (Ne.symm hba)).trans put_self)⟩
  show h.1 ≤ h.1 - 2 - (1 + cap / 4) + 210
  omega
end SBU
