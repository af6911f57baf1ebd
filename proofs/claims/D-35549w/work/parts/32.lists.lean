set_option maxRecDepth 100000
/-! lists, by contract: writing -/
section LW
variable {D : qD} {Q : Option Value → qH → Prop} {X : String → qH → Prop} {h : qH} {a t x : Nat} {k : Int32} {xs : List Nat}
theorem j_init {V : Nat → Value} (hc : h.2 t = some (c_ob 6 V)) (hV : V 2 = .int 0) (hQ : Q none (q_put h t (c_ls 0 []))) : MW D m_J2_init [va_rf (some t)] h Q X := by
  refine MW_close ?_
  refine f_J2_init t h ?_
  refine f_J1_init t h ?_
  refine f_J0_init t h ⟨rfl, ?_⟩
  refine pF hc ⟨rfl, pF put_self ?_⟩
  refine ⟨_, hQ, GS_list0 (V := updV (updV V 0 (.int 0)) 1 (va_rf (some (d_s D 0)))) put_self rfl rfl hV (Nat.le_refl _) (fun b e hb => ?_)⟩
  by_cases hbt : b = t
  · subst hbt
    rw [put_self] at hb
    cases hb
    exact Or.inl ⟨rfl, rfl⟩
  · rw [put_ne hbt] at hb
    exact Or.inr ⟨hbt, (put_ne hbt).trans ((put_ne hbt).trans hb)⟩
theorem q_gr1 : ∀ n, n < 65 → 10 ≤ n → ¬ (nI n + (if (nI (n + 1) - nI n) < (nI n >>> ((1 : Int32) &&& 31)) then (nI n >>> ((1 : Int32) &&& 31)) else (nI (n + 1) - nI n))) ≤ 0 ∧ ¬ 2147483639 < (nI n + (if (nI (n + 1) - nI n) < (nI n >>> ((1 : Int32) &&& 31)) then (nI n >>> ((1 : Int32) &&& 31)) else (nI (n + 1) - nI n))) ∧ (nI n + (if (nI (n + 1) - nI n) < (nI n >>> ((1 : Int32) &&& 31)) then (nI n >>> ((1 : Int32) &&& 31)) else (nI (n + 1) - nI n))) = nI (n + n / 2) := by decide +kernel
theorem j_newLength {n : Nat} (h1 : 10 ≤ n) (h2 : n ≤ 64) (hQ : Q (some (.int (nI (n + n / 2)))) h) : MW D m_J12_newLength [.int (nI n), .int (nI (n + 1) - nI n), .int (nI n >>> ((1 : Int32) &&& 31))] h Q X := by
  obtain ⟨g1, g2, g3⟩ := q_gr1 n (by omega) h1
  refine f_J12_newLength _ _ _ h ⟨fun z => absurd z g1, fun _ => ⟨fun z => absurd z g2, fun _ => ?_⟩⟩
  rw [g3]
  exact hQ
theorem j_grow0 (hD : q_DK D) {V : Nat → Value} (e1 : h.2 t = some (c_ob 6 V)) (hV1 : V 1 = .ref (d_s D 0)) (hV2 : V 2 = .int (nI 0)) (hcr : 3 ≤ h.1) (hQ : ∀ a, h.2 a = none → Q (some (va_rf (some a))) (q_put (q_new h 3 a (c_ra 4 10 (fun _ => none))) t (c_ob 6 (updV V 1 (va_rf (some a)))))) : MW D m_J2_grow [va_rf (some t)] h Q X := by
  refine f_J2_grow t h (gI e1 hV2 ⟨rcv e1 rfl, ?_⟩)
  refine f_J2_grow_2 t _ h (gR (x := some (d_s D 0)) e1 hV1 (aNr (Or.inr hD.1) (by omega) ⟨fun z => absurd z (by decide +kernel), fun _ => gR (x := some (d_s D 0)) e1 hV1 ⟨fun _ => ⟨10, by decide +kernel, by omega, hcr, fun a ha => ?_⟩, fun z => absurd rfl z⟩⟩))
  have hat : t ≠ a := fun z => by rw [← z, e1] at ha; cases ha
  exact pF ((new_ne hat).trans e1) ⟨_, rfl, hQ a ha⟩
theorem j_copyOf {n m a0 : Nat} {f : Nat → Option Nat} (hc : q_cell D h a0 (c_ra 4 n f)) (hn : n ≤ m) (hm : m ≤ 1000) (hf : ∀ i, i < n → ∀ y, f i = some y → ∃ (z : qE) (B : String), h.2 y = some z ∧ q_nm z = some B ∧ Cond.castable B "java/lang/Object" ∈ lw_tbl) (hcr : 1 + m / 4 ≤ h.1) (hQ : ∀ a, h.2 a = none → Q (some (va_rf (some a))) (q_put (q_new h (1 + m / 4) a (c_ra 4 m (fun _ => none))) a (c_ra 4 m (va_cpy f (fun _ => none) 0 0 n)))) : MW D m_J14_copyOf_2 [va_rf (some a0), .int (nI m)] h Q X := by
  refine f_J14_copyOf_2 _ _ h ⟨⟨a0, n, f, rfl, hc⟩, ?_⟩
  refine f_J14_copyOf_3 _ _ _ h ⟨fun z => absurd rfl z, fun _ => ⟨m, rfl, by omega, hcr, fun a ha => ?_⟩⟩
  have hc2 : q_cell D (q_new h (1 + m / 4) a (c_ra 4 m fun _ => none)) a0 (c_ra 4 n f) := by
    rcases hc with hc | hc
    · exact Or.inl ((new_ne (fun z => by rw [← z, hc] at ha; cases ha)).trans hc)
    · exact Or.inr hc
  refine f_J14_copyOf_3_24 _ _ _ _ (aNr hc2 (by omega) ?_)
  have hmin : (if nI m < nI n then nI m else nI n) = nI n := if_neg (nI_nlt hn (by omega))
  rw [hmin]
  have hcl : (nI n).toNatClampNeg = n := nI_clamp (by omega)
  refine ⟨a0, n, f, a, m, _, rfl, rfl, hc2, new_self, by decide, by decide, nI_pos (by omega), ?_, ?_, fun i hi y hy => ?_, ?_⟩
  · rw [hcl]
    show 0 + n ≤ n
    omega
  · rw [hcl]
    show 0 + n ≤ m
    omega
  · rw [hcl] at hi
    have hy : f (0 + i) = some y := hy
    rw [Nat.zero_add] at hy
    obtain ⟨z, B, z1, z2, z3⟩ := hf i hi y hy
    exact ⟨z, B, Or.inl ((new_ne (fun w => by rw [← w, z1] at ha; cases ha)).trans z1), z2, z3⟩
  · rw [hcl]
    exact ⟨_, rfl, hQ a ha⟩
theorem j_growN {n arr : Nat} {V : Nat → Value} {f : Nat → Option Nat} (e1 : h.2 t = some (c_ob 6 V)) (hV1 : V 1 = .ref arr) (hV2 : V 2 = .int (nI n)) (e2 : h.2 arr = some (c_ra 4 n f)) (h10 : 10 ≤ n) (h64 : n ≤ 64) (hf : ∀ i, i < n → ∀ y, f i = some y → ∃ (z : qE) (B : String), h.2 y = some z ∧ q_nm z = some B ∧ Cond.castable B "java/lang/Object" ∈ lw_tbl) (hcr : 25 ≤ h.1) (hQ : ∀ a, h.2 a = none → Q (some (va_rf (some a))) (q_put (q_put (q_new h (1 + (n + n / 2) / 4) a (c_ra 4 (n + n / 2) (fun _ => none))) a (c_ra 4 (n + n / 2) (va_cpy f (fun _ => none) 0 0 n))) t (c_ob 6 (updV V 1 (va_rf (some a)))))) : MW D m_J2_grow [va_rf (some t)] h Q X := by
  refine f_J2_grow t h (gI e1 hV2 ⟨rcv e1 rfl, ?_⟩)
  have hL : L_J2_grow_2_20 D (fun v h1 => ∃ r, v = some (va_rf r) ∧ Q (some (va_rf r)) h1) X t (nI n + 1) (nI n) h := by
    refine f_J2_grow_2_20 _ _ _ h ?_
    rw [nI_1]
    refine j_newLength h10 h64 ⟨_, rfl, gR (x := some arr) e1 hV1 ?_⟩
    refine j_copyOf (Or.inl e2) (by omega) (by omega) hf (by omega) (fun a ha => ⟨_, rfl, ?_⟩)
    have hat : t ≠ a := fun z => by rw [← z, e1] at ha; cases ha
    exact pF ((put_ne hat).trans ((new_ne hat).trans e1)) ⟨_, rfl, hQ a ha⟩
  exact f_J2_grow_2 t _ h (gR (x := some arr) e1 hV1 (aNr (Or.inl e2) (by omega) ⟨fun _ => hL, fun z => absurd (by show nI 0 < nI n; exact nI_lt (by omega) (by omega)) z⟩))
theorem getD_app {l : List Nat} {y i d : Nat} : (l ++ [y]).getD i d = if i < l.length then l.getD i d else if i = l.length then y else d := by
  simp only [List.getD_eq_getElem?_getD, List.getElem?_append]
  by_cases h1 : i < l.length
  · simp [h1]
  · by_cases h2 : i = l.length
    · subst h2
      simp
    · have h3 : (i - l.length) ≠ 0 := by omega
      rw [if_neg h1, if_neg h1, if_neg h2]
      rw [List.getElem?_eq_none (by simp; omega)]
      rfl
theorem j_add (hD : q_DK D) (hc : h.2 t = some (c_ls k xs)) (ht : t ∉ xs) (hxt : x ≠ t) {z : qE} {B : String} (hx : h.2 x = some z) (hz : q_nm z = some B) (hB : Cond.castable B "java/lang/Object" ∈ lw_tbl) (hel : q_els h xs) (hl : xs.length ≤ 64) (hcr : 25 ≤ h.1) (hQ : ∀ c', h.1 ≤ c' + 25 → c' ≤ h.1 → Q (some (.int 1)) (c', (q_put h t (c_ls (k + 1) (xs ++ [x]))).2)) : MW D m_J2_add_2 [va_rf (some t), va_rf (some x)] h Q X := by
  refine MW_pre (q_open hc) fun h1 ho => MW_close ?_
  have hlen : (xs ++ [x]).length = xs.length + 1 := by simp
  rcases ho with ⟨rfl, rfl⟩ | ⟨arr, cap, f, h2, h3, h4, h5, h6, h7, rfl⟩
  · refine f_J2_add_2 t x _ (gI put_self rfl (pF put_self (gR (x := some (d_s D 0)) put_self rfl (gI (x := nI 0) put_self rfl ⟨rcv put_self rfl, ?_⟩))))
    refine f_J2_add_3 t x _ _ _ (aNr (Or.inr hD.1) (by omega) ⟨fun q => absurd rfl q, fun _ => ⟨rcv put_self rfl, ?_⟩⟩)
    refine j_grow0 hD put_self rfl rfl (by show 3 ≤ h.1; omega) (fun a ha => ⟨_, rfl, ?_⟩)
    have hat : a ≠ t := fun q => by subst q; rw [put_self] at ha; cases ha
    rw [put_ne hat, put_ne hat] at ha
    have hxa : x ≠ a := fun q => by rw [← q, hx] at ha; cases ha
    refine f_J2_add_3_11 t x _ _ _ ⟨a, 10, _, rfl, (put_ne hat).trans new_self, nI_in (by omega) (by omega), Or.inr ⟨x, z, B, rfl, Or.inl ((put_ne hxt).trans ((new_ne hxa).trans ((put_ne hxt).trans ((put_ne hxt).trans hx)))), hz, Or.inr hB⟩, ?_⟩
    refine pF ((put_ne (Ne.symm hat)).trans put_self) ⟨rfl, ?_⟩
    refine ⟨_, hQ (h.1 - 3) (by omega) (by omega), GS_list (xs := [] ++ [x]) (arr := a) (cap := 10) (f := va_up (fun _ => none) 0 (some x)) put_self rfl rfl rfl hat ((put_ne hat).trans put_self) (by simp) (by omega) (by omega) (fun i hi => ?_) (Nat.le_refl _) (fun b e hb => ?_)⟩
    · have : i = 0 := by have hi : i < 1 := hi; omega
      subst this
      rfl
    · by_cases hbt : b = t
      · subst hbt
        rw [put_self] at hb
        cases hb
        exact Or.inl ⟨rfl, rfl⟩
      · have hb : h.2 b = some e := (put_ne hbt).symm.trans hb
        have hba : b ≠ a := fun q => by rw [← q, hb] at ha; cases ha
        exact Or.inr ⟨hbt, hba, by rw [put_ne hbt, put_ne hba, put_ne hbt, new_ne hba, put_ne hbt, put_ne hbt]; exact hb⟩
  · have hxr : x ≠ arr := fun q => by rw [q, h3] at hx; cases hx
    have e1 : (q_put (q_put h t (c_ob 6 (q_lv k arr xs.length))) arr (c_ra 4 cap f)).2 t = some (c_ob 6 (q_lv k arr xs.length)) := (put_ne (Ne.symm h2)).trans put_self
    refine f_J2_add_2 t x _ (gI e1 rfl (pF e1 (gR (x := some arr) put_self rfl (gI (x := nI xs.length) put_self rfl ⟨rcv put_self rfl, ?_⟩))))
    have e2 := (put_ne (h := q_put (q_put h t (c_ob 6 (q_lv k arr xs.length))) arr (c_ra 4 cap f)) (e := c_ob 6 (updV (q_lv k arr xs.length) 0 (.int (k + 1)))) h2).trans (put_self (e := c_ra 4 cap f))
    refine f_J2_add_3 t x _ _ _ (aNr (Or.inl e2) (by omega) ⟨fun q => ?_, fun q => ⟨rcv put_self rfl, ?_⟩⟩)
    · have hlt : xs.length < cap := Nat.lt_of_le_of_ne h4 (fun z => q (by rw [z]))
      refine f_J2_add_3_11 t x _ _ _ ⟨arr, cap, f, rfl, e2, nI_in hlt (by omega), Or.inr ⟨x, z, B, rfl, Or.inl (by rw [put_ne hxt, put_ne hxr, put_ne hxt]; exact hx), hz, Or.inr hB⟩, ?_⟩
      rw [nI_clamp (by omega), nI_1]
      refine pF ((put_ne (Ne.symm h2)).trans put_self) ⟨rfl, ?_⟩
      refine ⟨_, hQ h.1 (by omega) (by omega), GS_list (arr := arr) (cap := cap) (f := va_up f xs.length (some x)) put_self rfl rfl (by rw [hlen]; rfl) h2 ((put_ne h2).trans put_self) (by rw [hlen]; omega) (by omega) (by omega) (fun i hi => ?_) (Nat.le_refl _) (fun b e hb => ?_)⟩
      · rw [hlen] at hi
        rw [getD_app]
        by_cases hi2 : i < xs.length
        · rw [if_pos hi2, ← h7 i hi2]
          simp [va_up, Nat.ne_of_lt hi2]
        · have : i = xs.length := by omega
          subst this
          simp [va_up]
      · by_cases hbt : b = t
        · subst hbt
          rw [put_self] at hb
          cases hb
          exact Or.inl ⟨rfl, rfl⟩
        · have hb : h.2 b = some e := (put_ne hbt).symm.trans hb
          have hba : b ≠ arr := fun q => by rw [← q, hb] at h3; cases h3
          exact Or.inr ⟨hbt, hba, by rw [put_ne hbt, put_ne hba, put_ne hbt, put_ne hba, put_ne hbt]; exact hb⟩
    · have hcap : xs.length = cap := (nI_eq (by omega) (by omega)).mp q
      subst hcap
      refine j_growN put_self rfl rfl e2 h5 hl (fun i hi y hy => ?_) (by show 25 ≤ h.1; omega) (fun a ha => ⟨_, rfl, ?_⟩)
      · rw [h7 i hi] at hy
        cases hy
        obtain ⟨z', B', z1, z2, z3⟩ := hel (xs.getD i 0) (by rw [List.getD_eq_getElem?_getD, List.getElem?_eq_getElem hi]; exact List.getElem_mem hi)
        have hyt : xs.getD i 0 ≠ t := fun w => ht (by rw [← w, List.getD_eq_getElem?_getD, List.getElem?_eq_getElem hi]; exact List.getElem_mem hi)
        have hyr : xs.getD i 0 ≠ arr := fun w => by rw [w, h3] at z1; cases z1
        exact ⟨z', B', by rw [put_ne hyt, put_ne hyr, put_ne hyt]; exact z1, z2, z3⟩
      · have hat : a ≠ t := fun w => by subst w; rw [put_self] at ha; cases ha
        rw [put_ne hat] at ha
        have har : a ≠ arr := fun w => by subst w; rw [put_self] at ha; cases ha
        rw [put_ne har, put_ne hat] at ha
        have hxa : x ≠ a := fun w => by rw [← w, hx] at ha; cases ha
        refine f_J2_add_3_11 t x _ _ _ ⟨a, xs.length + xs.length / 2, _, rfl, (put_ne hat).trans put_self, nI_in (by omega) (by omega), Or.inr ⟨x, z, B, rfl, Or.inl (by rw [put_ne hxt, put_ne hxa, new_ne hxa, put_ne hxt, put_ne hxr, put_ne hxt]; exact hx), hz, Or.inr hB⟩, ?_⟩
        rw [nI_clamp (by omega), nI_1]
        refine pF ((put_ne (Ne.symm hat)).trans put_self) ⟨rfl, ?_⟩
        refine ⟨_, hQ (h.1 - (1 + (xs.length + xs.length / 2) / 4)) (by omega) (by omega), GS_list (arr := a) (cap := xs.length + xs.length / 2) (f := va_up (va_cpy f (fun _ => none) 0 0 xs.length) xs.length (some x)) put_self rfl rfl (by rw [hlen]; rfl) hat ((put_ne hat).trans put_self) (by rw [hlen]; omega) (by omega) (by omega) (fun i hi => ?_) (Nat.le_refl _) (fun b e hb => ?_)⟩
        · rw [hlen] at hi
          rw [getD_app]
          by_cases hi2 : i < xs.length
          · rw [if_pos hi2, ← h7 i hi2]
            simp [va_up, va_cpy, Nat.ne_of_lt hi2, hi2]
          · have : i = xs.length := by omega
            subst this
            simp [va_up]
        · by_cases hbt : b = t
          · subst hbt
            rw [put_self] at hb
            cases hb
            exact Or.inl ⟨rfl, rfl⟩
          · have hb : h.2 b = some e := (put_ne hbt).symm.trans hb
            have hba : b ≠ a := fun q => by rw [← q, hb] at ha; cases ha
            have hbr : b ≠ arr := fun q => by rw [← q, hb] at h3; cases h3
            exact Or.inr ⟨hbt, hba, by rw [put_ne hbt, put_ne hba, put_ne hbt, put_ne hba, new_ne hba, put_ne hbt, put_ne hbr, put_ne hbt]; exact hb⟩
end LW
