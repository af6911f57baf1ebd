set_option maxRecDepth 100000
/-! the component: columns are filled -/
section FIL
variable {D : qD} {C : Nat → Nat} {xs : List Nat} {s s0 : mS} {g0 : qH} {W : mW} {v2 v : lV} {h : qH} {r ip i t g : Int} {x : mS} {Q : Option Value → qH → Prop} {X : String → qH → Prop}
theorem x_tops (hD : q_DK D) (hP : CP C xs s g0) (hT : TI s) (hH : LH (C 0) r g0 W v h) (h28 : 0 ≤ v.1.1 28 ∧ v.1.1 28 ≤ 400) (h22 : 0 ≤ v.1.1 22 ∧ v.1.1 22 ≤ 200) (ht : 0 ≤ t ∧ t < s.1 0) {p : Int32} (hp : p = zI t) {K : qH → Prop} (k9 : ∀ h', LH (C 0) r g0 W (lTops (canon s r) v t) h' → h'.1 = h.1 → K h') : recv D h (some (W.1 0)) RX5 ∧ c_V D m_X5_tops [va_rf (some (W.1 0)), .int p] h X K := by
  subst hp
  have hP' := hP.le hH.le
  have h64 := hT.1
  have hk := hT.tok ht.1 ht.2
  refine ⟨hH.lx.rc, f_X5_tops _ _ h (lf_used hH.lx (lf_this hH.lx (cp_story hP' (st_get hD hP' rfl ht.1 ht.2 (tk1 hP' ht.1 ht.2 (LH_F hH (Or.inr (Or.inl ⟨rfl, rfl⟩)) (by rw [zI_add]; rfl) (fun h2 H2 c2 => lf_colOf H2.lx (lf_cols H2.lx (LH_S H2 (Or.inr ⟨rfl, rfl⟩) rfl ht.1 (by omega) (by rw [zl_1, zI_sub]; rfl) (fun h3 H3 c3 => ⟨rfl, k9 h3 H3 (by rw [c3, c2])⟩))))))))))⟩
theorem x_tops20 (hD : q_DK D) (hP : CP C xs s g0) (hT : TI s) (hT0 : TI s0) (h0 : told s0 = told s) (hg : g ≤ 64) (hi : 0 ≤ ip ∧ ip ≤ 64) {K : qH → Prop} : ∀ (f : Nat) (v : lV) (x : mS) (h : qH), LH (C 0) r g0 W v h → CI s0 ip g x → RC s s0 v2 ip i t v x → RD s v x → (x.1 27 - x.1 26).toNat ≤ f → (∀ h', LH (C 0) r g0 W (lTopsAll (canon s r) f v) h' → h'.1 = h.1 → K h') → L_X5_begins_20 D (fun v h1 => v = none ∧ K h1) X (W.1 0) h := by
  have h64 := hT.1
  intro f
  induction f with
  | zero =>
    intro v x h hH hI hR hd hf k9
    have hnil : v.2 4 = [] := by rw [hR.2.2.1, wts_nil]; omega
    have hX := hH.lx
    have hlen := hH.1
    exact f_X5_begins_20 _ h (lf_wait hX (lb_isEmpty hD hX ⟨by omega, by omega⟩ (by omega) (by rw [hnil]; exact Nat.zero_lt_succ _) ⟨fun _ => ⟨rfl, k9 h hH rfl⟩, fun w => by rw [if_pos hnil] at w; exact absurd w (by decide)⟩))
  | succ f ih =>
    intro v x h hH hI hR hd hf k9
    have hX := hH.lx
    have hn0 := hH.1
    have hP' := hP.le hH.le
    have hj := hI.1.2.2.2.2.1
    have hlen : (v.2 4).length = (x.1 27 - x.1 26).toNat := by rw [hR.2.2.1, wts_len]
    have hc := RC_cond (r := r) h0 hI hR hd
    have e0 : s0.1 0 = s.1 0 := told_f h0 0 (by simp)
    have c9 : (canon s r).1 9 = s.1 9 := rfl
    have c2 : (canon s r).2 2 = s.2 2 := rfl
    unfold lTopsAll at k9
    by_cases hnil : v.2 4 = []
    · rw [if_neg (fun q => q.1 hnil)] at k9
      exact f_X5_begins_20 _ h (lf_wait hX (lb_isEmpty hD hX ⟨by omega, by omega⟩ (by omega) (by omega) ⟨fun _ => ⟨rfl, k9 h hH rfl⟩, fun w => by rw [if_pos hnil] at w; exact absurd w (by decide)⟩))
    obtain ⟨tt, ts, hcons⟩ : ∃ tt ts, v.2 4 = tt :: ts := by
      cases hv : v.2 4 with
      | nil => exact absurd hv hnil
      | cons a b => exact ⟨a, b, rfl⟩
    have hlt : x.1 26 < x.1 27 := by
      have : 0 < (v.2 4).length := by rw [hcons]; exact Nat.succ_pos _
      omega
    have htt : tt = x.2 25 (x.1 26) := by
      have := hR.2.2.1
      rw [hcons, wts_cons hlt] at this
      exact (List.cons.inj this).1
    have hw := hI.1.2.2.2.2.2.1 (x.1 26) (by omega) (by omega)
    rw [← htt, e0] at hw
    have hk := hT.tok hw.1 hw.2.1
    have hnum := hk.2.2.1
    have hd28 : v.1.1 28 = s.1 9 - x.1 28 := hd.1
    have hb28 := hI.2.1
    have h9 := hT.2.2.2.2.2.1
    have hb22 := hI.2.2.2.2.2
    have h30 := hI.2.2.2.1
    have h0v := hd.2.2.1
    rw [hcons] at k9
    have k9 : ∀ h', LH (C 0) r g0 W (if tt :: ts ≠ [] ∧ (v.1.1 28 = 0 ∨ v.1.1 28 + s.2 2 tt ≤ s.1 9) then lTopsAll (canon s r) f (lTops (canon s r) (lSet v 4 ts) tt) else v) h' → h'.1 = h.1 → K h' := k9
    have h88 : (v.1.1 28 = 0 ∨ v.1.1 28 + s.2 2 tt ≤ s.1 9) → L_X5_begins_88 D (fun v h1 => v = none ∧ K h1) X (W.1 0) h := by
      intro hcd
      rw [if_pos ⟨List.cons_ne_nil _ _, hcd⟩] at k9
      have hcx := hc.mp ⟨hnil, by rw [hcons]; exact hcd⟩
      obtain ⟨n1, n2, n3⟩ := RC_next (r := r) hT0 h0 hI hR hd hlt
      rw [hcons] at n1 n2
      obtain ⟨m1, m2, m3⟩ := CI_next hT0 hg hi hI hcx.1 hcx.2
      refine f_X5_begins_88 _ h (lf_wait hX (LH_rem hD hH hcons (fun h2 H2 c2 => x_tops hD hP hT H2 ⟨by show 0 ≤ v.1.1 28; omega, by show v.1.1 28 ≤ 400; omega⟩ ⟨by show 0 ≤ v.1.1 22; rw [hR.2.1]; omega, by show v.1.1 22 ≤ 200; rw [hR.2.1]; omega⟩ ⟨hw.1, hw.2.1⟩ rfl (fun h3 H3 c3 => ih _ _ h3 H3 m1 n1 n2 (by omega) (fun h4 H4 c4 => k9 h4 H4 (by rw [c4, c3, c2]))))))
    have hno : ¬ (v.1.1 28 = 0 ∨ v.1.1 28 + s.2 2 tt ≤ s.1 9) → K h := by
      intro hcd
      rw [if_neg (fun q => hcd q.2)] at k9
      exact k9 h hH rfl
    refine f_X5_begins_20 _ h (lf_wait hX (lb_isEmpty hD hX ⟨by omega, by omega⟩ (by omega) (by omega) ⟨fun w => by rw [if_neg hnil] at w; exact absurd rfl w, fun _ => lf_used hX ⟨fun w => h88 (Or.inl ?_), fun w => lf_used hX (lf_this hX (cp_story hP' (lf_wait hX (lb_get hD hX ⟨by omega, by omega⟩ (by omega) zl_0 (by omega) (by omega) ?_))))⟩⟩))
    · rw [zl_0, zI_eq (by omega) (by omega) (by omega) (by omega)] at w
      exact w
    · rw [zl_0, zI_eq (by omega) (by omega) (by omega) (by omega)] at w
      rw [hcons]
      show recv D h (some (C 1)) RJ2 ∧ c_R D m_J2_get [va_rf (some (C 1)), .int (zI tt)] h X _
      refine st_get hD hP' rfl hw.1 hw.2.1 (tk1 hP' hw.1 hw.2.1 (lf_this hX (cp_l hP' ⟨fun w2 => ⟨rfl, hno ?_⟩, fun w2 => h88 (Or.inr ?_)⟩)))
      · rw [zI_add, zI_lt (by omega) (by omega) (by omega) (by omega)] at w2
        omega
      · rw [zI_add, zI_lt (by omega) (by omega) (by omega) (by omega)] at w2
        omega
theorem x_begins (hD : q_DK D) (hP : CP C xs s g0) (hT : TI s) (hT0 : TI s0) (h0 : told s0 = told s) (hg : g ≤ 64) (hi : 0 ≤ ip ∧ ip ≤ 64) (hH : LH (C 0) r g0 W v h) (hJ : CJ s0 ip g x) (h22 : 0 ≤ x.1 22 ∧ x.1 22 ≤ ip + (g - (x.1 27 - x.1 26))) (hR : RC s s0 v2 ip i t v x) {K : qH → Prop} (k9 : ∀ h', LH (C 0) r g0 W (lBeg (canon s r) v) h' → h'.1 = h.1 → K h') : recv D h (some (W.1 0)) RX5 ∧ c_V D m_X5_begins [va_rf (some (W.1 0))] h X K := by
  obtain ⟨b1, b2, -, -⟩ := RC_beg (r := r) hT0 h0 hg hi hJ h22 hR
  have hlen : (v.2 4).length = (x.1 27 - x.1 26).toNat := by rw [hR.2.2.1, wts_len]
  have hj := hJ.2.2.2.2.1
  have h22v := hR.2.1
  refine ⟨hH.lx.rc, f_X5_begins _ h (lf_cols hH.lx (LH_F hH (Or.inl ⟨rfl, rfl⟩) (by rw [zl_1, zI_add]) (fun h2 H2 c2 => LH_F H2 (Or.inr (Or.inl ⟨rfl, rfl⟩)) zl_0 (fun h3 H3 c3 => LH_F H3 (Or.inr (Or.inr (Or.inl ⟨rfl, rfl⟩))) zl_0 (fun h4 H4 c4 => ?_)))))⟩
  refine x_tops20 hD hP hT hT0 h0 hg hi (v.2 4).length _ _ h4 H4 (CI_beg0 hT0 hg hi hJ h22) b1 b2 (by rw [hlen]; exact Nat.le_refl _) (fun h5 H5 c5 => k9 h5 H5 (by rw [c5, c4, c3, c2]))
theorem lFig_len {k : mS} {v : lV} {t : Int} : (v.2 4).length ≤ ((lFig k v t).2 4).length := by
  unfold lFig
  split
  · exact Nat.le_refl _
  · show (v.2 4).length ≤ (v.2 4 ++ [t]).length
    rw [List.length_append]
    omega
theorem lFigs_len {k : mS} : ∀ (F : List Int) (v : lV), (v.2 4).length ≤ ((F.foldl (lFig k) v).2 4).length
  | [], v => Nat.le_refl _
  | t :: F, v => Nat.le_trans lFig_len (lFigs_len F (lFig k v t))
theorem lFig_o {k : mS} {v : lV} {t : Int} : (lFig k v t).1.1 14 = v.1.1 14 ∧ (lFig k v t).1.1 22 = v.1.1 22 ∧ (∀ j, j ≠ 4 → (lFig k v t).2 j = v.2 j) := by
  unfold lFig
  split
  · exact ⟨rfl, rfl, fun _ _ => rfl⟩
  · refine ⟨rfl, rfl, fun j hj => ?_⟩
    show (if j = 4 then _ else v.2 j) = v.2 j
    rw [if_neg hj]
theorem x_figs (hD : q_DK D) (hP : CP C xs s g0) (hT : TI s) {z : Int} {K : qH → Prop} (F : List Int) (hF : ∀ u, u ∈ F → 0 ≤ u ∧ u < s.1 0 ∧ s.2 1 u = 4) (h64F : F.length ≤ 64) : ∀ (F' : List Int) (j : Nat) (v : lV) (h : qH), F.drop j = F' → j + F'.length = F.length → v.2 (7 + 3 * z.toNat) = F → 0 ≤ z → z < v.1.1 14 → (0 ≤ v.1.1 28 ∧ v.1.1 28 ≤ 400) → (0 ≤ v.1.1 22 ∧ v.1.1 22 ≤ 200) → ((F'.foldl (lFig (canon s r)) v).2 4).length ≤ 64 → 26 * F'.length ≤ h.1 → v.1.1 14 ≤ 64 → LH (C 0) r g0 W v h → (∀ h', LH (C 0) r g0 W (F'.foldl (lFig (canon s r)) v) h' → h.1 ≤ h'.1 + 26 * F'.length → L_X5_fills_2 D (fun v h1 => v = none ∧ K h1) X (W.1 0) (zI (z + 1)) h') → L_X5_fills_112 D (fun v h1 => v = none ∧ K h1) X (W.1 0) (zI z) (some (W.1 (5 + 3 * z.toNat))) (zI j) h := by
  have h64 := hT.1
  have h9 := hT.2.2.2.2.2.1
  intro F'
  induction F' with
  | nil =>
    intro j v h hdr hj hvF hz0 hz1 h28 h22 hfl hcr h14 hH k9
    have hX := hH.lx
    have hj : j + 0 = F.length := hj
    refine f_X5_fills_112 _ _ _ _ h (li2 hX hz0 hz1 (lb_size hD hX (k := 7 + 3 * z.toNat) ⟨by omega, by omega⟩ (by omega) ⟨fun _ => ?_, fun w => ?_⟩))
    · rw [zl_1, zI_add]
      exact k9 h hH (by omega)
    · rw [hvF, zI_le (by omega) (by omega) (by omega) (by omega)] at w
      omega
  | cons tt F' ih =>
    intro j v h hdr hj hvF hz0 hz1 h28 h22 hfl hcr h14 hH k9
    have hX := hH.lx
    have hP' := hP.le hH.le
    have hj : j + (F'.length + 1) = F.length := hj
    have hcr : 26 * (F'.length + 1) ≤ h.1 := hcr
    have hget : F[j]? = some tt := by
      have := congrArg (fun l => l[0]?) hdr
      simpa using this
    have hat : F.getD j 0 = tt := by rw [List.getD_eq_getElem?_getD, hget]; rfl
    have htF : tt ∈ F := List.mem_of_getElem? hget
    obtain ⟨t0, t1, tk⟩ := hF tt htF
    have hk := hT.tok t0 t1
    have hnum := hk.2.2.2.1 (Or.inr (Or.inr (Or.inl tk)))
    have hn9 := hk.2.2.1
    have hdr' : F.drop (j + 1) = F' := by
      have := congrArg List.tail hdr
      rw [List.tail_drop] at this
      exact this
    obtain ⟨o1, o2, o3⟩ := lFig_o (k := canon s r) (v := v) (t := tt)
    have hlt4 : (v.2 4).length ≤ 64 := Nat.le_trans (Nat.le_trans lFig_len (lFigs_len F' (lFig (canon s r) v tt))) hfl
    have h214 : ∀ h2 : qH, LH (C 0) r g0 W (lFig (canon s r) v tt) h2 → (0 ≤ (lFig (canon s r) v tt).1.1 28 ∧ (lFig (canon s r) v tt).1.1 28 ≤ 400) → h.1 ≤ h2.1 + 26 → L_X5_fills_214 D (fun v h1 => v = none ∧ K h1) X (W.1 0) (zI z) (some (W.1 (5 + 3 * z.toNat))) (zI j) h2 := by
      intro h2 H2 b28 c2
      refine f_X5_fills_214 _ _ _ _ h2 ?_
      rw [zl_1, zI_add]
      refine ih (j + 1) _ h2 hdr' (by omega) ?_ hz0 (by rw [o1]; exact hz1) b28 (by rw [o2]; exact h22) hfl (by omega) (by rw [o1]; exact h14) H2 (fun h3 H3 c3 => k9 h3 H3 (by show h.1 ≤ h3.1 + 26 * (F'.length + 1); omega))
      rw [o3 _ (by omega)]
      exact hvF
    have c9 : (canon s r).1 9 = s.1 9 := rfl
    have c2 : (canon s r).2 2 tt = s.2 2 tt := rfl
    have h199 : ¬ (v.2 4 = [] ∧ v.1.1 28 + s.2 2 tt ≤ s.1 9) → L_X5_fills_199 D (fun v h1 => v = none ∧ K h1) X (W.1 0) (zI z) (some (W.1 (5 + 3 * z.toNat))) (zI j) (zI tt) h := by
      intro hc
      have ef : lFig (canon s r) v tt = lAdd v 4 tt := if_neg hc
      rw [ef] at h214
      exact f_X5_fills_199 _ _ _ _ _ h (lf_wait hX (LH_add hD hH ⟨by omega, by omega⟩ (by omega) ⟨by omega, by omega⟩ rfl hlt4 (by omega) (fun h2 H2 c2 => h214 h2 H2 h28 c2)))
    refine f_X5_fills_112 _ _ _ _ h (li2 hX hz0 hz1 (lb_size hD hX (k := 7 + 3 * z.toNat) ⟨by omega, by omega⟩ (by omega) ⟨fun w => ?_, fun w => li2 hX hz0 hz1 (lb_get hD hX ⟨by omega, by omega⟩ (by omega) rfl (by omega) (by rw [hvF]; omega) ?_)⟩))
    · rw [hvF, zI_le (by omega) (by omega) (by omega) (by omega)] at w
      omega
    · rw [hvF, Int.toNat_natCast, hat]
      refine lf_wait hX (lb_isEmpty hD hX ⟨by omega, by omega⟩ (by omega) (by omega) ⟨fun w => h199 (fun q => ?_), fun w => lf_used hX (lf_this hX (cp_story hP' (st_get hD hP' rfl t0 t1 (tk1 hP' t0 t1 (lf_this hX (cp_l hP' ⟨fun w2 => h199 (fun q => ?_), fun w2 => x_tops hD hP hT hH h28 h22 ⟨t0, t1⟩ rfl (fun h2 H2 c9 => h214 h2 ?_ ?_ (by omega))⟩))))))⟩)
      · rw [if_pos q.1] at w
        exact absurd w (by decide)
      · rw [zI_add, zI_lt (by omega) (by omega) (by omega) (by omega)] at w2
        omega
      · rw [zI_add, zI_lt (by omega) (by omega) (by omega) (by omega)] at w2
        have ef : lFig (canon s r) v tt = lTops (canon s r) v tt := if_pos ⟨by
          by_cases q : v.2 4 = []
          · exact q
          · rw [if_neg q] at w
            exact absurd rfl w, by rw [c2]; show _ ≤ s.1 9; omega⟩
        rw [ef]
        exact H2
      · rw [zI_add, zI_lt (by omega) (by omega) (by omega) (by omega)] at w2
        have ef : lFig (canon s r) v tt = lTops (canon s r) v tt := if_pos ⟨by
          by_cases q : v.2 4 = []
          · exact q
          · rw [if_neg q] at w
            exact absurd rfl w, by rw [c2]; show _ ≤ s.1 9; omega⟩
        rw [ef]
        show 0 ≤ v.1.1 28 + (canon s r).2 2 tt ∧ v.1.1 28 + (canon s r).2 2 tt ≤ 400
        rw [c2]
        omega
end FIL
