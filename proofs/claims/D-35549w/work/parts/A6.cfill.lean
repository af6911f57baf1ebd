set_option maxRecDepth 100000
/-! the component: columns are filled, the loops -/
section FLP
variable {D : qD} {C : Nat → Nat} {xs : List Nat} {s s0 : mS} {g0 : qH} {W : mW} {v2 v : lV} {h : qH} {r ip i t g : Int} {x : mS} {Q : Option Value → qH → Prop} {X : String → qH → Prop}
theorem LZ_of (hL : LL s0) (h1 : R1 s v2 s0) (hB : RB v2 v) : LZ v := by
  have e14 : v.1.1 14 = s0.1 14 := hB.1.trans h1.1
  refine ⟨by rw [e14]; exact hL.1, fun j a b => ?_⟩
  rw [e14] at b ⊢
  obtain ⟨-, -, q3, -⟩ := h1
  have q := q3 j a b
  rw [hB.2.1 18 (by omega) (by omega), hB.2.1 19 (by omega) (by omega), hB.2.1 21 (by omega) (by omega), q.1, q.2.1, q.2.2]
  obtain ⟨l1, l2, l3, l4⟩ := hL.2 j a b
  exact ⟨l1, l2, by omega⟩
theorem x_while (hD : q_DK D) (hP : CP C xs s g0) (hT : TI s) (hT0 : TI s0) (h0 : told s0 = told s) (hL : LL s0) (h1 : R1 s v2 s0) (hg : 0 ≤ g ∧ g ≤ 64) (hi : 0 ≤ ip ∧ ip < s0.1 14) {o : Option Nat} {K : qH → Prop} : ∀ (f : Nat) (v : lV) (x : mS) (h : qH), LH (C 0) r g0 W v h → CI s0 ip g x → RC s s0 v2 ip i t v x → RD s v x → (x.1 30 = 0 ∨ (x.1 27 - x.1 26) + 1 ≤ f) → (∀ h', LH (C 0) r g0 W (lWhile (canon s r) ip f v) h' → h'.1 = h.1 → L_X5_fills_78 D (fun v h1 => v = none ∧ K h1) X (W.1 0) (zI ip) o h') → L_X5_fills_40 D (fun v h1 => v = none ∧ K h1) X (W.1 0) (zI ip) o h := by
  have hl := hL.1
  have h9 := hT.2.2.2.2.2.1
  intro f
  induction f with
  | zero =>
    intro v x h hH hI hR hd hm k9
    have h28 := hd.2.2.2.1
    have hj := hI.1.2.2.2.2.1
    have h0v : v.1.1 28 = 0 := h28 (by omega)
    refine f_X5_fills_40 _ _ _ h (lf_used hH.lx ⟨fun _ => k9 h hH rfl, fun w => ?_⟩)
    rw [h0v] at w
    exact absurd (by decide) w
  | succ f ih =>
    intro v x h hH hI hR hd hm k9
    have hX := hH.lx
    have hP' := hP.le hH.le
    have hZ := LZ_of hL h1 hR.1
    have e14 : v.1.1 14 = s0.1 14 := hR.1.1.trans h1.1
    have hj := hI.1.2.2.2.2.1
    have hb28 := hI.2.1
    have hb22 := hI.2.2.2.2.2
    have h30 := hI.2.2.2.1
    have h29 := hI.2.2.1
    obtain ⟨d1, d2, d3, d4, d5⟩ := hd
    have hnb := mNeeds_bd (LL_of hL hI.1) (i := ip) (b := x.1 29) hi.1 (by rw [hI.1.2.2.1]; exact hi.2)
    have htb := mTakes_bd (LL_of hL hI.1) (i := ip) (b := x.1 29) hi.1 (by rw [hI.1.2.2.1]; exact hi.2)
    have hne := needs_eq hL h1 hI.1 hR.1 (b := x.1 29) hi.1 hi.2
    have c9 : (canon s r).1 9 = s.1 9 := rfl
    unfold lWhile at k9
    rw [c9] at k9
    refine f_X5_fills_40 _ _ _ h (lf_used hX ⟨fun w => ?_, fun w => lf_used hX (lf_has hX (x_needs hD hZ hX hi.1 (by omega) (b := v.1.1 29) (by rw [d2]; exact bd01 h29) rfl rfl (lf_this hX (cp_l hP' ⟨fun w2 => ?_, fun w2 => ?_⟩))))⟩)
    · rw [zl_0, zI_le (by omega) (by omega) (by omega) (by omega)] at w
      rw [if_neg (fun q => by omega)] at k9
      exact k9 h hH rfl
    · rw [d2, hne] at w2
      rw [zI_add, zI_le (by omega) (by omega) (by omega) (by omega)] at w2
      rw [if_neg (fun q => by rw [d2, hne] at q; omega)] at k9
      exact k9 h hH rfl
    · rw [zl_0, zI_le (by omega) (by omega) (by omega) (by omega)] at w
      rw [d2, hne] at w2
      rw [zI_add, zI_le (by omega) (by omega) (by omega) (by omega)] at w2
      rw [if_pos (by rw [d2, hne]; omega)] at k9
      have hx30 : x.1 30 = 1 := by
        rcases h30 with q | q
        · have := d4 q; omega
        · exact q
      obtain ⟨-, -, b1, b2⟩ := RC_beg (r := r) hT0 h0 hg.2 ⟨hi.1, by omega⟩ hI.1 ⟨by omega, by omega⟩ hR
      obtain ⟨c1, c2, c3, c4, c5⟩ := CI_beg hT0 hg.2 ⟨hi.1, by omega⟩ hI.1 (by omega)
      refine x_begins hD hP hT hT0 h0 hg.2 ⟨hi.1, by omega⟩ hH hI.1 (by omega) hR (fun h2 H2 e2 => ih _ _ h2 H2 c1 b1 b2 ?_ (fun h3 H3 e3 => k9 h3 H3 (e3.trans e2)))
      by_cases q : x.1 26 < x.1 27
      · have := c4 q
        exact Or.inr (by omega)
      · exact Or.inl (c5 (by omega))
theorem fFg_len (h0 : told s0 = told s) (hT : TI s) {n : Nat} : ∀ T : Nat, (T : Int) ≤ s.1 0 → mG s0 n T = mG s0 n 0 + ((fFg (s.2 1) (s0.2 15) n T).length : Nat)
  | 0, _ => by show mG s0 n 0 = mG s0 n 0 + ((0 : Nat) : Int); omega
  | T + 1, hT1 => by
    have ih := fFg_len h0 hT (n := n) T (by omega)
    have e0 : s0.1 0 = s.1 0 := told_f h0 0 (by simp)
    have e1 : s0.2 1 = s.2 1 := told_a h0 1 (by omega)
    rw [fFg_succ (g := s0.2 15) (fun _ _ _ => rfl)]
    by_cases hc : s.2 1 T = 4 ∧ s0.2 15 T = n
    · have h9 := mG_yes (s0 := s0) (i := (n : Int)) (t := (T : Int)) (by omega) (by omega) (by rw [e1]; exact hc.1) hc.2
      rw [if_pos hc, List.length_append]
      show mG s0 n ((T : Int) + 1) = mG s0 n 0 + (((fFg (s.2 1) (s0.2 15) n T).length + 1 : Nat) : Int)
      omega
    · have h9 := mG_no (s0 := s0) (i := (n : Int)) (t := (T : Int)) (by rw [e1]; exact hc)
      rw [if_neg hc]
      show mG s0 n ((T : Int) + 1) = _
      omega
theorem fFg_in {kd gg : Int → Int} {n : Int} {T : Nat} {u : Int} (h : u ∈ fFg kd gg n T) : 0 ≤ u ∧ u < T ∧ kd u = 4 := by
  unfold fFg at h
  obtain ⟨w, hw, rfl⟩ := List.mem_map.mp h
  obtain ⟨h1, h2⟩ := List.mem_filter.mp hw
  have h1 := List.mem_range.mp h1
  have h2 := of_decide_eq_true h2
  exact ⟨by omega, by omega, h2.1⟩
theorem x_line (hD : q_DK D) (hP : CP C xs s g0) (hT : TI s) (hT0 : TI s0) (h0 : told s0 = told s) (hL : LL s0) (h1 : R1 s v2 s0) {n : Nat} (hn : (n : Int) < s0.1 14) (hI : CI s0 n (mG s0 n 0) x) (hR : RC s s0 v2 n n 0 v x) (hd : RD s v x) (hH : LH (C 0) r g0 W v h) {K : qH → Prop} (hcr : 26 * (mG s0 ((n : Int) + 1) 0 - mG s0 n 0) ≤ h.1) (k9 : ∀ h', LH (C 0) r g0 W ((v.2 (7 + 3 * n)).foldl (lFig (canon s r)) (lPlace (lWhile (canon s r) n 130 v) n)) h' → (h.1 : Int) ≤ h'.1 + 26 * (mG s0 ((n : Int) + 1) 0 - mG s0 n 0) → L_X5_fills_2 D (fun v h1 => v = none ∧ K h1) X (W.1 0) (zI ((n : Int) + 1)) h') : L_X5_fills_40 D (fun v h1 => v = none ∧ K h1) X (W.1 0) (zI n) (some (W.1 (5 + 3 * (n : Int).toNat))) h := by
  have h64 := hT0.1
  have hl := hL.1
  have e0 : s0.1 0 = s.1 0 := told_f h0 0 (by simp)
  have h9 := hT.2.2.2.2.2.1
  have hgb := mG_bd (s0 := s0) h64.1 (i := (n : Int)) (t := 0)
  have hgb1 := mG_bd (s0 := s0) h64.1 (i := (n : Int) + 1) (t := 0)
  have hj := hI.1.2.2.2.2.1
  obtain ⟨w1, w2, w3⟩ := mWhile_ok hT0 hL ⟨hgb.1, by omega⟩ ⟨by omega, by omega⟩ 130 x hI (Or.inr (by omega))
  obtain ⟨a1, a2⟩ := RC_while (r := r) hT0 h0 hL h1 ⟨hgb.1, by omega⟩ ⟨by omega, hn⟩ 130 v x hI hR hd
  obtain ⟨b1, b2⟩ := RC_place hT0 h0 hL h1 ⟨by omega, hn⟩ w1 a1 a2
  obtain ⟨p1, p2⟩ := CI_place hT0 hL ⟨by omega, hn⟩ w1 w3
  obtain ⟨l1, l2⟩ := RC_line (r := r) hT hT0 h0 hL h1 hn hI hR hd
  obtain ⟨q1, q2⟩ := CI_line hT0 hL ⟨by omega, hn⟩ hI
  have hlen := fFg_len (n := n) h0 hT (s.1 0).toNat (by omega)
  rw [Int.toNat_of_nonneg (by omega), ← e0, mG_end h64.1] at hlen
  have hvF : ∀ {v' : lV}, RB v2 v' → v'.2 (7 + 3 * n) = fFg (s.2 1) (s0.2 15) n (s0.1 0).toNat := fun hB => by
    rw [hB.2.2 _ (by omega), e0]
    exact h1.2.2.2.2.1 n hn
  refine x_while hD hP hT hT0 h0 hL h1 ⟨hgb.1, by omega⟩ ⟨by omega, hn⟩ 130 v x h hH hI hR hd (Or.inr (by omega)) (fun h2 H2 c2 => ?_)
  have hv : (lWhile (canon s r) n 130 v).2 (7 + 3 * n) = v.2 (7 + 3 * n) := (hvF a1.1).trans (hvF hR.1).symm
  have hZ := LZ_of hL h1 a1.1
  have e14 : (lWhile (canon s r) n 130 v).1.1 14 = s0.1 14 := a1.1.1.trans h1.1
  have htb := mTakes_bd (LL_of hL w1.1) (i := n) (b := (mWhile n 130 x).1 29) (by omega) (by rw [w1.1.2.2.1]; exact hn)
  have hte := takes_eq h1 w1.1 a1.1 (j := n) (b := (lWhile (canon s r) n 130 v).1.1 29) (by omega) hn
  have hbb := w1.2.1
  have hb28 := a2.1
  have h29 := w1.2.2.1
  have hb22 := w1.2.2.2.2.2
  have hb30 := w1.2.2.2.1
  have hp28 := p1.2.1
  have hpb := b2.1
  have hpw := w1.1.2.2.2.2.1
  have hq := q1.1.2.2.2.2.1
  have hl3 := l1.2.2.1
  have h22 := a1.2.1
  have hp0 := b2.2.2.1
  generalize lWhile (canon s r) n 130 v = v' at *
  generalize mWhile n 130 x = x' at *
  refine f_X5_fills_78 _ _ _ h2 (lf_used H2.lx (lf_has H2.lx (x_takes hZ H2.lx (by omega) (by omega) (b := v'.1.1 29) (by rw [a2.2.1]; exact bd01 h29) rfl (LH_F H2 (Or.inr (Or.inl ⟨rfl, rfl⟩)) (by rw [zI_add]) (fun h3 H3 c3 => LH_F H3 (Or.inr (Or.inr (Or.inl ⟨rfl, rfl⟩))) zl_1 (fun h4 H4 c4 => lf_cols H4.lx (LH_L H4 (Or.inr (Or.inr (Or.inr ⟨rfl, rfl⟩))) (by omega) (by show (n : Int) < v'.1.1 14; omega) (by rw [zl_1, zI_sub]) (fun h5 H5 c5 => ?_))))))))
  have H5 : LH (C 0) r g0 W (lPlace v' n) h5 := H5
  rw [← hv] at k9 hl3
  have hFe := hvF a1.1
  have hc5 : h5.1 = h.1 := by rw [c5, c4, c3, c2]
  refine x_figs hD hP hT (v'.2 (7 + 3 * n)) (fun u hu => ?_) (by rw [hFe]; omega) (v'.2 (7 + 3 * n)) 0 (lPlace v' n) h5 rfl (by omega) (by rw [Int.toNat_natCast]; rfl) (by omega) (by show (n : Int) < v'.1.1 14; omega) ⟨hp0, by omega⟩ ⟨by show 0 ≤ v'.1.1 22; omega, by show v'.1.1 22 ≤ 200; omega⟩ (by rw [hl3, wts_len]; omega) (by rw [hFe, hc5]; omega) (by show v'.1.1 14 ≤ 64; omega) H5 (fun h6 H6 c6 => k9 h6 H6 (by rw [hFe] at c6; omega))
  rw [hFe] at hu
  have := fFg_in hu
  exact ⟨this.1, by omega, this.2.2⟩
end FLP
