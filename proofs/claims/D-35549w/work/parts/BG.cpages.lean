set_option maxRecDepth 100000
/-! the component: the pages of a term, made -/
section CPH
variable {D : qD} {C : mW} {xs : List Nat} {s : mS} {ks : List (List mR3)} {h : qH} {X : String → qH → Prop} {r m : Int} {A : Nat → Nat}
theorem lPage_mono (hT : TI s) (hB : MB s) (hr : 0 ≤ r ∧ r < 4) {i j : Int} (h0 : 0 ≤ i) (h1 : i ≤ j) (h2 : j < (lLay s r).1.1 14) (h23 : (lLay s r).1.1 23 ≠ -1) : lPage s r i ≤ lPage s r j := by
  obtain ⟨e14, -, e17, -⟩ := RF_lay hT hB hr
  have hm := mono_lay hB hT hr h0 h1 (by omega)
  have ei := (e17 i h0 (by omega)).2.2.2
  have ej := (e17 j (by omega) (by omega)).2.2.2
  rw [(lPage_bd hT hB hr h0 (by omega) h23).2.2, (lPage_bd hT hB hr (by omega) h2 h23).2.2]
  unfold lPg
  rw [ei, ej]
  have h10 : 1 ≤ s.1 10 ∧ s.1 10 ≤ 2 := hT.2.2.2.2.2.2.1
  have : s.1 10 = 1 ∨ s.1 10 = 2 := by omega
  rcases this with q | q <;> rw [q] <;> omega
theorem x_pagesOf (hD : q_DK D) (hT : TI s) (hB : MB s) {C : Nat → Nat} (hP : CP C xs s h) (hX : LX A (C 0) r (lLay s r) h) (hr : 0 ≤ r ∧ r < 4) (hm : 0 ≤ m ∧ m < 10) {p : Int32} (hp : p = zI m) (hcr : 1700 ≤ h.1) {K : Option Nat → qH → Prop} (k9 : ∀ a h' L, PB h a L h' → h.1 ≤ h'.1 + 1700 → ((lLay s r).1.1 23 = -1 → L = []) → ((lLay s r).1.1 23 ≠ -1 → L.length ≤ 64 ∧ L.Pairwise (· < ·) ∧ ∀ q : Int, q ∈ L ↔ ∃ u : Int, 0 ≤ u ∧ u < s.1 0 ∧ lMk s r m u = true ∧ lPage s r ((lLay s r).1.2 15 u) = q) → K (some a) h') : recv D h (some (C 0)) RX1 ∧ c_R D m_X1_pagesOf [va_rf (some (C 0)), va_rf (some (A 0)), .int p] h X K := by
  subst hp
  have h64 := hT.1
  have hRF := RF_lay hT hB hr
  have hCH := CH_lay hB hT hr
  have e0 : (mLay s r).1 0 = s.1 0 := told_f (told_lay hB hT hr) 0 (by simp)
  have hb15 : ∀ u : Int, 0 ≤ u → u < s.1 0 → -1 ≤ (lLay s r).1.2 15 u ∧ (lLay s r).1.2 15 u < (lLay s r).1.1 14 := fun u b0 b1 => by
    rw [hRF.2.1 u b0 b1, hRF.1]
    have h9 := hCH.2 u b0 (by omega)
    exact h9
  obtain ⟨-, -, -, -, -, -, -, hZ, hC, h22, h23⟩ := hRF
  have hn := hZ.1
  have hrc : recv D h (some (C 0)) RX1 := by
    obtain ⟨⟨V, a, -⟩, -⟩ := hP
    exact rcv a rfl
  refine ⟨hrc, f_X1_pagesOf _ _ _ h ⟨by show 1 ≤ h.1; omega, fun a1 ha1 => j_init new_self rfl ⟨rfl, ?_⟩⟩⟩
  have l1 : q_le h (q_put (q_new h (1 + 3 / 4) a1 (c_ob 6 (fun k => defaultValue (tyJ2 k)))) a1 (c_ls 0 [])) := (q_le.rf.new ha1).put ha1
  have hPB0 : PB h a1 [] (q_put (q_new h (1 + 3 / 4) a1 (c_ob 6 (fun k => defaultValue (tyJ2 k)))) a1 (c_ls 0 [])) := ⟨l1, ha1, 0, [], put_self, rfl, fun i hi => absurd hi (Nat.not_lt_zero _)⟩
  have hc0 : (q_put (q_new h (1 + 3 / 4) a1 (c_ob 6 (fun k => defaultValue (tyJ2 k)))) a1 (c_ls 0 [])).1 = h.1 - 1 := rfl
  generalize q_put (q_new h (1 + 3 / 4) a1 (c_ob 6 (fun k => defaultValue (tyJ2 k)))) a1 (c_ls 0 []) = h1 at *
  have hX1 := hX.le l1
  refine lf_front hX1 ⟨fun w => lf_lines hX1 (ln_size hD hX1 (f_X1_pagesOf_29 _ _ _ _ _ h1 ?_)), fun w => f_X1_pagesOf_29 _ _ _ _ _ h1 (f_X1_pagesOf_34 _ _ _ _ _ _ h1 ⟨fun _ => ⟨_, rfl, ?_⟩, fun w => absurd (by decide) w⟩)⟩
  · rw [zl_m1, zI_eq (by omega) (by omega) (by omega) (by omega)] at w
    -- the two loops
    have h34 : ∀ (j n : Nat) (L : List Int) (h3 : qH), n + j = ((lLay s r).1.1 14).toNat → PB h a1 L h3 → PGs s r m n 0 L → L.length ≤ n → h.1 ≤ h3.1 + 1 + 26 * L.length → L_X1_pagesOf_34 D (fun v h1 => ∃ r : Option Nat, v = some (va_rf r) ∧ K r h1) X (C 0) (A 0) (zI m) (some a1) (zI ((lLay s r).1.1 14)) (zI n) h3 := by
      intro j
      induction j with
      | zero =>
        intro n L h3 hn3 hPB hPG hlL c3
        refine f_X1_pagesOf_34 _ _ _ _ _ _ h3 ⟨fun _ => ⟨_, rfl, k9 a1 h3 L hPB (by omega) (fun q => absurd q w) (fun _ => ⟨by omega, hPG.1, fun q => (hPG.2.1 q).trans ⟨?_, ?_⟩⟩)⟩, fun w2 => ?_⟩
        · rintro ⟨u, u0, u1, u2, u3, u4⟩
          exact ⟨u, u0, u1, u2, u4⟩
        · rintro ⟨u, u0, u1, u2, u4⟩
          exact ⟨u, u0, u1, u2, by have := hb15 u u0 u1; omega, u4⟩
        · rw [zI_le (by omega) (by omega) (by omega) (by omega)] at w2
          omega
      | succ j ih =>
        intro n L h3 hn3 hPB hPG hlL c3
        have hlp := lPage_bd hT hB hr (i := (n : Int)) (by omega) (by omega) w
        have hmono : ∀ u : Int, 0 ≤ u → u < s.1 0 → lMk s r m u = true → (lLay s r).1.2 15 u ≤ n → lPage s r ((lLay s r).1.2 15 u) ≤ lPage s r n := fun u u0 u1 u2 u3 => by
          have := hb15 u u0 u1
          have := (of_decide_eq_true u2).2.1
          exact lPage_mono hT hB hr (by omega) u3 (by omega) w
        have h44 : ∀ (j2 t : Nat) (L : List Int) (h4 : qH), t + j2 = (s.1 0).toNat → PB h a1 L h4 → PGs s r m n t L → h.1 ≤ h4.1 + 1 + 26 * L.length → L_X1_pagesOf_44 D (fun v h1 => ∃ r : Option Nat, v = some (va_rf r) ∧ K r h1) X (C 0) (A 0) (zI m) (some a1) (zI ((lLay s r).1.1 14)) (zI n) (zI t) h4 := by
          intro j2
          induction j2 with
          | zero =>
            intro t L h4 ht hPB4 hPG4 c4
            have hP4 := hP.le hPB4.1
            have hl4 : L.length ≤ n + 1 := by have := hPG4.2.2; omega
            refine f_X1_pagesOf_44 _ _ _ _ _ _ _ h4 (cp_story hP4 (st_size hD hP4 ⟨fun _ => ?_, fun w2 => ?_⟩))
            · rw [zl_1, zI_add]
              exact ih (n + 1) L h4 (by omega) hPB4 (PG_line (by omega) hPG4) hl4 c4
            · rw [zI_le (by omega) (by omega) (by omega) (by omega)] at w2
              omega
          | succ j2 ih2 =>
            intro t L h4 ht hPB4 hPG4 c4
            have hP4 := hP.le hPB4.1
            have hX4 := hX.le hPB4.1
            have hl4 : L.length ≤ n + 1 := by have := hPG4.2.2; omega
            have hk := hT.tok (t := (t : Int)) (by omega) (by omega)
            have hk1 := hk.1
            have hk2 := hk.2.2.1
            have h15 := hb15 t (by omega) (by omega)
            have hlb := mRootS_bd hT 10 (s.2 2 t) ⟨hk2.1, by omega⟩
            have hlb : 0 ≤ mLast s (s.2 2 t) ∧ mLast s (s.2 2 t) < 10 := hlb
            have h183 : ∀ (L : List Int) (h5 : qH), PB h a1 L h5 → PGs s r m n (t + 1 : Nat) L → h.1 ≤ h5.1 + 1 + 26 * L.length → L_X1_pagesOf_183 D (fun v h1 => ∃ r : Option Nat, v = some (va_rf r) ∧ K r h1) X (C 0) (A 0) (zI m) (some a1) (zI ((lLay s r).1.1 14)) (zI n) (zI t) h5 := fun L h5 a b c => f_X1_pagesOf_183 _ _ _ _ _ _ _ h5 (by
              rw [zl_1, zI_add]
              exact ih2 (t + 1) L h5 (by omega) a b c)
            have h121 : ¬ (lMk s r m t = true ∧ (lLay s r).1.2 15 t = n) → L_X1_pagesOf_121 D (fun v h1 => ∃ r : Option Nat, v = some (va_rf r) ∧ K r h1) X (C 0) (A 0) (zI m) (some a1) (zI ((lLay s r).1.1 14)) (zI n) (zI t) h4 := fun q => f_X1_pagesOf_121 _ _ _ _ _ _ _ h4 (f_X1_pagesOf_122 _ _ _ _ _ _ _ _ h4 ⟨fun _ => h183 L h4 hPB4 (PG_no hPG4 q) c4, fun w => absurd rfl w⟩)
            refine f_X1_pagesOf_44 _ _ _ _ _ _ _ h4 (cp_story hP4 (st_size hD hP4 ⟨fun w2 => ?_, fun _ => cp_story hP4 (st_get hD hP4 rfl (by omega) (by omega) (tk0 hP4 (by omega) (by omega) ⟨fun w2 => h121 ?_, fun w2 => lf_lineOf hX4 (la15 hX4 rfl (by omega) (by omega) ⟨fun w3 => h121 ?_, fun w3 => cp_story hP4 (st_get hD hP4 rfl (by omega) (by omega) (tk1 hP4 (by omega) (by omega) (x_rootOf hT hP4 ⟨hk2.1, by omega⟩ rfl ⟨fun w4 => h121 ?_, fun w4 => ?_⟩)))⟩)⟩))⟩))
            · rw [zI_le (by omega) (by omega) (by omega) (by omega)] at w2
              omega
            · rw [zl_6, zI_eq (by omega) (by omega) (by omega) (by omega)] at w2
              exact fun q => w2 (of_decide_eq_true q.1).1
            · rw [zI_eq (by omega) (by omega) (by omega) (by omega)] at w3
              exact fun q => w3 q.2
            · rw [zI_eq (by omega) (by omega) (by omega) (by omega)] at w4
              exact fun q => w4 (of_decide_eq_true q.1).2.2
            · rw [zl_6, zI_eq (by omega) (by omega) (by omega) (by omega)] at w2
              rw [zI_eq (by omega) (by omega) (by omega) (by omega)] at w3
              rw [zI_eq (by omega) (by omega) (by omega) (by omega)] at w4
              have hmk : lMk s r m t = true ∧ (lLay s r).1.2 15 t = n := ⟨decide_eq_true ⟨w2, by omega, w4⟩, w3⟩
              have hpe : (if (lLay s r).1.1 23 = -1 then -1 else lPg s (lLay s r).1 n ((lLay s r).1.1 23)) = lPage s r n := rfl
              have h167 : (∀ L', L ≠ L' ++ [lPage s r n]) → L_X1_pagesOf_167 D (fun v h1 => ∃ r : Option Nat, v = some (va_rf r) ∧ K r h1) X (C 0) (A 0) (zI m) (some a1) (zI ((lLay s r).1.1 14)) (zI n) (zI t) h4 := fun q => by
                refine f_X1_pagesOf_167 _ _ _ _ _ _ _ h4 (x_page hD hT hP4 hC hn.2 hX4 ⟨h23.1, by omega⟩ (z := (n : Int)) (by omega) (by omega) rfl ?_)
                rw [hpe]
                refine hPB4.add hD ⟨by omega, by omega⟩ rfl (by omega) (by omega) (fun h5 a b => h183 _ h5 a (PG_add hmono (by omega) (by omega) hPG4 hmk q) ?_)
                rw [List.length_append]
                show h.1 ≤ h5.1 + 1 + 26 * (L.length + 1)
                omega
              refine f_X1_pagesOf_122 _ _ _ _ _ _ _ _ h4 ⟨fun w => absurd w (by decide), fun _ => hPB4.empty hD (by omega) ⟨fun w5 => h167 ?_, fun w5 => hPB4.size hD ?_⟩⟩
              · have hL0 : L = [] := Classical.byContradiction fun q => w5 (if_neg q)
                intro L' q
                rw [hL0] at q
                have := congrArg List.length q
                rw [List.length_append] at this
                have h1 : ([lPage s r n] : List Int).length = 1 := rfl
                have h2 : ([] : List Int).length = 0 := rfl
                omega
              · have hL0 : L ≠ [] := fun q => by rw [if_pos q] at w5; exact absurd w5 (by decide)
                obtain ⟨L', z, hLz⟩ : ∃ L' z, L = L' ++ [z] := by
                  rcases List.eq_nil_or_concat L with q | ⟨L', z, q⟩
                  · exact absurd q hL0
                  · exact ⟨L', z, by rw [q, List.concat_eq_append]⟩
                have hLl : L.length = L'.length + 1 := by rw [hLz, List.length_append]; rfl
                have hzb : 1 ≤ z ∧ z ≤ 999 := by
                  obtain ⟨u, u0, u1, u2, u3, u4⟩ := (hPG4.2.1 z).mp (by rw [hLz]; simp)
                  have := hb15 u u0 u1
                  have := (of_decide_eq_true u2).2.1
                  have := lPage_bd hT hB hr (i := (lLay s r).1.2 15 u) (by omega) (by omega) w
                  omega
                have hgz : L.getD ((L.length : Int) - 1).toNat 0 = z := by
                  rw [show ((L.length : Int) - 1).toNat = L'.length by omega, hLz, getDA, if_neg (by omega), if_pos rfl]
                refine hPB4.get hD (z := (L.length : Int) - 1) (by rw [zl_1, zI_sub]) (by omega) (by omega) (x_page hD hT hP4 hC hn.2 hX4 ⟨h23.1, by omega⟩ (z := (n : Int)) (by omega) (by omega) rfl ?_)
                rw [hpe, hgz]
                refine ⟨fun w6 => ?_, fun w6 => h167 (fun L'' q => w6 ?_)⟩
                · rw [zI_eq (by omega) (by omega) (by omega) (by omega)] at w6
                  exact h183 L h4 hPB4 (PG_same hPG4 (by rw [hLz, w6])) c4
                · rw [hLz] at q
                  have := (List.append_inj' q rfl).2
                  rw [List.cons.inj this |>.1]
        refine f_X1_pagesOf_34 _ _ _ _ _ _ h3 ⟨fun w2 => ?_, fun _ => ?_⟩
        · rw [zI_le (by omega) (by omega) (by omega) (by omega)] at w2
          omega
        · rw [zl_0]
          exact h44 (s.1 0).toNat 0 L h3 (by omega) hPB hPG c3
    rw [zl_0]
    refine h34 ((lLay s r).1.1 14).toNat 0 [] h1 (by omega) hPB0 (PG_0 (fun u a b => (hb15 u a b).1)) (Nat.le_refl _) ?_
    show h.1 ≤ h1.1 + 1 + 26 * 0
    omega
  · rw [zl_m1, zI_eq (by omega) (by omega) (by omega) (by omega)] at w
    exact k9 a1 h1 [] hPB0 (by omega) (fun _ => rfl) (fun q => absurd w q)
end CPH
