set_option maxRecDepth 100000
/-! the component's calls: styles, tokens put and taken -/
section CO4
variable {D : qD} {C : mW} {xs : List Nat} {s : mS} {ks : List (List mR3)} {h : qH} {X : String → qH → Prop} {r : Int}
def sref (C : mW) (z : Int) : Option Nat := if z = -1 then none else some (C.1 (10 + z.toNat))
theorem sref_inj (hS : SC C xs s ks h) {a b : Int} (ha : 0 ≤ a ∧ a < 6) (hb : 0 ≤ b ∧ b < 6) (he : C.1 (10 + a.toNat) = C.1 (10 + b.toNat)) : a = b := by
  obtain ⟨cc, g, h1, h2, -⟩ := hS
  have e1 := h2.c (k := 10 + a.toNat) (by unfold cRole; omega)
  have e2 := h2.c (k := 10 + b.toNat) (by unfold cRole; omega)
  rw [he, e2] at e1
  have := Option.some.inj e1
  omega
theorem x_sty59 (hT : TI s) (hS : SC C xs s ks h) {a e c : Int} (ha : 0 ≤ a ∧ a < 6) {v6 : Option Nat} {Q : Option Value → qH → Prop} (rk : Int → Nat) (hr : ∀ i, 0 ≤ i → i < 6 → s.2 4 i ≠ -1 → rk (s.2 4 i) < rk i) : ∀ (f : Nat) (v : Int), (v = -1 ∨ (0 ≤ v ∧ v < 6 ∧ rk v < f)) → (mChase s 4 a f v ≠ -1 → L_X1_style_103 D Q X (C.1 0) (zI e) (zI c) (some (C.1 (10 + a.toNat))) v6 0 h) → (mChase s 4 a f v = -1 → L_X1_style_103 D Q X (C.1 0) (zI e) (zI c) (some (C.1 (10 + a.toNat))) v6 1 h) → L_X1_style_59 D Q X (C.1 0) (zI e) (zI c) (some (C.1 (10 + a.toNat))) v6 0 (sref C v) h := by
  intro f
  induction f with
  | zero =>
    intro v hv h0 h1
    have hv : v = -1 := by
      rcases hv with q | q
      · exact q
      · omega
    subst hv
    exact f_X1_style_59 _ _ _ _ _ _ _ h ⟨fun _ => f_X1_style_93 _ _ _ _ _ _ h ⟨fun w => absurd rfl w, fun _ => h1 rfl⟩, fun w => absurd rfl w⟩
  | succ f ih =>
    intro v hv h0 h1
    by_cases hvm : v = -1
    · subst hvm
      have em : mChase s 4 a (f + 1) (-1) = -1 := if_pos (Or.inl rfl)
      exact f_X1_style_59 _ _ _ _ _ _ _ h ⟨fun _ => f_X1_style_93 _ _ _ _ _ _ h ⟨fun w => absurd rfl w, fun _ => h1 em⟩, fun w => absurd rfl w⟩
    · have hv := hv.resolve_left hvm
      have hb := hT.base hv.1 hv.2.1
      have hP := hS.P
      obtain ⟨V, v1, v2, -⟩ := hP.style hv.1 hv.2.1
      have er : sref C v = some (C.1 (10 + v.toNat)) := if_neg hvm
      have hnext : (s.2 4 v = -1 ∨ (0 ≤ s.2 4 v ∧ s.2 4 v < 6 ∧ rk (s.2 4 v) < f)) := by
        by_cases q : s.2 4 v = -1
        · exact Or.inl q
        · have := hr v hv.1 hv.2.1 q
          exact Or.inr ⟨by omega, by omega, by omega⟩
      have v2 : V 0 = va_rf (sref C (s.2 4 v)) := v2
      rw [er]
      refine f_X1_style_59 _ _ _ _ _ _ _ h ⟨fun w => (by cases w), fun _ => ⟨fun w => absurd rfl w, fun _ => ⟨fun w => ?_, fun w => ?_⟩⟩⟩
      · have hva : v ≠ a := fun q => w (by rw [q])
        have em : mChase s 4 a (f + 1) v = mChase s 4 a f (s.2 4 v) := if_neg (by omega)
        rw [em] at h0 h1
        exact f_X1_style_81 _ _ _ _ _ _ _ h (gR v1 v2 (ih _ hnext h0 h1))
      · have hva : v = a := sref_inj hS ⟨hv.1, hv.2.1⟩ ha (Option.some.inj w)
        have em : mChase s 4 a (f + 1) v = v := if_pos (Or.inr hva)
        have h03 := h0 (by rw [em]; exact hvm)
        have h93 : L_X1_style_93 D Q X (C.1 0) (zI e) (zI c) (some (C.1 (10 + a.toNat))) v6 1 h := f_X1_style_93 _ _ _ _ _ _ h ⟨fun _ => h03, fun w => absurd w (by decide)⟩
        exact f_X1_style_81 _ _ _ _ _ _ _ h (gR v1 v2 (f_X1_style_59 _ _ _ _ _ _ _ h ⟨fun _ => h93, fun _ => ⟨fun _ => h93, fun w => absurd w (by decide)⟩⟩))
theorem x_style (hD : q_DK D) (hT : TI s) (hS : SC C xs s ks h) {a b e c : Int} (ba : bd a) (bb : bd b) (be : bd e) (bc : bd c) (hcr : 18000 ≤ h.1) {K : qH → Prop} (hok : (0 ≤ a ∧ a ≤ 5) → (-1 ≤ b ∧ b ≤ 5) → (-1 ≤ e ∧ e ≤ 3) → (-1 ≤ c ∧ c ≤ 3) → mChase s 4 a 6 b = -1 → ∀ h', ST C xs (mA (mA (mA s 4 a b) 5 a e) 6 a c) ks h 18000 h' → K h') (hno1 : ¬ ((0 ≤ a ∧ a ≤ 5) ∧ (-1 ≤ b ∧ b ≤ 5)) → ∀ h', ST C xs s ks h 18000 h' → X "java/lang/IndexOutOfBoundsException" h') (hno2 : (0 ≤ a ∧ a ≤ 5) → (-1 ≤ b ∧ b ≤ 5) → ¬ ((-1 ≤ e ∧ e ≤ 3) ∧ (-1 ≤ c ∧ c ≤ 3)) → ∀ h', ST C xs s ks h 18000 h' → X "java/lang/IllegalArgumentException" h') (hno3 : (0 ≤ a ∧ a ≤ 5) → (-1 ≤ b ∧ b ≤ 5) → (-1 ≤ e ∧ e ≤ 3) → (-1 ≤ c ∧ c ≤ 3) → mChase s 4 a 6 b ≠ -1 → ∀ h', ST C xs s ks h 18000 h' → X "java/lang/IllegalStateException" h') : c_V D m_X1_style [va_rf (some (C.1 0)), .int (zI a), .int (zI b), .int (zI e), .int (zI c)] h X K := by
  have hx : ¬ ((0 ≤ a ∧ a ≤ 5) ∧ (-1 ≤ b ∧ b ≤ 5)) → ∀ h', q_le h h' → h.1 ≤ h'.1 + 2000 → X "java/lang/IndexOutOfBoundsException" h' := fun w h' hl hc => hno1 w h' ((hS.st hl hc).wk (by omega))
  have hP := hS.P
  obtain ⟨rk, r1, r2⟩ := hT.2.2.2.2.2.2.2.2.2.2.1
  have h37 : (0 ≤ a ∧ a ≤ 5) → (-1 ≤ b ∧ b ≤ 5) → L_X1_style_37 D (fun v h1 => v = none ∧ K h1) X (C.1 0) (zI e) (zI c) (some (C.1 (10 + a.toNat))) (sref C b) h := by
    intro ha hb
    refine f_X1_style_37 _ _ _ _ _ h (x_within hD rfl zl_m1 zl_3 be (bdl rfl) (bdl rfl) (by omega) (fun e1 e2 => x_within hD rfl zl_m1 zl_3 bc (bdl rfl) (bdl rfl) (by omega) (fun c1 c2 => ?_) (fun w h' hl hc => hno2 ha hb (fun q => w q.2) h' ((hS.st hl hc).wk (by omega)))) (fun w h' hl hc => hno2 ha hb (fun q => w q.1) h' ((hS.st hl hc).wk (by omega))))
    refine x_sty59 hT hS ⟨ha.1, by omega⟩ rk r2 6 b (by
      by_cases q : b = -1
      · exact Or.inl q
      · exact Or.inr ⟨by omega, by omega, by have := r1 b (by omega) (by omega); omega⟩) (fun q => f_X1_style_103 _ _ _ _ _ _ h (x_must (by omega) (fun w => absurd rfl w) (fun _ h' hl hc => hno3 ha hb ⟨e1, e2⟩ ⟨c1, c2⟩ q h' ((hS.st hl hc).wk (by omega))))) (fun q => f_X1_style_103 _ _ _ _ _ _ h (x_must (by omega) (fun _ => ?_) (fun w => absurd w (by decide))))
    exact SC_sty hS.scl ⟨ha.1, by omega⟩ (w := b) (j := 0) (by omega) rfl (fun h1 S1 f1 d1 => SC_sty S1 ⟨ha.1, by omega⟩ (w := e) (j := 1) (by omega) rfl (fun h2 S2 f2 d2 => SC_sty S2 ⟨ha.1, by omega⟩ (w := c) (j := 2) (by omega) rfl (fun h3 S3 f3 d3 => x_forgets S3 (fun h4 S4 f4 d4 => ⟨rfl, hok ha hb ⟨e1, e2⟩ ⟨c1, c2⟩ q h4 ⟨S4, ((f1.tr f2).tr f3).tr f4, by omega⟩⟩))))
  refine f_X1_style _ _ _ _ _ h (cp_styles hP (x_place hD rfl zl_6 ba (bdl rfl) ⟨7, by omega, rfl⟩ (by omega) (fun a1 a2 => cp_style hP rfl a1 a2 ⟨fun w => cp_styles hP (x_place hD rfl zl_6 bb (bdl rfl) ⟨7, by omega, rfl⟩ (by omega) (fun b1 b2 => cp_style hP rfl b1 b2 ?_) (fun w2 => hx (fun q => w2 ?_))), fun w => ?_⟩) (fun w => hx (fun q => w (by omega)))))
  · have h9 := h37 ⟨a1, by omega⟩ ⟨by omega, by omega⟩
    have er : sref C b = some (C.1 (10 + b.toNat)) := if_neg (by omega)
    rw [er] at h9
    exact h9
  · rw [zl_m1, zI_eq bb.1 bb.2 (by omega) (by omega)] at w
    omega
  · rw [zl_m1, zI_eq bb.1 bb.2 (by omega) (by omega)] at w
    subst w
    exact h37 ⟨a1, by omega⟩ ⟨by omega, by omega⟩
theorem x_isToken (hD : q_DK D) {k a st : Int} (bk : bd k) (ba : bd a) (bs : bd st) (hcr : 2000 ≤ h.1) {K : qH → Prop} (hok : (0 ≤ k ∧ k ≤ 6) → mFine k a st → K h) (hno : ¬ ((0 ≤ k ∧ k ≤ 6) ∧ mFine k a st) → ∀ h', q_le h h' → h.1 ≤ h'.1 + 2000 → X "java/lang/IllegalArgumentException" h') : c_V D m_X1_isToken [.int (zI k), .int (zI a), .int (zI st)] h X K := by
  have h109 : ∀ m : Int, m = (if k = 0 ∨ k = 1 ∨ k = 3 then 5 else 0) → (0 ≤ k ∧ k ≤ 6) → ((k = 0 ∨ k = 3 ∨ k = 4 → 1 ≤ a ∧ a ≤ 9) ∧ (k = 1 → 0 ≤ a ∧ a ≤ 3) ∧ (k = 2 → a = 0) ∧ (k = 5 → 1 ≤ a ∧ a ≤ 4) ∧ (k = 6 → 0 ≤ a ∧ a ≤ 9)) → L_X1_isToken_109 D (fun v h1 => v = none ∧ K h1) X (zI m) 0 (zI st) h := by
    intro m hm hk hf
    refine f_X1_isToken_109 _ _ _ h (x_within hD rfl zl_0 rfl bs (bdl rfl) (by rw [hm]; split <;> exact bdl rfl) (by omega) (fun s1 s2 => ⟨rfl, hok hk ⟨⟨s1, by rw [← hm]; exact s2⟩, hf⟩⟩) (fun w => hno (fun q => w (by rw [hm]; exact q.2.1))))
  have h92 : (0 ≤ k ∧ k ≤ 6) → ((k = 0 ∨ k = 3 ∨ k = 4 → 1 ≤ a ∧ a ≤ 9) ∧ (k = 1 → 0 ≤ a ∧ a ≤ 3) ∧ (k = 2 → a = 0) ∧ (k = 5 → 1 ≤ a ∧ a ≤ 4) ∧ (k = 6 → 0 ≤ a ∧ a ≤ 9)) → L_X1_isToken_92 D (fun v h1 => v = none ∧ K h1) X (zI k) (zI st) h := by
    intro hk hf
    have h104 : (k = 0 ∨ k = 1 ∨ k = 3) → L_X1_isToken_104 D (fun v h1 => v = none ∧ K h1) X 0 (zI st) h := fun q => f_X1_isToken_104 _ _ h (h109 5 (by rw [if_pos q]) hk hf)
    refine f_X1_isToken_92 _ _ h ⟨fun w => h104 ?_, fun w => ⟨fun w2 => h109 0 ?_ hk hf, fun w2 => h104 ?_⟩⟩
    · rw [zl_1, zI_le (by omega) (by omega) (by omega) (by omega)] at w
      omega
    · rw [zl_1, zI_le (by omega) (by omega) (by omega) (by omega)] at w
      rw [zl_3, zI_eq (by omega) (by omega) (by omega) (by omega)] at w2
      rw [if_neg (by omega)]
    · rw [zl_3, zI_eq (by omega) (by omega) (by omega) (by omega)] at w2
      omega
  have h85 : (0 ≤ k ∧ k ≤ 6) → (k = 0 ∨ k = 3 ∨ k = 4) → L_X1_isToken_85 D (fun v h1 => v = none ∧ K h1) X (zI k) (zI a) (zI st) h := fun hk q => f_X1_isToken_85 _ _ _ h (x_within hD rfl zl_1 zl_9 ba (bdl rfl) (bdl rfl) (by omega) (fun a1 a2 => h92 hk ⟨fun _ => ⟨a1, a2⟩, fun _ => by omega, fun _ => by omega, fun _ => by omega, fun _ => by omega⟩) (fun w => hno (fun z => w (z.2.2.1 q))))
  refine f_X1_isToken _ _ _ h (x_within hD rfl zl_0 zl_6 bk (bdl rfl) (bdl rfl) (by omega) (fun k1 k2 => ⟨fun w => ?_, fun w => ?_, fun w => ?_, fun w => ?_, fun w => ?_, fun w => ?_, fun w1 w2 w3 w4 w5 w6 => ?_⟩) (fun w => hno (fun q => w q.1)))
  · rw [zl_1, zI_eq (by omega) (by omega) (by omega) (by omega)] at w
    exact x_within hD rfl zl_0 zl_3 ba (bdl rfl) (bdl rfl) (by omega) (fun a1 a2 => h92 ⟨k1, k2⟩ ⟨fun _ => by omega, fun _ => ⟨a1, a2⟩, fun _ => by omega, fun _ => by omega, fun _ => by omega⟩) (fun u => hno (fun z => u (z.2.2.2.1 w)))
  · rw [zl_2, zI_eq (by omega) (by omega) (by omega) (by omega)] at w
    exact x_within hD rfl zl_0 zl_0 ba (bdl rfl) (bdl rfl) (by omega) (fun a1 a2 => h92 ⟨k1, k2⟩ ⟨fun _ => by omega, fun _ => by omega, fun _ => by omega, fun _ => by omega, fun _ => by omega⟩) (fun u => hno (fun z => u (by have := z.2.2.2.2.1 w; omega)))
  · rw [zl_3, zI_eq (by omega) (by omega) (by omega) (by omega)] at w
    exact h85 ⟨k1, k2⟩ (by omega)
  · rw [zl_4, zI_eq (by omega) (by omega) (by omega) (by omega)] at w
    exact h85 ⟨k1, k2⟩ (by omega)
  · rw [zl_5, zI_eq (by omega) (by omega) (by omega) (by omega)] at w
    exact x_within hD rfl zl_1 zl_4 ba (bdl rfl) (bdl rfl) (by omega) (fun a1 a2 => h92 ⟨k1, k2⟩ ⟨fun _ => by omega, fun _ => by omega, fun _ => by omega, fun _ => ⟨a1, a2⟩, fun _ => by omega⟩) (fun u => hno (fun z => u (z.2.2.2.2.2.1 w)))
  · rw [zl_6, zI_eq (by omega) (by omega) (by omega) (by omega)] at w
    exact x_within hD rfl zl_0 zl_9 ba (bdl rfl) (bdl rfl) (by omega) (fun a1 a2 => h92 ⟨k1, k2⟩ ⟨fun _ => by omega, fun _ => by omega, fun _ => by omega, fun _ => by omega, fun _ => ⟨a1, a2⟩⟩) (fun u => hno (fun z => u (z.2.2.2.2.2.2 w)))
  · rw [zl_1, zI_eq (by omega) (by omega) (by omega) (by omega)] at w1
    rw [zl_2, zI_eq (by omega) (by omega) (by omega) (by omega)] at w2
    rw [zl_3, zI_eq (by omega) (by omega) (by omega) (by omega)] at w3
    rw [zl_4, zI_eq (by omega) (by omega) (by omega) (by omega)] at w4
    rw [zl_5, zI_eq (by omega) (by omega) (by omega) (by omega)] at w5
    rw [zl_6, zI_eq (by omega) (by omega) (by omega) (by omega)] at w6
    exact h85 ⟨k1, k2⟩ (by omega)
end CO4
