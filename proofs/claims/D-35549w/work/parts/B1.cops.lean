set_option maxRecDepth 100000
/-! the component's calls: lines and pages -/
section COP
variable {D : qD} {C : mW} {xs : List Nat} {s : mS} {ks : List (List mR3)} {h : qH} {X : String → qH → Prop} {r : Int}
theorem ST.wk {h0 : qH} {c d : Nat} (hS : ST C xs s ks h0 c h) (hc : c ≤ d) : ST C xs s ks h0 d h := ⟨hS.1, hS.2.1, by have := hS.2.2; omega⟩
theorem ST.tr {h0 h1 : qH} {c d : Nat} (hS : ST C xs s ks h0 c h1) (hS2 : ST C xs s ks h1 d h) : ST C xs s ks h0 (c + d) h := ⟨hS2.1, hS.2.1.tr hS2.2.1, by have := hS.2.2; have := hS2.2.2; omega⟩
/-- an exception with its message: a text and a number -/
theorem x_throw1 (hD : q_DK D) {i sx : Nat} (hsx : sx = 100 + i) (hi : i < 25) {z : Int} {p : Int32} (hp : p = zI z) (bz : bd z) {E : String} (hE : E ∈ qXN) (hcr : 2000 ≤ h.1) (hX : ∀ h', q_le h h' → h.1 ≤ h'.1 + 2000 → X E h') : x_N h E (fun a14 h15 => n_O h15 9 4 tyJ10 (fun a16 h17 => c_V D m_J10_init [va_rf (some a16)] h17 X (fun h18 => (recv D h18 (some a16) RJ10 ∧ c_R D m_J10_append [va_rf (some a16), va_rf (some (d_s D sx))] h18 X (fun r20 h19 => (recv D h19 r20 RJ10 ∧ c_R D m_J10_append_2 [va_rf r20, .int p] h19 X (fun r22 h21 => (recv D h21 r22 RJ10 ∧ c_R D m_J10_toString [va_rf r22] h21 X (fun r24 h23 => x_I h23 (some a14) E (fun h25 => x_T h25 (some a14) X)))))))))) := by
  subst hsx
  subst hp
  refine ⟨by omega, fun a ha => ⟨by show _ ≤ h.1 - 2; omega, fun sb hsb => ?_⟩⟩
  refine j_sbInit (h0 := q_new h 2 a (c_ex E false)) new_self rfl (q_le.rf.new hsb) hsb (by show 5 ≤ h.1 - 2 - (1 + 4 / 4); omega) (fun h1 S1 c1 => ⟨rfl, ?_⟩)
  have c1 : h.1 - 2 - (1 + 4 / 4) ≤ h1.1 + 5 := c1
  have r1 : ∀ {h9 : qH} {cap cnt : Nat}, q_SB (q_new h 2 a (c_ex E false)) h9 sb cap cnt → recv D h9 (some sb) RJ10 := fun S => by
    obtain ⟨-, -, V, arr, f, e1, -⟩ := S
    exact rcv e1 rfl
  refine ⟨r1 S1, j_appS hD S1 hi (by omega) (by omega) (fun h2 cap2 cnt2 S2 b2 c2 => ⟨_, rfl, r1 S2, ?_⟩)⟩
  refine j_appI hD S2 bz.1 bz.2 (by omega) (by omega) (fun h3 cap3 cnt3 S3 b3 c3 => ⟨_, rfl, r1 S3, ?_⟩)
  refine j_toString S3 (by omega) (fun m h4 le4 c4 => ⟨_, rfl, ?_⟩)
  exact j_thrown hE ha rfl le4 (by omega) hX
theorem x_layout2 (hD : q_DK D) (hT : TI s) (hB : MB s) (hS : SC C xs s ks h) {z : Int} {p p1 : Int32} (hp : p = zI r) (hp1 : p1 = zI z) (br : bd r) (bz : bd z) (hcr : 10000 ≤ h.1) {K : Option Nat → qH → Prop} (hok : (0 ≤ r ∧ r ≤ 3) → 0 ≤ z → z < (lLay s r).1.1 14 → ∀ (A : Nat → Nat) h', ST C xs s ks h 8000 h' → LX A (C.1 0) r (lLay s r) h' → K (some (A 0)) h') (hno : ¬ ((0 ≤ r ∧ r ≤ 3) ∧ 0 ≤ z ∧ z < (lLay s r).1.1 14) → ∀ h', ST C xs s ks h 10000 h' → X "java/lang/IndexOutOfBoundsException" h') : recv D h (some (C.1 0)) RX1 ∧ c_R D m_X1_layout_2 [va_rf (some (C.1 0)), .int p, .int p1] h X K := by
  refine ⟨hS.rcX1, f_X1_layout_2 _ _ _ h (x_layout hD hT hB hS hp br hcr (fun hr A h1 S1 hX => ?_) (fun w h1 S1 => hno (fun q => w q.1) h1 (S1.wk (by omega))))⟩
  have hRF := RF_lay hT hB (r := r) ⟨hr.1, by omega⟩
  have hn := hRF.2.2.2.2.2.2.2.1.1
  have hc1 := S1.2.2
  refine lf_lines hX (ln_size hD hX (x_place hD hp1 rfl bz ⟨by omega, by omega⟩ ⟨15, by omega, rfl⟩ (by omega) (fun a b => ⟨_, rfl, hok hr a b A h1 S1 hX⟩) (fun w h2 hl hc => hno (fun q => w q.2) h2 (S1.le hl hc))))
theorem x_lines (hD : q_DK D) (hT : TI s) (hB : MB s) (hS : SC C xs s ks h) (br : bd r) (hcr : 18000 ≤ h.1) {K : Int32 → qH → Prop} (hok : (0 ≤ r ∧ r ≤ 3) → ∀ h', ST C xs s ks h 18000 h' → K (zI ((lLay s r).1.1 14)) h') (hno : ¬ (0 ≤ r ∧ r ≤ 3) → ∀ h', ST C xs s ks h 18000 h' → X "java/lang/IndexOutOfBoundsException" h') : c_I D m_X1_lines [va_rf (some (C.1 0)), .int (zI r)] h X K :=
  f_X1_lines _ _ h (x_layout hD hT hB hS rfl br (by omega) (fun hr A h1 S1 hX => lf_lines hX (ln_size hD hX ⟨_, rfl, hok hr h1 (S1.wk (by omega))⟩)) (fun w h1 S1 => hno w h1 (S1.wk (by omega))))
theorem x_front (hD : q_DK D) (hT : TI s) (hB : MB s) (hS : SC C xs s ks h) (br : bd r) (hcr : 18000 ≤ h.1) {K : Int32 → qH → Prop} (hok : (0 ≤ r ∧ r ≤ 3) → ∀ h', ST C xs s ks h 18000 h' → K (zI ((lLay s r).1.1 23)) h') (hno : ¬ (0 ≤ r ∧ r ≤ 3) → ∀ h', ST C xs s ks h 18000 h' → X "java/lang/IndexOutOfBoundsException" h') : c_I D m_X1_front [va_rf (some (C.1 0)), .int (zI r)] h X K :=
  f_X1_front _ _ h (x_layout hD hT hB hS rfl br (by omega) (fun hr A h1 S1 hX => lf_front hX ⟨_, rfl, hok hr h1 (S1.wk (by omega))⟩) (fun w h1 S1 => hno w h1 (S1.wk (by omega))))
theorem x_pages (hD : q_DK D) (hT : TI s) (hB : MB s) (hS : SC C xs s ks h) (br : bd r) (hcr : 18000 ≤ h.1) {K : Int32 → qH → Prop} (hok : (0 ≤ r ∧ r ≤ 3) → ∀ h', ST C xs s ks h 18000 h' → K (zI (if (lLay s r).1.1 23 = -1 then -1 else (lLay s r).1.1 23 + mPagesOf s ((lLay s r).1.1 22))) h') (hno : ¬ (0 ≤ r ∧ r ≤ 3) → ∀ h', ST C xs s ks h 18000 h' → X "java/lang/IndexOutOfBoundsException" h') : c_I D m_X1_pages [va_rf (some (C.1 0)), .int (zI r)] h X K := by
  refine f_X1_pages _ _ h (x_layout hD hT hB hS rfl br (by omega) (fun hr A h1 S1 hX => ?_) (fun w h1 S1 => hno w h1 (S1.wk (by omega))))
  obtain ⟨-, -, -, -, -, -, -, hZ, hC, h22, h23⟩ := RF_lay hT hB (r := r) ⟨hr.1, by omega⟩
  have hok := hok hr h1 (S1.wk (by omega))
  refine lf_front hX ⟨fun w => lf_front hX (x_bodyPages hT S1.1.P hX h22 ⟨_, rfl, ?_⟩), fun w => ⟨_, rfl, ?_⟩⟩
  · rw [zl_m1, zI_eq (by omega) (by omega) (by omega) (by omega)] at w
    rw [if_neg w] at hok
    rw [zI_add]
    exact hok
  · rw [zl_m1, zI_eq (by omega) (by omega) (by omega) (by omega)] at w
    rw [if_pos w] at hok
    exact hok
/-- the page of a line -/
def lPage (s : mS) (r i : Int) : Int := if (lLay s r).1.1 23 = -1 then -1 else lPg s (lLay s r).1 i ((lLay s r).1.1 23)
theorem x_pageOf (hD : q_DK D) (hT : TI s) (hB : MB s) (hS : SC C xs s ks h) {z : Int} (br : bd r) (bz : bd z) (hcr : 18000 ≤ h.1) {K : Int32 → qH → Prop} (hok : (0 ≤ r ∧ r ≤ 3) → 0 ≤ z → z < (lLay s r).1.1 14 → ∀ h', ST C xs s ks h 18000 h' → K (zI (lPage s r z)) h') (hno : ¬ ((0 ≤ r ∧ r ≤ 3) ∧ 0 ≤ z ∧ z < (lLay s r).1.1 14) → ∀ h', ST C xs s ks h 18000 h' → X "java/lang/IndexOutOfBoundsException" h') : c_I D m_X1_pageOf [va_rf (some (C.1 0)), .int (zI r), .int (zI z)] h X K := by
  refine f_X1_pageOf _ _ _ h (x_layout2 hD hT hB hS rfl rfl br bz (by omega) (fun hr a b A h1 S1 hX => ?_) (fun w h1 S1 => hno w h1 (S1.wk (by omega))))
  obtain ⟨-, -, -, -, -, -, -, hZ, hC, h22, h23⟩ := RF_lay hT hB (r := r) ⟨hr.1, by omega⟩
  exact x_page hD hT S1.1.P hC hZ.1.2 hX ⟨h23.1, by omega⟩ a b rfl ⟨_, rfl, hok hr a b h1 (S1.wk (by omega))⟩
theorem x_pageAnew (hD : q_DK D) (hT : TI s) (hB : MB s) (hS : SC C xs s ks h) {z : Int} (br : bd r) (bz : bd z) (hcr : 18000 ≤ h.1) {K : Int32 → qH → Prop} (hok : (0 ≤ r ∧ r ≤ 3) → 0 ≤ z → z < (lLay s r).1.1 14 → ∀ h', ST C xs s ks h 18000 h' → K (zI (lPage s r z)) h') (hno : ¬ ((0 ≤ r ∧ r ≤ 3) ∧ 0 ≤ z ∧ z < (lLay s r).1.1 14) → ∀ h', ST C xs s ks h 18000 h' → X "java/lang/IndexOutOfBoundsException" h') : c_I D m_X1_pageAnew [va_rf (some (C.1 0)), .int (zI r), .int (zI z)] h X K := by
  refine f_X1_pageAnew _ _ _ h (x_layout2 hD hT hB hS rfl rfl br bz (by omega) (fun hr a b A h1 S1 hX => ?_) (fun w h1 S1 => hno w h1 (S1.wk (by omega))))
  obtain ⟨-, -, -, -, -, -, -, hZ, hC, h22, h23⟩ := RF_lay hT hB (r := r) ⟨hr.1, by omega⟩
  have hc := S1.2.2
  refine x_newLayout hD S1.1.P hT hB ⟨hr.1, by omega⟩ (by omega) (fun W h2 H2 c2 _ => ?_)
  have S2 := S1.le H2.le c2
  exact x_page hD hT S2.1.P hC hZ.1.2 H2.lx ⟨h23.1, by omega⟩ a b rfl ⟨_, rfl, hok hr a b h2 (S2.wk (by omega))⟩
theorem x_tokens (hD : q_DK D) (hS : SC C xs s ks h) {K : Int32 → qH → Prop} (hok : K (zI (s.1 0)) h) : c_I D m_X1_tokens [va_rf (some (C.1 0))] h X K := f_X1_tokens _ h (cp_story hS.P (st_size hD hS.P ⟨_, rfl, hok⟩))
theorem x_lineOf (hD : q_DK D) (hT : TI s) (hB : MB s) (hS : SC C xs s ks h) {z : Int} (br : bd r) (bz : bd z) (hcr : 18000 ≤ h.1) {K : Int32 → qH → Prop} (hok : (0 ≤ r ∧ r ≤ 3) → 0 ≤ z → z < s.1 0 → ∀ h', ST C xs s ks h 18000 h' → K (zI ((lLay s r).1.2 15 z)) h') (hno : ¬ ((0 ≤ r ∧ r ≤ 3) ∧ 0 ≤ z ∧ z < s.1 0) → ∀ h', ST C xs s ks h 18000 h' → X "java/lang/IndexOutOfBoundsException" h') : c_I D m_X1_lineOf [va_rf (some (C.1 0)), .int (zI r), .int (zI z)] h X K := by
  have h64 := hT.1
  refine f_X1_lineOf _ _ _ h (x_layout hD hT hB hS rfl br (by omega) (fun hr A h1 S1 hX => ?_) (fun w h1 S1 => hno (fun q => w q.1) h1 (S1.wk (by omega))))
  have hc := S1.2.2
  exact lf_lineOf hX (cp_story S1.1.P (st_size hD S1.1.P (x_place hD rfl rfl bz ⟨by omega, by omega⟩ ⟨6, by omega, rfl⟩ (by omega) (fun a b => la15 hX rfl a (by omega) ⟨_, rfl, hok hr a b h1 (S1.wk (by omega))⟩) (fun w h2 hl hc => hno (fun q => w q.2) h2 ((S1.le hl hc).wk (by omega))))))
theorem x_columnOf (hD : q_DK D) (hT : TI s) (hB : MB s) (hS : SC C xs s ks h) {b z : Int} (br : bd r) (bb : b = 0 ∨ b = 1) (bz : bd z) (hcr : 18000 ≤ h.1) {K : Int32 → qH → Prop} (hokT : (0 ≤ r ∧ r ≤ 3) → b = 0 → 0 ≤ z → z < s.1 0 → s.2 1 z = 4 → ∀ h', ST C xs s ks h 18000 h' → K (zI ((lLay s r).1.2 16 z)) h') (hokL : (0 ≤ r ∧ r ≤ 3) → b = 1 → 0 ≤ z → z < (lLay s r).1.1 14 → ∀ h', ST C xs s ks h 18000 h' → K (zI ((lLay s r).1.2 17 z)) h') (hno : ¬ ((0 ≤ r ∧ r ≤ 3) ∧ ((b = 0 ∧ 0 ≤ z ∧ z < s.1 0 ∧ s.2 1 z = 4) ∨ (b = 1 ∧ 0 ≤ z ∧ z < (lLay s r).1.1 14))) → ∀ h', ST C xs s ks h 18000 h' → X "java/lang/IndexOutOfBoundsException" h') : c_I D m_X1_columnOf [va_rf (some (C.1 0)), .int (zI r), .int (zI b), .int (zI z)] h X K := by
  have h64 := hT.1
  refine f_X1_columnOf _ _ _ _ h (x_layout hD hT hB hS rfl br (by omega) (fun hr A h1 S1 hX => ?_) (fun w h1 S1 => hno (fun q => w q.1) h1 (S1.wk (by omega))))
  have hn := (RF_lay hT hB (r := r) ⟨hr.1, by omega⟩).2.2.2.2.2.2.2.1.1
  have hc := S1.2.2
  have hP := S1.1.P
  refine ⟨fun w => ?_, fun w => ?_⟩
  · rw [zl_0, zI_eq (by omega) (by omega) (by omega) (by omega)] at w
    refine cp_story hP (cp_story hP (st_size hD hP (x_place hD rfl rfl bz ⟨by omega, by omega⟩ ⟨6, by omega, rfl⟩ (by omega) (fun a c => st_get hD hP rfl a c (tk0 hP a c ⟨fun w2 => lf_colOf hX (la16 hX rfl a (by omega) ⟨_, rfl, hokT hr w a c ?_ h1 (S1.wk (by omega))⟩), fun w2 => ?_⟩)) (fun w2 h2 hl hc => hno ?_ h2 ((S1.le hl hc).wk (by omega))))))
    · have hk := (hT.tok a c).1
      rw [zl_4, zI_eq (by omega) (by omega) (by omega) (by omega)] at w2
      exact w2
    · have hk := (hT.tok a c).1
      rw [zl_4, zI_eq (by omega) (by omega) (by omega) (by omega)] at w2
      exact x_throw1 hD (i := 16) rfl (by omega) rfl bz (by simp [qXN]) (by omega) (fun h2 hl hc => hno (by
        rintro ⟨-, q | q⟩
        · exact w2 q.2.2.2
        · omega) h2 ((S1.le hl hc).wk (by omega)))
    · rintro ⟨-, q | q⟩
      · exact w2 ⟨q.2.1, q.2.2.1⟩
      · omega
  · rw [zl_0, zI_eq (by omega) (by omega) (by omega) (by omega)] at w
    refine lf_lines hX (lf_lines hX (ln_size hD hX (x_place hD rfl rfl bz ⟨by omega, by omega⟩ ⟨15, by omega, rfl⟩ (by omega) (fun a c => ln_get hD hX rfl a c (li6 hX a c ⟨_, rfl, hokL hr (by omega) a c h1 (S1.wk (by omega))⟩)) (fun w2 h2 hl hc => hno (by
      rintro ⟨-, q | q⟩
      · omega
      · exact w2 q.2) h2 ((S1.le hl hc).wk (by omega))))))
end COP
