/-! PURE, the texts: text p (0 wood, 1 company) has n p bytes T p; part k stands at 4 k -/
def bN (n : Nat) (T : Nat → Nat) (i : Nat) : Nat := if i < n then T i else 0
def bI (n : Nat) (T : Nat → Nat) (i : Nat) : Int32 := if i < n then nI (T i) else -1
/-- a part's kind by its letter; 3: none -/
def kindN (p b : Nat) : Nat := if p = 0 then (if b = 107 then 0 else if b = 98 then 1 else if b = 99 then 2 else 3) else (if b = 119 then 0 else if b = 100 then 1 else 3)
/-- where part k is wrong: 0, 1, 2; 3: it is right -/
def partF (p k b0 b1 b2 : Nat) : Nat := if k = 8 ∨ ¬ (97 ≤ b0 ∧ b0 ≤ 120) then 0 else if kindN p b1 = 3 then 1 else if ¬ (49 ≤ b2 ∧ b2 ≤ 51 + p) then 2 else 3
def partT (p n : Nat) (T : Nat → Nat) (k : Nat) : Nat := partF p k (bN n T (4 * k)) (bN n T (4 * k + 1)) (bN n T (4 * k + 2))
/-- the place of the fault (one more; none: 0), and how many parts -/
def parseL (p n : Nat) (T : Nat → Nat) : Nat → Nat → Nat × Nat
  | 0, _ => (0, 0)
  | f + 1, k => if partT p n T k < 3 then (4 * k + partT p n T k + 1, 0) else if 4 * k + 3 = n then (0, k + 1) else if bN n T (4 * k + 3) = 59 then parseL p n T f (k + 1) else (4 * k + 3 + 1, 0)
def parse (p n : Nat) (T : Nat → Nat) : Nat × Nat := if n = 0 then (0, 0) else parseL p n T 9 0
def mT (n : Nat → Nat) (T : Nat → Nat → Nat) (μ : jMu) : Prop := ∀ p, p < 2 → μ.2 0 p = nI (n p) ∧ n p ≤ 31 ∧ ∀ i, i < n p → μ.2 1 (31 * p + i) = nI (T p i) ∧ T p i ≤ 255
theorem bI_is {n : Nat} {T : Nat → Nat} {i c : Nat} (hT : ∀ i, i < n → T i ≤ 255) (h0 : 0 < c) (hc : c ≤ 255) : (bI n T i = nI c) = (bN n T i = c) := by
  apply propext
  unfold bI bN
  by_cases h : i < n
  · have h1 := hT i h
    rw [if_pos h, if_pos h, eN (a := T i) c (x := nI c) (by omega) (by omega) rfl]
  · rw [if_neg h, if_neg h]
    constructor
    · intro q
      exact absurd (show (-1 : Int32) < 0 by decide) (by rw [q]; exact nI_pos (by omega))
    · intro q; omega
theorem inB : ∀ v : Fin 256, ((0 : Int32) ≤ nI v.val - 97 ∧ nI v.val - 97 ≤ 23) ↔ (97 ≤ v.val ∧ v.val ≤ 120) := by decide +kernel
theorem inD : ∀ (v : Fin 256) (c : Fin 5), ((1 : Int32) ≤ nI v.val - 48 ∧ nI v.val - 48 ≤ nI c.val) ↔ (49 ≤ v.val ∧ v.val ≤ 48 + c.val) := by decide +kernel
theorem bI_min {n : Nat} {T : Nat → Nat} {i : Nat} (hT : ∀ i, i < n → T i ≤ 255) : ((0 : Int32) ≤ bI n T i - 97 ∧ bI n T i - 97 ≤ 23) ↔ (97 ≤ bN n T i ∧ bN n T i ≤ 120) := by
  unfold bI bN
  by_cases h : i < n
  · rw [if_pos h, if_pos h]; exact inB ⟨T i, by have := hT i h; omega⟩
  · rw [if_neg h, if_neg h]
    exact ⟨fun q => absurd q (by decide), fun q => by omega⟩
theorem bI_num {n : Nat} {T : Nat → Nat} {i c : Nat} (hT : ∀ i, i < n → T i ≤ 255) (hc : c ≤ 4) : ((1 : Int32) ≤ bI n T i - 48 ∧ bI n T i - 48 ≤ nI c) ↔ (49 ≤ bN n T i ∧ bN n T i ≤ 48 + c) := by
  unfold bI bN
  by_cases h : i < n
  · rw [if_pos h, if_pos h]; exact inD ⟨T i, by have := hT i h; omega⟩ ⟨c, by omega⟩
  · rw [if_neg h, if_neg h]
    exact ⟨fun q => absurd q.1 (by decide), fun q => by omega⟩
theorem bI_sub {n : Nat} {T : Nat → Nat} {i c : Nat} (h : c ≤ bN n T i) (h0 : 0 < c) : bI n T i - nI c = nI (bN n T i - c) := by
  unfold bI bN at *
  by_cases q : i < n
  · rw [if_pos q] at h ⊢
    rw [if_pos q, pk_sub h]
  · rw [if_neg q] at h; omega
theorem M_byteAt {M : Nat → Nat} (hM : jInj M) {F : jS} {μ : jMu} {n : Nat → Nat} {T : Nat → Nat → Nat} (hT : mT n T μ) {p i : Nat} (hp : p < 2) (hi : i < 100) {K : jS → Int32 → Prop} (h : K (mkM M F μ) (bI (n p) (T p) i)) : wp_X5_byteAt (mkM M F μ) (M 99) (nI p) (nI i) K := by
  obtain ⟨h1, h2, h3⟩ := hT p hp
  unfold wp_X5_byteAt wp_X5_byteAt_25
  rw [mr_0 hM, ml_0 hM, nI_clamp (by omega), h1]
  refine ⟨vp_in_nI (by omega) (by decide), ?_⟩
  rw [nI_leI (by omega) (by omega)]
  unfold bI at h
  refine ⟨fun c => ?_, fun c => ?_⟩
  · rw [if_neg (by omega)] at h; exact h
  · rw [if_pos (by omega)] at h
    have e : (31 : Int32) * nI p + nI i = nI (31 * p + i) := by rw [show (31 : Int32) = nI 31 from rfl, jmul, nI_add]
    rw [mr_1 hM, ml_1 hM, e, nI_clamp (by omega), (h3 i (by omega)).1]
    exact ⟨vp_in_nI (by omega) (by decide), h⟩
/-- what the first m parts of text p say, in the model's arrays -/
def mPt (p m n : Nat) (T : Nat → Nat) (μ : jMu) : Prop := ∀ e, e < m → μ.2 (3 + 4 * p) e = nI (bN n T (4 * e) - 97) ∧ μ.2 (4 + 4 * p) e = nI (kindN p (bN n T (4 * e + 1))) ∧ μ.2 (5 + 4 * p) e = nI (bN n T (4 * e + 2) - 48) ∧ partT p n T e = 3
theorem kindN_le {p b : Nat} : kindN p b ≤ 3 := by unfold kindN; split <;> (split <;> try (split <;> try split)) <;> omega
theorem mPt_up {p k n : Nat} {T : Nat → Nat} {μ : jMu} (h : mPt p k n T μ) (h3 : partT p n T k = 3) : mPt p (k + 1) n T (m2 (m2 (m2 μ (3 + 4 * p) k (nI (bN n T (4 * k) - 97))) (4 + 4 * p) k (nI (kindN p (bN n T (4 * k + 1))))) (5 + 4 * p) k (nI (bN n T (4 * k + 2) - 48))) := by
  intro e he
  rw [m2_off (c := 3 + 4 * p) (by omega), m2_off (c := 3 + 4 * p) (by omega), m2_at, m2_off (c := 4 + 4 * p) (by omega), m2_at, m2_off (c := 4 + 4 * p) (by omega), m2_at, m2_off (c := 5 + 4 * p) (by omega), m2_off (c := 5 + 4 * p) (by omega)]
  by_cases c : e = k
  · subst c
    rw [if_pos rfl, if_pos rfl, if_pos rfl]
    exact ⟨rfl, rfl, rfl, h3⟩
  · rw [if_neg c, if_neg c, if_neg c]
    exact h e (by omega)
theorem M_part {M : Nat → Nat} (hM : jInj M) {F : jS} {μ : jMu} {n : Nat → Nat} {T : Nat → Nat → Nat} (hT : mT n T μ) {p k : Nat} (hp : p < 2) (hk : k ≤ 8) (hm : mPt p k (n p) (T p) μ) {K : jS → Int32 → Prop}
    (h : ∀ ν, mfr [] (if p = 0 then [3, 4, 5] else [7, 8, 9]) μ ν → (partT p (n p) (T p) k = 3 → mPt p (k + 1) (n p) (T p) ν) → K (mkM M F ν) (nI (partT p (n p) (T p) k))) : wp_X5_readsPart (mkM M F μ) (M 99) (nI p) (nI k) (nI (4 * k)) K := by
  have hb : ∀ i, i < n p → T p i ≤ 255 := fun i hi => ((hT p hp).2.2 i hi).2
  have hmin := bI_min (n := n p) (T := T p) (i := 4 * k) hb
  have h97 : 97 ≤ bN (n p) (T p) (4 * k) → bI (n p) (T p) (4 * k) - 97 = nI (bN (n p) (T p) (4 * k) - 97) := fun q => bI_sub (c := 97) q (by decide)
  have h48 : 48 ≤ bN (n p) (T p) (4 * k + 2) → bI (n p) (T p) (4 * k + 2) - 48 = nI (bN (n p) (T p) (4 * k + 2) - 48) := fun q => bI_sub (c := 48) q (by decide)
  have k85 : ∀ (x3 : Int32), (kindN p (bN (n p) (T p) (4 * k + 1)) = 3 → x3 = -1) → (kindN p (bN (n p) (T p) (4 * k + 1)) ≠ 3 → x3 = nI (kindN p (bN (n p) (T p) (4 * k + 1)))) → wp_X5_readsPart_85 (mkM M F μ) x3 (M 99) (nI p) (nI k) (nI (4 * k)) (bI (n p) (T p) (4 * k) - 97) K := by
    intro x3 q1 q2
    unfold wp_X5_readsPart_85
    refine ⟨by rw [M_is hM]; trivial, ?_⟩
    rw [show nI (4 * k) + (2 : Int32) = nI (4 * k + 2) from nI_add (4 * k) 2]
    refine M_byteAt hM hT hp (by omega) ?_
    unfold wp_X5_readsPart_114
    rw [eN (a := k) 8 (x := 8) (by omega) (by decide) rfl]
    refine ⟨fun c => ?_, fun c => ?_⟩
    · have e : partT p (n p) (T p) k = 0 := by unfold partT partF; rw [if_pos (Or.inl c)]
      rw [e] at h
      exact h μ mfr.rf (fun q => by omega)
    unfold wp_X5_isMinute
    refine wp_in ⟨by split <;> decide, ?_⟩
    by_cases cm : 97 ≤ bN (n p) (T p) (4 * k) ∧ bN (n p) (T p) (4 * k) ≤ 120
    · rw [if_pos (hmin.mpr cm)]
      refine ⟨fun q => absurd q (by decide), fun _ => ?_⟩
      have e9 : ∀ x y, partF p k (bN (n p) (T p) (4 * k)) x y = if kindN p x = 3 then 1 else if ¬ (49 ≤ y ∧ y ≤ 51 + p) then 2 else 3 := fun x y => by unfold partF; rw [if_neg (by omega)]
      by_cases ck : kindN p (bN (n p) (T p) (4 * k + 1)) = 3
      · have e : partT p (n p) (T p) k = 1 := by unfold partT; rw [e9, if_pos ck]
        rw [e] at h
        rw [q1 ck]
        exact ⟨fun _ => h μ mfr.rf (fun q => by omega), fun q => absurd rfl q⟩
      · have x3e := q2 ck
        have k3 := kindN_le (p := p) (b := bN (n p) (T p) (4 * k + 1))
        have hx : x3 ≠ -1 := by
          rw [x3e]; intro q
          exact absurd (show (-1 : Int32) < 0 by decide) (by rw [← q]; exact nI_pos (by omega))
        refine ⟨fun q => absurd q hx, fun _ => ?_⟩
        have hnum := bI_num (n := n p) (T := T p) (i := 4 * k + 2) (c := 3 + p) hb (by omega)
        have k136 : wp_X5_readsPart_136 (mkM M F μ) (bI (n p) (T p) (4 * k + 2) - 48) 1 (nI (3 + p)) (M 99) (nI p) (nI k) (bI (n p) (T p) (4 * k) - 97) x3 (bI (n p) (T p) (4 * k + 2) - 48) K := by
          unfold wp_X5_readsPart_136 wp_X5_readsPart_199
          refine wp_in ?_
          by_cases cn : 49 ≤ bN (n p) (T p) (4 * k + 2) ∧ bN (n p) (T p) (4 * k + 2) ≤ 48 + (3 + p)
          · rw [if_pos (hnum.mpr cn)]
            refine ⟨fun q => absurd q (by decide), fun _ => ?_⟩
            have e : partT p (n p) (T p) k = 3 := by unfold partT; rw [e9, if_neg ck, if_neg (by omega)]
            rw [e] at h
            have ci : (nI k).toNatClampNeg = k := nI_clamp (by omega)
            have vi : vp_in (nI k) 9 := vp_in_nI (by omega) (by decide)
            rw [h97 cm.1, h48 (by omega), x3e, e0 (by omega)]
            refine ⟨fun c0 => ?_, fun c0 => ?_⟩
            · subst c0
              rw [mr_3 hM, ms_3 hM, ci, jnar0]
              refine ⟨vi, ?_⟩
              rw [mr_4 hM, ms_4 hM, ci, jnar0]
              refine ⟨vi, ?_⟩
              rw [mr_5 hM, ms_5 hM, ci, jnar0]
              refine ⟨vi, h _ (((mfr.rf.m2 (by decide)).m2 (by decide)).m2 (by decide)) (fun _ => mPt_up (p := 0) hm e)⟩
            · have e1 : p = 1 := by omega
              subst e1
              rw [mr_7 hM, ms_7 hM, ci, jnar0]
              refine ⟨vi, ?_⟩
              rw [mr_8 hM, ms_8 hM, ci, jnar0]
              refine ⟨vi, ?_⟩
              rw [mr_9 hM, ms_9 hM, ci, jnar0]
              refine ⟨vi, h _ (((mfr.rf.m2 (by decide)).m2 (by decide)).m2 (by decide)) (fun _ => mPt_up (p := 1) hm e)⟩
          · rw [if_neg (fun q => cn (hnum.mp q))]
            have e : partT p (n p) (T p) k = 2 := by unfold partT; rw [e9, if_neg ck, if_pos (by omega)]
            rw [e] at h
            exact ⟨fun _ => h μ mfr.rf (fun q => by omega), fun q => absurd rfl q⟩
        rw [e0 (by omega)]
        refine ⟨fun c0 => ?_, fun c0 => ?_⟩
        · subst c0; exact k136
        · have e : p = 1 := by omega
          subst e; exact k136
    · rw [if_neg (fun q => cm (hmin.mp q))]
      have e : partT p (n p) (T p) k = 0 := by unfold partT partF; rw [if_pos (Or.inr cm)]
      rw [e] at h
      exact ⟨fun _ => h μ mfr.rf (fun q => by omega), fun q => absurd rfl q⟩
  unfold wp_X5_readsPart
  refine ⟨by rw [M_is hM]; trivial, ?_⟩
  refine M_byteAt hM hT hp (by omega) ?_
  refine ⟨by rw [M_is hM]; trivial, ?_⟩
  rw [show nI (4 * k) + (1 : Int32) = nI (4 * k + 1) from nI_add (4 * k) 1]
  refine M_byteAt hM hT hp (by omega) ?_
  have ec : ∀ c : Nat, 0 < c → c ≤ 255 → (bI (n p) (T p) (4 * k + 1) = nI c) = (bN (n p) (T p) (4 * k + 1) = c) := fun c h1 h2 => bI_is hb h1 h2
  rw [show (107 : Int32) = nI 107 from rfl, show (98 : Int32) = nI 98 from rfl, show (99 : Int32) = nI 99 from rfl, show (119 : Int32) = nI 119 from rfl, show (100 : Int32) = nI 100 from rfl, ec 107 (by decide) (by decide), ec 98 (by decide) (by decide), ec 99 (by decide) (by decide), ec 119 (by decide) (by decide), ec 100 (by decide) (by decide), e0 (by omega)]
  generalize bN (n p) (T p) (4 * k + 1) = b at *
  unfold kindN at k85
  refine ⟨fun c0 => ?_, fun c0 => ?_⟩
  · rw [if_pos c0] at k85
    refine ⟨fun c => k85 0 (fun q => ?_) (fun q => ?_), fun c => ⟨fun d => k85 1 (fun q => ?_) (fun q => ?_), fun d => ⟨fun e => k85 2 (fun q => ?_) (fun q => ?_), fun e => k85 (-1) (fun q => rfl) (fun q => ?_)⟩⟩⟩
    · rw [if_pos c] at q; omega
    · rw [if_pos c]; rfl
    · rw [if_neg c, if_pos d] at q; omega
    · rw [if_neg c, if_pos d]; rfl
    · rw [if_neg c, if_neg d, if_pos e] at q; omega
    · rw [if_neg c, if_neg d, if_pos e]; rfl
    · rw [if_neg c, if_neg d, if_neg e] at q; exact absurd rfl q
  · rw [if_neg c0] at k85
    refine ⟨fun c => k85 0 (fun q => ?_) (fun q => ?_), fun c => ⟨fun d => k85 1 (fun q => ?_) (fun q => ?_), fun d => k85 (-1) (fun q => rfl) (fun q => ?_)⟩⟩
    · rw [if_pos c] at q; omega
    · rw [if_pos c]; rfl
    · rw [if_neg c, if_pos d] at q; omega
    · rw [if_neg c, if_pos d]; rfl
    · rw [if_neg c, if_neg d] at q; exact absurd rfl q
