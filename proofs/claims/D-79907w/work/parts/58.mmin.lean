theorem fireS_le {I : jI} {t : Nat} : ∀ {n : Nat}, (∀ e, e < n → I 3 e ≤ 3) → fireS I t n ≤ 12 * n
  | 0, _ => Nat.zero_le _
  | n + 1, h => by
    have h1 := fireS_le (I := I) (t := t) (n := n) (fun e he => h e (by omega))
    have h2 := h n (Nat.lt_succ_self n)
    have h3 : gives (I 2 n) ≤ 4 := by unfold gives; split <;> omega
    have h4 : I 3 n * gives (I 2 n) ≤ 3 * 4 := Nat.mul_le_mul h2 h3
    show fireS I t n + _ ≤ _
    split <;> omega
theorem heatI {h f q : Nat} (hh : h ≤ 100) (hf : f ≤ 200) (hq : q ≤ 10) {K : Int32 → Prop} (c1 : ∀ x : Nat, h + f = x + (2 + q) → K (nI x)) (c2 : h + f < 2 + q → ∀ v : Int32, v < 0 → K v) : K (nI h + ((nI f - 2) - nI q)) := by
  have e : nI h + ((nI f - 2) - nI q) = nI (h + f) - nI (2 + q) := by
    rw [← nI_add, ← nI_add]
    show _ = nI h + nI f - (2 + nI q)
    grind
  rw [e]
  by_cases c : 2 + q ≤ h + f
  · rw [pk_sub c]
    exact c1 _ (by omega)
  · exact c2 (by omega) _ (pk_sneg (by omega) (by omega))
theorem nM_m1 {f : Nat} (hf : f ≤ 100) : (nM f = -1) = (f = 0) := by
  apply propext
  unfold nM
  split
  · exact ⟨fun _ => by assumption, fun _ => rfl⟩
  · refine ⟨fun h => ?_, fun h => by contradiction⟩
    have h1 : ¬ nI (f - 1) < 0 := nI_pos (by omega)
    rw [h] at h1
    exact absurd (by decide) h1
/-- the run's numbers ahead of the guests' coming: heat, water, brew, boot, steamed -/
def mH (μ : jMu) (h w b bo st : Nat) (ν : jMu) : Prop := mfr [22, 23, 24, 25, 26] [] μ ν ∧ ν.1 22 = nI h ∧ ν.1 23 = nI w ∧ ν.1 24 = nI b ∧ ν.1 25 = nI bo ∧ ν.1 26 = nI st
theorem m4_fr {μ : jMu} {s : jB} : mfr [22, 23, 24, 25, 26] [] μ (m4 μ s) := by
  refine ⟨fun j hj => ?_, fun j hj => rfl⟩
  unfold m4
  simp only [List.mem_cons, List.not_mem_nil, or_false, not_or] at hj
  dsimp only
  rw [if_neg hj.1, if_neg hj.2.1, if_neg hj.2.2.1, if_neg hj.2.2.2.1]
theorem M_min60 {M : Nat → Nat} (hM : jInj M) {F : jS} {μ : jMu} {s : jB} {v : Int32} {H st : Nat} {t f : Nat} (hs : bfOk s) (hH : H ≤ 100) (hst : st ≤ 100) (h26 : μ.1 26 = nI st) {K : jS → Unit → Prop}
    (h : ∀ ν, mH μ H (s.2.1 - (if H = 100 ∧ 0 < s.2.1 then 1 else 0)) s.2.2.1 s.2.2.2 (st + (if H = 100 ∧ 0 < s.2.1 then 1 else 0)) ν → wp_X5_goesBy_99 (mkM M F ν) (M 99) (nI t) (nI f) K) : wp_X5_goesBy_60 (mkM M F (m1 (m4 μ s) 22 v)) (M 99) (nI H) (M 99) (nI t) (nI f) K := by
  obtain ⟨s1, s2, s3, s4⟩ := hs
  have e1 : m1 (m1 (m4 μ s) 22 v) 22 (nI H) = m4 μ (H, s.2.1, s.2.2.1, s.2.2.2) := by
    refine Eq.trans ?_ (m4_22 μ s H)
    refine Prod.ext (funext fun j => ?_) rfl
    show upd (upd (m4 μ s).1 22 v) 22 (nI H) j = upd (m4 μ s).1 22 (nI H) j
    unfold upd
    by_cases e : j = 22
    · rw [if_pos e, if_pos e]
    · rw [if_neg e, if_neg e, if_neg e]
  unfold wp_X5_goesBy_60
  rw [mp_22 hM, e1, mg_22 hM, show (m4 μ (H, s.2.1, s.2.2.1, s.2.2.2)).1 22 = nI H from rfl, eN (a := H) 100 (x := 100) (by omega) (by decide) rfl]
  have g26 : ∀ q : jB, (m4 μ q).1 26 = nI st := fun q => h26
  refine ⟨fun c => ?_, fun c => ?_⟩
  · rw [mg_23 hM, show (m4 μ (H, s.2.1, s.2.2.1, s.2.2.2)).1 23 = nI s.2.1 from rfl, show (0 : Int32) = nI 0 from rfl, nI_leI (by omega) (by decide)]
    refine ⟨fun c2 => ?_, fun c2 => ?_⟩
    · rw [if_neg (fun q => by omega)] at h
      exact h _ ⟨m4_fr, rfl, rfl, rfl, rfl, g26 _⟩
    · rw [if_pos ⟨c, by omega⟩] at h
      rw [mg_23 hM, show (m4 μ (H, s.2.1, s.2.2.1, s.2.2.2)).1 23 = nI s.2.1 from rfl, mp_23 hM, show nI s.2.1 - 1 = nI (s.2.1 - 1) from pk_sub (b := 1) (by omega), m4_23, mg_26 hM, g26, mp_26 hM, ← nI_succ]
      exact h _ ⟨m4_fr.m1 (by decide), rfl, rfl, rfl, rfl, m1_at⟩
  · rw [if_neg (fun q => c q.1)] at h
    exact h _ ⟨m4_fr, rfl, rfl, rfl, rfl, g26 _⟩
theorem M_min99 {M : Nat → Nat} (hM : jInj M) {F : jS} {ν : jMu} {h w t f : Nat} (h22 : ν.1 22 = nI h) (h23 : ν.1 23 = nI w) (hh : h ≤ 100) (hw : w ≤ 30) {K : jS → Unit → Prop} (hk : wp_X5_goesBy_120 (mkM M F ν) (nI (if 80 ≤ h ∧ 0 < w then 1 else 0)) (M 99) (nI t) (nI f) K) : wp_X5_goesBy_99 (mkM M F ν) (M 99) (nI t) (nI f) K := by
  unfold wp_X5_goesBy_99 wp_X5_goesBy_119
  rw [mg_22 hM, h22, show (80 : Int32) = nI 80 from rfl, nI_ltI (by omega) (by decide)]
  refine ⟨fun c => ?_, fun c => ?_⟩
  · rw [if_neg (fun q => by omega)] at hk; exact hk
  · rw [mg_23 hM, h23, show (0 : Int32) = nI 0 from rfl, nI_leI (by omega) (by decide)]
    refine ⟨fun c2 => ?_, fun c2 => ?_⟩
    · rw [if_neg (fun q => by omega)] at hk; exact hk
    · rw [if_pos (by omega)] at hk; exact hk
theorem M_min120 {M : Nat → Nat} (hM : jInj M) {F : jS} {ν : jMu} {o bo fi t f : Nat} (ho : o ≤ 1) (h27 : ν.1 27 = nI bo) (h28 : ν.1 28 = nM fi) (hfi : fi ≤ 100) {K : jS → Unit → Prop}
    (hk : ∀ ρ, mfr [27, 28] [] ν ρ → ρ.1 27 = nI (bo + o) → ρ.1 28 = nM (if o = 1 ∧ fi = 0 then t + 1 else fi) → jis 8 (mkM M F ρ) (M 99) ∧ wp_X5_comes (mkM M F ρ) (M 99) (nI t) (fun S2 _ => ((nI o = 0) → wp_X5_goesBy_181 S2 (-1) (M 99) (nI t) (nI f) (nI o) K) ∧ ((¬ (nI o = 0)) → jis 8 S2 (M 99) ∧ wp_X5_serves S2 (M 99) (nI t) (fun S3 r4 => wp_X5_goesBy_181 S3 r4 (M 99) (nI t) (nI f) (nI o) K)))) : wp_X5_goesBy_120 (mkM M F ν) (nI o) (M 99) (nI t) (nI f) K := by
  have h160 : ∀ (τ : jMu) (x : Nat), mfr [27, 28] [] ν τ → τ.1 27 = nI (bo + o) → x = (if o = 1 ∧ fi = 0 then t + 1 else fi) → wp_X5_goesBy_160 (mkM M F τ) (M 99) (nM x) (M 99) (nI t) (nI f) (nI o) K := by
    intro τ x fτ t27 hx
    unfold wp_X5_goesBy_160
    rw [mp_28 hM]
    refine hk _ (fτ.m1 (by decide)) (by rw [m1_off (by decide)]; exact t27) (by rw [m1_at, hx])
  have h135 : wp_X5_goesBy_135 (mkM M F ν) (M 99) (nI bo) (nI o) (M 99) (nI t) (nI f) (nI o) K := by
    unfold wp_X5_goesBy_135 wp_X5_goesBy_156
    rw [mp_27 hM, nI_add, e0 (by omega)]
    have f1 : mfr [27, 28] [] ν (m1 ν 27 (nI (bo + o))) := mfr.rf.m1 (by decide)
    have g28 : (m1 ν 27 (nI (bo + o))).1 28 = nM fi := h28
    refine ⟨fun c => ?_, fun c => ?_⟩
    · rw [mg_28 hM, g28]
      exact h160 _ fi f1 m1_at (by rw [if_neg (fun q => by omega)])
    · rw [mg_28 hM, g28, nM_m1 hfi]
      refine ⟨fun c2 => ?_, fun c2 => ?_⟩
      · have := h160 _ (t + 1) f1 m1_at (by rw [if_pos (by omega)])
        exact this
      · rw [mg_28 hM, g28]
        exact h160 _ fi f1 m1_at (by rw [if_neg (fun q => c2 q.2)])
  unfold wp_X5_goesBy_120
  rw [mg_27 hM, h27]
  rw [e0 (by omega)]
  refine ⟨fun c => ?_, fun c => ?_⟩
  · subst c; exact h135
  · have e : o = 1 := by omega
    subst e
    exact h135
