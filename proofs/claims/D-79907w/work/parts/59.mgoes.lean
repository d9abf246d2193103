theorem jmul (a b : Nat) : nI a * nI b = nI (a * b) := pk_mul a b
/-- the model's loop that keeps the guests' states -/
theorem M_keep {M : Nat → Nat} (hM : jInj M) {F : jS} {τ : jMu} {I : jI} {s : jQg} (h16 : τ.1 16 = nI (I 0 1)) (hI : I 0 1 ≤ 8) (hQ : mQ I s τ) {t : Nat} (ht : t < 24) (hb : ∀ k, k < I 0 1 → s.1 0 k ≤ 4) {K : jS → Unit → Prop}
    (h : ∀ ν, mfr [] [35, 38, 39] τ ν → mQ I (wtG s.1, s.2) ν → (∀ j, ν.2 38 j = if 8 * t ≤ j ∧ j < 8 * t + I 0 1 then nI (s.1 0 (j - 8 * t)) else τ.2 38 j) → (∀ j, ν.2 39 j = if 8 * t ≤ j ∧ j < 8 * t + I 0 1 then nI (s.1 1 (j - 8 * t)) else τ.2 39 j) → K (mkM M F ν) ()) : ∃ n : Nat, jlp n (wp_X5_goesBy_283_L (M 99) (nI t) K) (mkM M F τ, 0) := by
  obtain ⟨q1, q2, q3⟩ := hQ
  refine jl_loop (fun i (z : jS × Int32) => ∃ ν, z = (mkM M F ν, nI i) ∧ mfr [] [35, 38, 39] τ ν ∧ (∀ j, ν.2 38 j = if 8 * t ≤ j ∧ j < 8 * t + i then nI (s.1 0 (j - 8 * t)) else τ.2 38 j) ∧ (∀ j, ν.2 39 j = if 8 * t ≤ j ∧ j < 8 * t + i then nI (s.1 1 (j - 8 * t)) else τ.2 39 j) ∧ ∀ j, j < I 0 1 → ν.2 35 j = nI (s.1 4 j + if j < i ∧ s.1 0 j = 1 then 1 else 0)) (I 0 1) ?_ ?_ ⟨τ, rfl, mfr.rf, fun j => by rw [if_neg (by omega)], fun j => by rw [if_neg (by omega)], fun j hj => by rw [if_neg (by omega)]; exact (q3 j hj).2.2.2.2⟩
  · rintro i z hi ⟨ν, rfl, f, v38, v39, v35⟩ Kc hKc
    obtain ⟨c31, c32, c33, c34, c35⟩ := q3 i hi
    have b0 := hb i hi
    have ci : (nI i).toNatClampNeg = i := nI_clamp (by omega)
    have vi : vp_in (nI i) 8 := vp_in_nI (by omega) (by decide)
    have ex : (8 : Int32) * nI t + nI i = nI (8 * t + i) := by rw [show (8 : Int32) = nI 8 from rfl, jmul, nI_add]
    have cx : (nI (8 * t + i)).toNatClampNeg = 8 * t + i := nI_clamp (by omega)
    have vx : vp_in (nI (8 * t + i)) 192 := vp_in_nI (by omega) (by decide)
    show wp_X5_goesBy_283 _ _ _ _ _ _
    unfold wp_X5_goesBy_283
    rw [mg_16 hM, f.1 16 (by decide), h16]
    refine ⟨fun c => absurd c (nI_ge hi (by omega)), fun _ => ?_⟩
    rw [mr_38 hM, mr_31 hM, ml_31 hM, ci, f.2 31 (by decide), c31, ms_38 hM, ex, cx, jnar0]
    refine ⟨vi, vx, ?_⟩
    rw [mr_39 hM, mr_32 hM, ml_32 hM, ci, m2_off (by decide), f.2 32 (by decide), c32, ms_39 hM, cx, jnar0]
    refine ⟨vi, vx, ?_⟩
    rw [mr_35 hM, ml_35 hM, ci, m2_off (by decide), m2_off (by decide), v35 i hi, if_neg (by omega)]
    refine ⟨vi, ?_⟩
    rw [mr_31 hM, ml_31 hM, ci, m2_off (by decide), m2_off (by decide), f.2 31 (by decide), c31]
    refine ⟨vi, ?_⟩
    have fin : ∀ d : Nat, d = (if s.1 0 i = 1 then 1 else 0) → wp_X5_goesBy_354 (mkM M F (m2 (m2 ν 38 (8 * t + i) (nI (s.1 0 i))) 39 (8 * t + i) (nI (s.1 1 i)))) (M 35) (nI i) (nI (s.1 4 i + 0)) (nI d) (M 99) (nI t) (nI i) Kc K := by
      intro d hd
      unfold wp_X5_goesBy_354
      rw [ms_35 hM, ci, jnar0, nI_add, ← nI_succ]
      refine ⟨vi, hKc _ ⟨_, rfl, ((f.m2 (by decide)).m2 (by decide)).m2 (by decide), fun j => ?_, fun j => ?_, fun j hj => ?_⟩⟩
      · rw [m2_off (by decide), m2_off (by decide), m2_at, v38]
        by_cases e : j = 8 * t + i
        · rw [if_pos e, if_pos (by omega), show j - 8 * t = i by omega]
        · rw [if_neg e]
          by_cases e2 : 8 * t ≤ j ∧ j < 8 * t + i
          · rw [if_pos e2, if_pos (by omega)]
          · rw [if_neg e2, if_neg (by omega)]
      · rw [m2_off (by decide), m2_at, m2_off (by decide), v39]
        by_cases e : j = 8 * t + i
        · rw [if_pos e, if_pos (by omega), show j - 8 * t = i by omega]
        · rw [if_neg e]
          by_cases e2 : 8 * t ≤ j ∧ j < 8 * t + i
          · rw [if_pos e2, if_pos (by omega)]
          · rw [if_neg e2, if_neg (by omega)]
      · rw [m2_at, m2_off (by decide), m2_off (by decide), v35 j hj]
        by_cases e : j = i
        · subst e
          rw [if_pos rfl, hd]
          by_cases e3 : s.1 0 j = 1
          · rw [if_pos e3, if_pos ⟨by omega, e3⟩]
          · rw [if_neg e3, if_neg (fun q => e3 q.2)]
        · rw [if_neg e]
          by_cases e2 : j < i ∧ s.1 0 j = 1
          · rw [if_pos e2, if_pos ⟨by omega, e2.2⟩]
          · rw [if_neg e2, if_neg (fun q => e2 ⟨by omega, q.2⟩)]
    rw [eN (a := s.1 0 i) 1 (x := 1) (by omega) (by decide) rfl]
    exact ⟨fun c => fin 1 (by rw [if_pos c]), fun c => fin 0 (by rw [if_neg c])⟩
  · rintro z ⟨ν, rfl, f, v38, v39, v35⟩ Kc
    show wp_X5_goesBy_283 _ _ _ _ _ _
    unfold wp_X5_goesBy_283
    rw [mg_16 hM, f.1 16 (by decide), h16]
    refine ⟨fun _ => h ν f ⟨by rw [f.1 29 (by decide)]; exact q1, fun i hi => by rw [f.2 30 (by decide)]; exact q2 i hi, fun k hk => ?_⟩ v38 v39, fun c => absurd (nI_le (Nat.le_refl _) (by omega)) c⟩
    obtain ⟨c31, c32, c33, c34, c35⟩ := q3 k hk
    rw [f.2 31 (by decide), f.2 32 (by decide), f.2 33 (by decide), f.2 34 (by decide), v35 k hk]
    refine ⟨c31, c32, c33, c34, ?_⟩
    show _ = nI (if (4 : Nat) = 4 then s.1 4 k + (if s.1 0 k = 1 then 1 else 0) else s.1 4 k)
    rw [if_pos rfl]
    by_cases e : s.1 0 k = 1
    · rw [if_pos e, if_pos ⟨hk, e⟩]
    · rw [if_neg e, if_neg (fun q => e q.2)]
theorem M_min181 {M : Nat → Nat} (hM : jInj M) {F : jS} {μ : jMu} {I : jI} {s : jQg} (hG : mGs I μ) (hQ : mQ I s μ) (hw : wfQ I s) {t h w b f o who : Nat} (ht : t < 24) (h22 : μ.1 22 = nI h) (h23 : μ.1 23 = nI w) (h24 : μ.1 24 = nI b) (ho : o ≤ 1) (hb : ∀ k, k < I 0 1 → s.1 0 k ≤ 4 ∧ s.1 3 k ≤ t) {K : jS → Unit → Prop}
    (hk : ∀ ν, mfr [29] [30, 31, 35, 36, 37, 38, 39] μ ν → mQ I (wtG (awayG t s.2 s.1), awayL t s.1 s.2) ν → (∀ j, ν.2 36 j = if j = 6 * t then nI h else if j = 6 * t + 1 then nI w else if j = 6 * t + 2 then nI b else if j = 6 * t + 3 then nI f else if j = 6 * t + 4 then nI o else if j = 6 * t + 5 then nM who else μ.2 36 j) → (∀ j, ν.2 37 j = if j = t then nI (awayL t s.1 s.2).length else μ.2 37 j) →
      (∀ j, ν.2 38 j = if 8 * t ≤ j ∧ j < 8 * t + I 0 1 then nI (awayG t s.2 s.1 0 (j - 8 * t)) else μ.2 38 j) → (∀ j, ν.2 39 j = if 8 * t ≤ j ∧ j < 8 * t + I 0 1 then nI (awayG t s.2 s.1 1 (j - 8 * t)) else μ.2 39 j) → K (mkM M F ν) ()) : wp_X5_goesBy_181 (mkM M F μ) (nM who) (M 99) (nI t) (nI f) (nI o) K := by
  unfold wp_X5_goesBy_181
  refine ⟨by rw [M_is hM]; trivial, ?_⟩
  refine M_goAway hM hG.2.1 hQ hw ht (fun k hk => (hb k hk).2) (fun ρ fr q => ?_)
  have e6 : (6 : Int32) * nI t = nI (6 * t) := by rw [show (6 : Int32) = nI 6 from rfl, jmul]
  have x0 : (nI (6 * t)).toNatClampNeg = 6 * t := nI_clamp (by omega)
  have v0 : vp_in (nI (6 * t)) 144 := vp_in_nI (by omega) (by decide)
  have ex : ∀ c : Nat, (nI (6 * t) + nI c : Int32) = nI (6 * t + c) := fun c => nI_add _ _
  have xc : ∀ c : Nat, c < 6 → (nI (6 * t + c)).toNatClampNeg = 6 * t + c := fun c hc => nI_clamp (by omega)
  have vc : ∀ c : Nat, c < 6 → vp_in (nI (6 * t + c)) 144 := fun c hc => vp_in_nI (by omega) (by decide)
  rw [mr_36 hM, mg_22 hM, fr.1 22 (by decide), h22, ms_36 hM, e6, x0, jnar0]
  refine ⟨v0, ?_⟩
  rw [mr_36 hM, mg_23 hM, show (m2 ρ 36 (6 * t) (nI h)).1 23 = ρ.1 23 from rfl, fr.1 23 (by decide), h23, ms_36 hM, show (1 : Int32) = nI 1 from rfl, ex, xc 1 (by omega), jnar0]
  refine ⟨vc 1 (by omega), ?_⟩
  rw [mr_36 hM, mg_24 hM, show (m2 (m2 ρ 36 (6 * t) (nI h)) 36 (6 * t + 1) (nI w)).1 24 = ρ.1 24 from rfl, fr.1 24 (by decide), h24, ms_36 hM, show (2 : Int32) = nI 2 from rfl, ex, xc 2 (by omega), jnar0]
  refine ⟨vc 2 (by omega), ?_⟩
  rw [mr_36 hM, ms_36 hM, show (3 : Int32) = nI 3 from rfl, ex, xc 3 (by omega), jnar0]
  refine ⟨vc 3 (by omega), ?_⟩
  rw [mr_36 hM]
  have fin : wp_X5_goesBy_258 (mkM M F (m2 (m2 (m2 (m2 ρ 36 (6 * t) (nI h)) 36 (6 * t + 1) (nI w)) 36 (6 * t + 2) (nI b)) 36 (6 * t + 3) (nI f))) (M 36) (nI (6 * t + 4)) (nI o) (M 99) (nI t) (nM who) (nI (6 * t)) K := by
    unfold wp_X5_goesBy_258
    rw [ms_36 hM, xc 4 (by omega), jnar0]
    refine ⟨vc 4 (by omega), ?_⟩
    rw [mr_36 hM, ms_36 hM, show (5 : Int32) = nI 5 from rfl, ex, xc 5 (by omega), jnar0]
    refine ⟨vc 5 (by omega), ?_⟩
    generalize hσ : m2 (m2 (m2 (m2 (m2 (m2 ρ 36 (6 * t) (nI h)) 36 (6 * t + 1) (nI w)) 36 (6 * t + 2) (nI b)) 36 (6 * t + 3) (nI f)) 36 (6 * t + 4) (nI o)) 36 (6 * t + 5) (nM who) = σ
    have fσ : mfr [] [36] ρ σ := by rw [← hσ]; exact (((((mfr.rf.m2 (by decide)).m2 (by decide)).m2 (by decide)).m2 (by decide)).m2 (by decide)).m2 (by decide)
    have σ36 : ∀ j, σ.2 36 j = if j = 6 * t then nI h else if j = 6 * t + 1 then nI w else if j = 6 * t + 2 then nI b else if j = 6 * t + 3 then nI f else if j = 6 * t + 4 then nI o else if j = 6 * t + 5 then nM who else ρ.2 36 j := by
      intro j
      rw [← hσ, m2_at, m2_at, m2_at, m2_at, m2_at, m2_at]
      by_cases c0 : j = 6 * t
      · rw [if_neg (by omega), if_neg (by omega), if_neg (by omega), if_neg (by omega), if_neg (by omega), if_pos c0, if_pos c0]
      · rw [if_neg c0, if_neg c0]
        by_cases c1 : j = 6 * t + 1
        · rw [if_neg (by omega), if_neg (by omega), if_neg (by omega), if_neg (by omega), if_pos c1, if_pos c1]
        · rw [if_neg c1, if_neg c1]
          by_cases c2 : j = 6 * t + 2
          · rw [if_neg (by omega), if_neg (by omega), if_neg (by omega), if_pos c2, if_pos c2]
          · rw [if_neg c2, if_neg c2]
            by_cases c3 : j = 6 * t + 3
            · rw [if_neg (by omega), if_neg (by omega), if_pos c3, if_pos c3]
            · rw [if_neg c3, if_neg c3]
              by_cases c4 : j = 6 * t + 4
              · rw [if_neg (by omega), if_pos c4, if_pos c4]
              · rw [if_neg c4, if_neg c4]
    clear hσ
    rw [mr_37 hM, mg_29 hM, fσ.1 29 (by decide), q.1, ms_37 hM, nI_clamp (by omega), jnar0]
    refine ⟨vp_in_nI (by omega) (by decide), ?_⟩
    have fτ : mfr [29] [30, 31, 36, 37] μ (m2 σ 37 t (nI (awayL t s.1 s.2).length)) := ((fr.mono (by decide) (by decide)).tr (fσ.mono (by decide) (by decide))).m2 (by decide)
    refine M_keep hM (s := (awayG t s.2 s.1, awayL t s.1 s.2)) (I := I) (by rw [fτ.1 16 (by decide)]; exact hG.1) hG.2.1 ?_ ht (fun k hk => ?_) (fun ν f2 q2 n38 n39 => ?_)
    · refine ⟨by show σ.1 29 = _; rw [fσ.1 29 (by decide)]; exact q.1, fun i hi => ?_, fun k hk => ?_⟩
      · rw [m2_off (by decide), fσ.2 30 (by decide)]; exact q.2.1 i hi
      · rw [m2_off (by decide), m2_off (by decide), m2_off (by decide), m2_off (by decide), m2_off (by decide), fσ.2 31 (by decide), fσ.2 32 (by decide), fσ.2 33 (by decide), fσ.2 34 (by decide), fσ.2 35 (by decide)]
        exact q.2.2 k hk
    · have := (hb k hk).1
      show awayG t s.2 s.1 0 k ≤ 4
      unfold awayG
      split <;> omega
    · refine hk ν ((fτ.mono (by decide) (by decide)).tr (f2.mono (by decide) (by decide))) q2 (fun j => ?_) (fun j => ?_) (fun j => ?_) (fun j => ?_)
      · rw [f2.2 36 (by decide), m2_off (by decide), σ36, fr.2 36 (by decide)]
      · rw [f2.2 37 (by decide), m2_at, fσ.2 37 (by decide), fr.2 37 (by decide)]
      · rw [n38, m2_off (by decide), fσ.2 38 (by decide), fr.2 38 (by decide)]
      · rw [n39, m2_off (by decide), fσ.2 39 (by decide), fr.2 39 (by decide)]
  rw [show (4 : Int32) = nI 4 from rfl, ex, e0 (by omega)]
  refine ⟨fun c => ?_, fun c => ?_⟩
  · subst c; exact fin
  · have e : o = 1 := by omega
    subst e
    unfold wp_X5_goesBy_254
    exact fin
