theorem erD (L : List Nat) (p j : Nat) : (L.eraseIdx p).getD j 0 = if j < p then L.getD j 0 else L.getD (j + 1) 0 := by
  rw [List.getD_eq_getElem?_getD, List.getElem?_eraseIdx]
  split
  · rw [List.getD_eq_getElem?_getD]
  · rw [List.getD_eq_getElem?_getD]
theorem M_leaves {M : Nat → Nat} (hM : jInj M) {F : jS} {μ : jMu} {L : List Nat} (hn : L.length ≤ 8) (h29 : μ.1 29 = nI L.length) (h30 : ∀ i, i < L.length → μ.2 30 i = nI (L.getD i 0)) {p : Nat} (hp : p < L.length) {K : jS → Unit → Prop} (h : ∀ ν, mfr [29] [30] μ ν → ν.1 29 = nI (L.eraseIdx p).length → (∀ i, i < (L.eraseIdx p).length → ν.2 30 i = nI ((L.eraseIdx p).getD i 0)) → K (mkM M F ν) ()) : wp_X5_leaves (mkM M F μ) (M 99) (nI p) K := by
  have hlen : (L.eraseIdx p).length = L.length - 1 := List.length_eraseIdx_of_lt hp
  unfold wp_X5_leaves
  refine jl_loop (fun r (z : jS × Int32) => ∃ ν, z = (mkM M F ν, nI (p + r)) ∧ mfr [] [30] μ ν ∧ ∀ i, i < L.length → ν.2 30 i = nI (if i < p + r then (L.eraseIdx p).getD i 0 else L.getD i 0)) (L.length - 1 - p) ?_ ?_ ⟨μ, rfl, mfr.rf, fun i hi => ?_⟩
  · rintro r z hr ⟨ν, rfl, f, q⟩ Kc hKc
    show wp_X5_leaves_2 _ _ _ _ _
    unfold wp_X5_leaves_2 wp_X5_leaves_17
    have f29 : ν.1 29 = nI L.length := (f.1 29 (by decide)).trans h29
    rw [mg_29 hM, f29, ← nI_succ]
    refine ⟨fun c => absurd c (nI_ge (by omega) (by omega)), fun _ => ?_⟩
    rw [mr_30 hM, mr_30 hM, ml_30 hM, nI_clamp (by omega)]
    refine ⟨vp_in_nI (by omega) (by decide), ?_⟩
    rw [ms_30 hM, nI_clamp (by omega), jnar0]
    refine ⟨vp_in_nI (by omega) (by decide), hKc _ ⟨_, by rw [Nat.add_assoc], f.m2 (by decide), fun i hi => ?_⟩⟩
    rw [m2_at]
    by_cases e : i = p + r
    · rw [if_pos e, if_pos (by omega), q _ (by omega), if_neg (by omega), erD, if_neg (by omega), e]
      rfl
    · rw [if_neg e, q i hi]
      by_cases e2 : i < p + r
      · rw [if_pos e2, if_pos (by omega)]
      · rw [if_neg e2, if_neg (by omega)]
  · rintro z ⟨ν, rfl, f, q⟩ Kc
    show wp_X5_leaves_2 _ _ _ _ _
    unfold wp_X5_leaves_2 wp_X5_leaves_37
    have f29 : ν.1 29 = nI L.length := (f.1 29 (by decide)).trans h29
    rw [mg_29 hM, f29, ← nI_succ]
    refine ⟨fun _ => ?_, fun c => absurd (nI_le (by omega) (by omega)) c⟩
    rw [mg_29 hM, f29, mp_29 hM, show nI L.length - 1 = nI (L.length - 1) from pk_sub (b := 1) (by omega)]
    refine h _ ((f.mono (fun _ h => by cases h) (fun _ h => h)).m1 (by decide)) (by rw [m1_at, hlen]) (fun i hi => ?_)
    rw [hlen] at hi
    show ν.2 30 i = _
    rw [q i (by omega), if_pos (by omega)]
  · rw [h30 i hi]
    by_cases e : i < p
    · rw [if_pos (by omega), erD, if_pos e]
    · rw [if_neg (by omega)]
theorem nd_get {L : List Nat} (h : L.Nodup) {i j : Nat} (hi : i < L.length) (hj : j < L.length) (e : L.getD i 0 = L.getD j 0) : i = j := by
  rw [List.getD_eq_getElem?_getD, List.getD_eq_getElem?_getD, List.getElem?_eq_getElem hi, List.getElem?_eq_getElem hj] at e
  have e : L[i] = L[j] := e
  rcases Nat.lt_trichotomy i j with c | c | c
  · exact absurd e (List.pairwise_iff_getElem.mp h i j hi hj c)
  · exact c
  · exact absurd e.symm (List.pairwise_iff_getElem.mp h j i hj hi c)
theorem getD_mem {L : List Nat} {i : Nat} (hi : i < L.length) : L.getD i 0 ∈ L := by
  rw [List.getD_eq_getElem?_getD, List.getElem?_eq_getElem hi]
  exact List.getElem_mem hi
/-- out of the line, with another state -/
theorem wfQ.out {I : jI} {s : jQg} (h : wfQ I s) {p : Nat} (hp : p < s.2.length) {g : Nat → Nat → Nat} (h1 : g 0 (s.2.getD p 0) ≠ 1) (h2 : ∀ k, k ≠ s.2.getD p 0 → g 0 k = s.1 0 k) : wfQ I (g, s.2.eraseIdx p) := by
  have hmem : ∀ k, k ∈ s.2.eraseIdx p ↔ k ∈ s.2 ∧ k ≠ s.2.getD p 0 := by
    intro k
    rw [List.mem_eraseIdx_iff_getElem?]
    constructor
    · rintro ⟨i, hi, hk⟩
      have hil : i < s.2.length := (List.getElem?_eq_some_iff.mp hk).1
      have hv : s.2.getD i 0 = k := by rw [List.getD_eq_getElem?_getD, hk]; rfl
      exact ⟨List.mem_of_getElem? hk, fun e => hi (nd_get h.1 hil hp (hv.trans e))⟩
    · rintro ⟨h9, h8⟩
      obtain ⟨i, hi⟩ := List.getElem?_of_mem h9
      exact ⟨i, fun e => h8 (by rw [List.getD_eq_getElem?_getD, ← e, hi]; rfl), hi⟩
  refine ⟨h.1.sublist (List.eraseIdx_sublist _ _), fun k hk => h.2.1 k ((hmem k).mp hk).1, fun k hk => ?_⟩
  show k ∈ s.2.eraseIdx p ↔ g 0 k = 1
  rw [hmem k]
  by_cases e : k = s.2.getD p 0
  · subst e
    exact ⟨fun q => absurd rfl q.2, fun q => absurd q h1⟩
  · rw [h2 k e, h.2.2 k hk]
    exact ⟨fun q => q.1, fun q => ⟨q, e⟩⟩
theorem servI_lt {I : jI} {b : Nat} : ∀ {L : List Nat} {p : Nat}, servI I b L = some p → p < L.length ∧ needs (I 5 (L.getD p 0)) ≤ b
  | [], p, h => by cases h
  | k :: l, p, h => by
    unfold servI at h
    split at h
    · cases h
      exact ⟨Nat.zero_lt_succ _, by assumption⟩
    · cases hq : servI I b l with
      | none => rw [hq] at h; cases h
      | some q =>
        rw [hq] at h
        cases h
        obtain ⟨a1, a2⟩ := servI_lt hq
        exact ⟨Nat.succ_lt_succ a1, a2⟩
theorem servI_drop {I : jI} {b : Nat} : ∀ {L : List Nat} {i : Nat}, i ≤ L.length → (∀ j, j < i → ¬ needs (I 5 (L.getD j 0)) ≤ b) → servI I b L = (servI I b (L.drop i)).map (· + i)
  | L, 0, _, _ => by
    show _ = (servI I b L).map (· + 0)
    cases servI I b L <;> rfl
  | [], i + 1, h, _ => absurd h (Nat.not_succ_le_zero _)
  | k :: l, i + 1, h, hn => by
    have h0 : ¬ needs (I 5 k) ≤ b := hn 0 (Nat.zero_lt_succ _)
    have h1 := servI_drop (I := I) (b := b) (L := l) (i := i) (Nat.le_of_succ_le_succ h) (fun j hj => hn (j + 1) (Nat.succ_lt_succ hj))
    show (if needs (I 5 k) ≤ b then some 0 else (servI I b l).map (· + 1)) = (servI I b (l.drop i)).map (· + (i + 1))
    rw [if_neg h0, h1]
    cases servI I b (l.drop i) <;> rfl
/-- who, as the machine's number -/
def nM (n : Nat) : Int32 := if n = 0 then -1 else nI (n - 1)
theorem M_serves {M : Nat → Nat} (hM : jInj M) {F : jS} {μ : jMu} {I : jI} {s : jQg} (hG : mGs I μ) (hQ : mQ I s μ) (hw : wfQ I s) {t w b : Nat} (ht : t < 24) (h23 : μ.1 23 = nI w) (h24 : μ.1 24 = nI b) (w0 : 0 < w) (w9 : w ≤ 30) (b9 : b ≤ 40) (hb : ∀ k, k < I 0 1 → s.1 0 k ≤ 4 ∧ s.1 1 k ≤ 30) {K : jS → Int32 → Prop}
    (h : ∀ ν, mfr [23, 24, 29] [30, 31, 32, 33] μ ν → ν.1 23 = nI (servS I t w b s).1 → ν.1 24 = nI (servS I t w b s).2.1 → mQ I (servS I t w b s).2.2.1 ν → K (mkM M F ν) (nM (servS I t w b s).2.2.2)) : wp_X5_serves (mkM M F μ) (M 99) (nI t) K := by
  obtain ⟨g16, hn, hev⟩ := id hG
  obtain ⟨q1, q2, q3⟩ := id hQ
  have hl := hw.len
  unfold wp_X5_serves
  refine jl_loop (fun i (z : jS × Int32) => z = (mkM M F μ, nI i) ∧ ∀ j, j < i → ¬ needs (I 5 (s.2.getD j 0)) ≤ b) s.2.length ?_ ?_ ⟨rfl, fun j hj => absurd hj (Nat.not_lt_zero _)⟩
  · rintro i z hi ⟨rfl, hno⟩ Kc hKc
    show wp_X5_serves_2 _ _ _ _ _ _
    unfold wp_X5_serves_2
    rw [mg_29 hM, q1]
    refine ⟨fun c => absurd c (nI_ge hi (by omega)), fun _ => ?_⟩
    rw [mr_30 hM, ml_30 hM, nI_clamp (by omega), q2 i hi]
    refine ⟨vp_in_nI (by omega) (by decide), ?_⟩
    generalize hk : s.2.getD i 0 = k
    have hkm : k ∈ s.2 := hk ▸ getD_mem hi
    have hkn : k < I 0 1 := hw.2.1 k hkm
    have hk1 : s.1 0 k = 1 := (hw.2.2 k hkn).mp hkm
    obtain ⟨e17, e18, e19, b4, b5, b6⟩ := hev k hkn
    obtain ⟨a31, a32, a33, a34, a35⟩ := q3 k hkn
    obtain ⟨bs, bh⟩ := hb k hkn
    have ck : (nI k).toNatClampNeg = k := nI_clamp (by omega)
    have vk : vp_in (nI k) 8 := vp_in_nI (by omega) (by decide)
    have h32 : wp_X5_serves_32 (mkM M F μ) (nI (needs (I 5 k))) (M 99) (nI t) (nI i) (nI k) Kc K := by
      have hnd : needs (I 5 k) ≤ 3 := by unfold needs; split <;> omega
      unfold wp_X5_serves_32
      rw [mg_24 hM, h24, nI_ltI (by omega) (by omega), ← nI_succ]
      refine ⟨fun c => hKc _ ⟨rfl, fun j hj => ?_⟩, fun c => ?_⟩
      · by_cases e : j = i
        · rw [e, hk]; omega
        · exact hno j (by omega)
      · have hsI : servI I b s.2 = some i := by
          rw [servI_drop (Nat.le_of_lt hi) hno]
          have hd : s.2.drop i = k :: s.2.drop (i + 1) := by
            rw [List.drop_eq_getElem_cons hi]
            congr 1
            rw [← hk, List.getD_eq_getElem?_getD, List.getElem?_eq_getElem hi]
            rfl
          rw [hd]
          show (if needs (I 5 k) ≤ b then some 0 else _).map (· + i) = some i
          rw [if_pos (by omega)]
          simp
        have hS : servS I t w b s = (w - 1, b - needs (I 5 k), (servG I t k s.1, s.2.eraseIdx i), k + 1) := by
          unfold servS
          rw [hsI]
          dsimp only
          rw [hk]
        rw [hS] at h
        dsimp only at h
        rw [mg_24 hM, h24, mp_24 hM, pk_sub (by omega), mg_23 hM, show (m1 μ 24 (nI (b - needs (I 5 k)))).1 23 = nI w from h23, mp_23 hM, show nI w - 1 = nI (w - 1) from pk_sub (b := 1) w0]
        generalize hν : m1 (m1 μ 24 (nI (b - needs (I 5 k)))) 23 (nI (w - 1)) = ν
        have f0 : mfr [23, 24, 29] [30, 31, 32, 33] μ ν := by rw [← hν]; exact (mfr.rf.m1 (by decide)).m1 (by decide)
        have n2 : ν.2 = μ.2 := by rw [← hν]; rfl
        have n23 : ν.1 23 = nI (w - 1) := by rw [← hν, m1_at]
        have n24 : ν.1 24 = nI (b - needs (I 5 k)) := by rw [← hν, m1_off (by decide), m1_at]
        have n29 : ν.1 29 = nI s.2.length := by rw [← hν]; exact q1
        clear hν
        rw [mr_32 hM, ml_32 hM, ck, n2, a32, ms_32 hM, ck, jnar0, ← nI_succ]
        refine ⟨vk, vk, ?_⟩
        rw [mr_31 hM, mr_32 hM, ml_32 hM, ck, m2_at, if_pos rfl, mr_19 hM, ml_19 hM, ck, m2_off (by decide), n2, e19, nI_eq (by omega) (by omega)]
        refine ⟨vk, vk, ?_⟩
        have fin : ∀ v : Nat, v = (if s.1 1 k + 1 = I 6 k then 3 else 2) → wp_X5_serves_99 (mkM M F (m2 ν 32 k (nI (s.1 1 k + 1)))) (M 31) (nI k) (nI v) (M 99) (nI t) (nI i) (nI k) K := by
          intro v hv
          unfold wp_X5_serves_99
          rw [ms_31 hM, ck, jnar0]
          refine ⟨vk, ?_⟩
          rw [mr_33 hM, mr_18 hM, ml_18 hM, ck, m2_off (by decide), m2_off (by decide), n2, e18]
          refine ⟨vk, ?_⟩
          have fin2 : wp_X5_serves_121 (mkM M F (m2 (m2 ν 32 k (nI (s.1 1 k + 1))) 31 k (nI v))) (M 33) (nI k) (nI t) (nI (drinks (I 5 k))) (M 99) (nI i) (nI k) K := by
            unfold wp_X5_serves_121
            rw [ms_33 hM, ck, jnar0, nI_add]
            refine ⟨vk, by rw [M_is hM]; trivial, ?_⟩
            generalize hρ : m2 (m2 (m2 ν 32 k (nI (s.1 1 k + 1))) 31 k (nI v)) 33 k (nI (t + drinks (I 5 k))) = ρ
            have f1 : mfr [23, 24, 29] [30, 31, 32, 33] μ ρ := by rw [← hρ]; exact ((f0.m2 (by decide)).m2 (by decide)).m2 (by decide)
            have r1 : ρ.1 = ν.1 := by rw [← hρ]; rfl
            have r30 : ρ.2 30 = μ.2 30 := by rw [← hρ, m2_off (by decide), m2_off (by decide), m2_off (by decide), n2]
            have r31 : ∀ j, ρ.2 31 j = if j = k then nI v else μ.2 31 j := fun j => by rw [← hρ, m2_off (by decide), m2_at, m2_off (by decide), n2]
            have r32 : ∀ j, ρ.2 32 j = if j = k then nI (s.1 1 k + 1) else μ.2 32 j := fun j => by rw [← hρ, m2_off (by decide), m2_off (by decide), m2_at, n2]
            have r33 : ∀ j, ρ.2 33 j = if j = k then nI (t + drinks (I 5 k)) else μ.2 33 j := fun j => by rw [← hρ, m2_at, m2_off (by decide), m2_off (by decide), n2]
            have r34 : ρ.2 34 = μ.2 34 := by rw [← hρ, m2_off (by decide), m2_off (by decide), m2_off (by decide), n2]
            have r35 : ρ.2 35 = μ.2 35 := by rw [← hρ, m2_off (by decide), m2_off (by decide), m2_off (by decide), n2]
            refine M_leaves hM (L := s.2) (by omega) (by rw [r1]; exact n29) (fun i hi => by rw [r30]; exact q2 i hi) hi (fun τ f2 t29 t30 => ?_)
            have hτ : K (mkM M F τ) (nM (k + 1)) := by
              refine h τ (f1.tr (f2.mono (by decide) (by decide))) (by rw [f2.1 23 (by decide), r1, n23]) (by rw [f2.1 24 (by decide), r1, n24]) ⟨t29, t30, fun j hj => ?_⟩
              obtain ⟨c31, c32, c33, c34, c35⟩ := q3 j hj
              rw [f2.2 31 (by decide), f2.2 32 (by decide), f2.2 33 (by decide), f2.2 34 (by decide), f2.2 35 (by decide), r31, r32, r33, r34, r35]
              dsimp only
              by_cases e : j = k
              · subst e
                have u0 : servG I t j s.1 0 j = v := by rw [hv]; unfold servG up2; simp
                have u1 : servG I t j s.1 1 j = s.1 1 j + 1 := by unfold servG up2; simp
                have u2 : servG I t j s.1 2 j = t + drinks (I 5 j) := by unfold servG up2; simp
                have u3 : servG I t j s.1 3 j = s.1 3 j := by unfold servG up2; simp
                have u4 : servG I t j s.1 4 j = s.1 4 j := by unfold servG up2; simp
                rw [if_pos rfl, if_pos rfl, if_pos rfl, u0, u1, u2, u3, u4]
                refine ⟨rfl, rfl, fun _ => rfl, fun q => ?_, c35⟩
                rw [hv] at q
                split at q <;> omega
              · have u : ∀ c, servG I t k s.1 c j = s.1 c j := by intro c; unfold servG up2; simp [e]
                rw [if_neg e, if_neg e, if_neg e, u, u, u, u, u]
                exact ⟨c31, c32, c33, c34, c35⟩
            unfold nM at hτ
            rw [if_neg (by omega)] at hτ
            exact hτ
          unfold drinks at fin2
          refine ⟨fun c => ?_, fun c => ?_⟩
          · have c' : I 5 k = 1 := by rw [eN (a := I 5 k) 1 (x := 1) (by omega) (by decide) rfl] at c; exact c
            rw [if_pos c'] at fin2
            exact fin2
          · have c' : ¬ I 5 k = 1 := fun q => c (by rw [q]; rfl)
            rw [if_neg c'] at fin2
            exact fin2
        exact ⟨fun c => fin 3 (by rw [if_pos c]), fun c => fin 2 (by rw [if_neg c])⟩
    rw [mr_18 hM, ml_18 hM, ck, e18, eN (a := I 5 k) 1 (x := 1) (by omega) (by decide) rfl]
    unfold needs at h32
    refine ⟨vk, fun c => ?_, fun c => ?_⟩
    · rw [if_pos c] at h32; exact h32
    · rw [if_neg c] at h32; exact h32
  · rintro z ⟨rfl, hno⟩ Kc
    show wp_X5_serves_2 _ _ _ _ _ _
    unfold wp_X5_serves_2
    rw [mg_29 hM, q1]
    refine ⟨fun _ => ?_, fun c => absurd (nI_le (Nat.le_refl _) (by omega)) c⟩
    have hsI : servI I b s.2 = none := by
      rw [servI_drop (Nat.le_refl _) hno, List.drop_length]
      rfl
    have hS : servS I t w b s = (w, b, s, 0) := by
      unfold servS
      rw [hsI]
    rw [hS] at h
    exact h μ mfr.rf h23 h24 hQ
