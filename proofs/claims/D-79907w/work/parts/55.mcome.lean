/-- the line has each guest once, just those who wait -/
def wfQ (I : jI) (s : jQg) : Prop := s.2.Nodup ∧ (∀ k ∈ s.2, k < I 0 1) ∧ ∀ k, k < I 0 1 → (k ∈ s.2 ↔ s.1 0 k = 1)
theorem nd_len : ∀ (n : Nat) (L : List Nat), L.Nodup → (∀ x ∈ L, x < n) → L.length ≤ n
  | 0, L, _, h => by
    cases L with
    | nil => exact Nat.le_refl _
    | cons a l => exact absurd (h a List.mem_cons_self) (Nat.not_lt_zero _)
  | n + 1, L, hd, h => by
    by_cases hn : n ∈ L
    · have h1 := List.length_erase_of_mem hn
      have h2 := nd_len n (L.erase n) (hd.erase n) (fun x hx => by
        have h3 := List.mem_of_mem_erase hx
        have h4 := h x h3
        have h5 : x ≠ n := fun e => by subst e; exact hd.not_mem_erase hx
        omega)
      omega
    · have h2 := nd_len n L hd (fun x hx => by
        have h4 := h x hx
        have h5 : x ≠ n := fun e => hn (e ▸ hx)
        omega)
      omega
theorem wfQ.room {I : jI} {s : jQg} (h : wfQ I s) {k : Nat} (hk : k < I 0 1) (hs : s.1 0 k ≠ 1) : s.2.length < I 0 1 := by
  have hni : k ∉ s.2 := fun q => hs ((h.2.2 k hk).mp q)
  have := nd_len (I 0 1) (k :: s.2) (List.nodup_cons.mpr ⟨hni, h.1⟩) (fun x hx => by
    rcases List.mem_cons.mp hx with e | e
    · rw [e]; exact hk
    · exact h.2.1 x e)
  simp only [List.length_cons] at this
  omega
theorem wfQ.len {I : jI} {s : jQg} (h : wfQ I s) : s.2.length ≤ I 0 1 := nd_len _ _ h.1 h.2.1
theorem wfQ.join {I : jI} {s : jQg} (h : wfQ I s) {k t : Nat} (hk : k < I 0 1) (hs : s.1 0 k ≠ 1) : wfQ I (joinS s k t) := by
  have hni : k ∉ s.2 := fun q => hs ((h.2.2 k hk).mp q)
  refine ⟨?_, ?_, ?_⟩
  · refine List.nodup_append.mpr ⟨h.1, by simp, ?_⟩
    intro a ha b hb e
    rw [List.mem_singleton.mp hb] at e
    exact hni (e ▸ ha)
  · intro x hx
    rcases List.mem_append.mp hx with e | e
    · exact h.2.1 x e
    · rw [List.mem_singleton.mp e]; exact hk
  · intro j hj
    show j ∈ s.2 ++ [k] ↔ _
    rw [List.mem_append, List.mem_singleton, h.2.2 j hj]
    unfold joinS up2
    by_cases e : j = k
    · subst e
      simp
    · simp [e]
theorem join_st {s : jQg} {k t j : Nat} (h : j ≠ k) : (joinS s k t).1 0 j = s.1 0 j := by
  unfold joinS up2
  simp [h]
theorem come1_st {I : jI} {t : Nat} {s : jQg} : ∀ (i j : Nat), i ≤ j → (come1 I t i s).1 0 j = s.1 0 j
  | 0, _, _ => rfl
  | i + 1, j, h => by
    show (if I 4 i = t then joinS (come1 I t i s) i t else come1 I t i s).1 0 j = _
    split
    · rw [join_st (by omega)]; exact come1_st i j (by omega)
    · exact come1_st i j (by omega)
/-- the model's line and guests -/
def mQ (I : jI) (s : jQg) (μ : jMu) : Prop := μ.1 29 = nI s.2.length ∧ (∀ i, i < s.2.length → μ.2 30 i = nI (s.2.getD i 0)) ∧ ∀ k, k < I 0 1 → μ.2 31 k = nI (s.1 0 k) ∧ μ.2 32 k = nI (s.1 1 k) ∧ (s.1 0 k = 2 → μ.2 33 k = nI (s.1 2 k)) ∧ (s.1 0 k = 1 → μ.2 34 k = nI (s.1 3 k)) ∧ μ.2 35 k = nI (s.1 4 k)
theorem jnar0 (x : Int32) : jnar 0 x = x := rfl
theorem m2_at {μ : jMu} {k i j : Nat} {v : Int32} : (m2 μ k i v).2 k j = if j = i then v else μ.2 k j := by
  show (if k = k then upd (μ.2 k) i v else μ.2 k) j = _
  rw [if_pos rfl]; rfl
theorem m2_off {μ : jMu} {k i c : Nat} {v : Int32} (h : c ≠ k) : (m2 μ k i v).2 c = μ.2 c := by
  show (if c = k then upd (μ.2 k) i v else μ.2 c) = _
  rw [if_neg h]
theorem m1_at {μ : jMu} {k : Nat} {v : Int32} : (m1 μ k v).1 k = v := by
  show upd μ.1 k v k = v
  simp [upd]
theorem m1_off {μ : jMu} {k c : Nat} {v : Int32} (h : c ≠ k) : (m1 μ k v).1 c = μ.1 c := by
  show upd μ.1 k v c = _
  simp [upd, h]
theorem M_joins {M : Nat → Nat} (hM : jInj M) {F : jS} {μ : jMu} {I : jI} {s : jQg} (hI : I 0 1 ≤ 8) (hQ : mQ I s μ) (hw : wfQ I s) {k t : Nat} (hk : k < I 0 1) (hs : s.1 0 k ≠ 1) {K : jS → Unit → Prop} (h : ∀ ν, mfr [29] [30, 31, 34] μ ν → mQ I (joinS s k t) ν → K (mkM M F ν) ()) : wp_X5_joins (mkM M F μ) (M 99) (nI k) (nI t) K := by
  obtain ⟨q1, q2, q3⟩ := hQ
  have hr := hw.room hk hs
  have hni : k ∉ s.2 := fun q => hs ((hw.2.2 k hk).mp q)
  have cl : (nI k).toNatClampNeg = k := nI_clamp (by omega)
  have cn : (nI s.2.length).toNatClampNeg = s.2.length := nI_clamp (by omega)
  have vin : vp_in (nI k) 8 := vp_in_nI (by omega) (by decide)
  have vn : vp_in (nI s.2.length) 8 := vp_in_nI (by omega) (by decide)
  unfold wp_X5_joins
  rw [mr_30 hM, mg_29 hM, q1, ms_30 hM, cn, jnar0]
  refine ⟨vn, ?_⟩
  rw [mg_29 hM, mp_29 hM, show (m2 μ 30 s.2.length (nI k)).1 29 = nI s.2.length from q1, ← nI_succ, mr_31 hM, ms_31 hM, cl, jnar0]
  refine ⟨vin, ?_⟩
  rw [mr_34 hM, ms_34 hM, cl, jnar0]
  refine ⟨vin, ?_⟩
  refine h _ ((((mfr.rf.m2 (by decide)).m1 (by decide)).m2 (by decide)).m2 (by decide)) ⟨?_, ?_, ?_⟩
  · show (m1 (m2 μ 30 s.2.length (nI k)) 29 (nI (s.2.length + 1))).1 29 = _
    rw [m1_at]
    show _ = nI (s.2 ++ [k]).length
    simp
  · intro i hi
    have hi : i < (s.2 ++ [k]).length := hi
    simp only [List.length_append, List.length_singleton] at hi
    rw [m2_off (by decide), m2_off (by decide)]
    show (m2 μ 30 s.2.length (nI k)).2 30 i = nI ((s.2 ++ [k]).getD i 0)
    rw [m2_at]
    by_cases e : i = s.2.length
    · rw [if_pos e, e]
      simp
    · rw [if_neg e, q2 i (by omega)]
      rw [List.getD_eq_getElem?_getD, List.getD_eq_getElem?_getD, List.getElem?_append_left (by omega)]
  · intro j hj
    obtain ⟨a1, a2, a3, a4, a5⟩ := q3 j hj
    by_cases e : j = k
    · subst e
      refine ⟨?_, ?_, ?_, ?_, ?_⟩
      · rw [m2_off (by decide), m2_at, if_pos rfl]
        show (1 : Int32) = nI ((joinS s j t).1 0 j)
        have : (joinS s j t).1 0 j = 1 := by unfold joinS up2; simp
        rw [this]; rfl
      · rw [m2_off (by decide), m2_off (by decide)]
        show (m2 μ 30 s.2.length (nI j)).2 32 j = _
        rw [m2_off (by decide), a2]
        have : (joinS s j t).1 1 j = s.1 1 j := by unfold joinS up2; simp
        rw [this]
      · intro hc
        have : (joinS s j t).1 0 j = 1 := by unfold joinS up2; simp
        omega
      · intro _
        rw [m2_at, if_pos rfl]
        have : (joinS s j t).1 3 j = t := by unfold joinS up2; simp
        rw [this]
      · rw [m2_off (by decide), m2_off (by decide)]
        show (m2 μ 30 s.2.length (nI j)).2 35 j = _
        rw [m2_off (by decide), a5]
        have : (joinS s j t).1 4 j = s.1 4 j := by unfold joinS up2; simp
        rw [this]
    · have g : ∀ c, (joinS s k t).1 c j = s.1 c j := by intro c; unfold joinS up2; simp [e]
      refine ⟨?_, ?_, ?_, ?_, ?_⟩
      · rw [m2_off (by decide), m2_at, if_neg e]
        show (m2 μ 30 s.2.length (nI k)).2 31 j = _
        rw [m2_off (by decide), a1, g]
      · rw [m2_off (by decide), m2_off (by decide)]
        show (m2 μ 30 s.2.length (nI k)).2 32 j = _
        rw [m2_off (by decide), a2, g]
      · intro hc
        rw [g] at hc
        rw [m2_off (by decide), m2_off (by decide)]
        show (m2 μ 30 s.2.length (nI k)).2 33 j = _
        rw [m2_off (by decide), a3 hc, g]
      · intro hc
        rw [g] at hc
        rw [m2_at, if_neg e, m2_off (by decide)]
        show (m2 μ 30 s.2.length (nI k)).2 34 j = _
        rw [m2_off (by decide), a4 hc, g]
      · rw [m2_off (by decide), m2_off (by decide)]
        show (m2 μ 30 s.2.length (nI k)).2 35 j = _
        rw [m2_off (by decide), a5, g]
theorem M_comes {M : Nat → Nat} (hM : jInj M) {F : jS} {μ : jMu} {I : jI} {s : jQg} (hG : mGs I μ) (hQ : mQ I s μ) (hw : wfQ I s) {t : Nat} (ht : t < 24) (hb : ∀ k, k < I 0 1 → s.1 0 k ≤ 4 ∧ s.1 2 k ≤ 30) (hc : ∀ k, k < I 0 1 → I 4 k = t → s.1 0 k = 0) {K : jS → Unit → Prop} (h : ∀ ν, mfr [29] [30, 31, 34] μ ν → mQ I (come2 t (I 0 1) (come1 I t (I 0 1) s)) ν → wfQ I (come2 t (I 0 1) (come1 I t (I 0 1) s)) → K (mkM M F ν) ()) : wp_X5_comes (mkM M F μ) (M 99) (nI t) K := by
  obtain ⟨g16, hn, hev⟩ := id hG
  unfold wp_X5_comes
  refine jl_loop (fun i (z : jS × Int32) => ∃ ν, z = (mkM M F ν, nI i) ∧ mfr [29] [30, 31, 34] μ ν ∧ mQ I (come1 I t i s) ν ∧ wfQ I (come1 I t i s) ∧ ∀ k, k < I 0 1 → (come1 I t i s).1 0 k ≤ 4 ∧ (come1 I t i s).1 2 k ≤ 30) (I 0 1) ?_ ?_ ⟨μ, rfl, mfr.rf, hQ, hw, hb⟩
  · rintro i z hi ⟨ν, rfl, f, q, w, b⟩ Kc hKc
    have g := mGs.fr hG f
    obtain ⟨e17, e18, e19, b4, b5, b6⟩ := g.2.2 i hi
    have cl : (nI i).toNatClampNeg = i := nI_clamp (by omega)
    have vin : vp_in (nI i) 8 := vp_in_nI (by omega) (by decide)
    show wp_X5_comes_2 _ _ _ _ _ _
    unfold wp_X5_comes_2 wp_X5_comes_26
    rw [mg_16 hM, g.1]
    refine ⟨fun c => absurd c (nI_ge hi (by omega)), fun _ => ?_⟩
    rw [mr_17 hM, ml_17 hM, cl, e17, nI_eq (by omega) (by omega), ← nI_succ]
    refine ⟨vin, fun c => ⟨by rw [M_is hM]; trivial, ?_⟩, fun c => ?_⟩
    · have h0 : (come1 I t i s).1 0 i = 0 := by rw [come1_st i i (Nat.le_refl _)]; exact hc i hi c
      refine M_joins hM hn q w hi (by omega) (fun ρ f2 q2 => hKc _ ⟨ρ, rfl, f.tr f2, ?_⟩)
      have e : come1 I t (i + 1) s = joinS (come1 I t i s) i t := by
        show (if I 4 i = t then joinS (come1 I t i s) i t else come1 I t i s) = _
        rw [if_pos c]
      rw [e]
      refine ⟨q2, w.join hi (by omega), fun k hk => ?_⟩
      by_cases ek : k = i
      · subst ek
        have := (b k hk).2
        unfold joinS up2
        simp
        exact this
      · have := b k hk
        unfold joinS up2
        simp [ek]
        exact this
    · have e : come1 I t (i + 1) s = come1 I t i s := by
        show (if I 4 i = t then joinS (come1 I t i s) i t else come1 I t i s) = _
        rw [if_neg c]
      exact hKc _ ⟨ν, rfl, f, by rw [e]; exact q, by rw [e]; exact w, by rw [e]; exact b⟩
  · rintro z ⟨ν, rfl, f, q, w, b⟩ Kc
    show wp_X5_comes_2 _ _ _ _ _ _
    unfold wp_X5_comes_2
    have g := mGs.fr hG f
    rw [mg_16 hM, g.1]
    refine ⟨fun _ => ?_, fun c => absurd (nI_le (Nat.le_refl _) (by omega)) c⟩
    refine jl_loop (fun i (z : jS × Int32) => ∃ ρ, z = (mkM M F ρ, nI i) ∧ mfr [29] [30, 31, 34] μ ρ ∧ mQ I (come2 t i (come1 I t (I 0 1) s)) ρ ∧ wfQ I (come2 t i (come1 I t (I 0 1) s)) ∧ ∀ k, k < I 0 1 → (come2 t i (come1 I t (I 0 1) s)).1 0 k ≤ 4 ∧ (come2 t i (come1 I t (I 0 1) s)).1 2 k ≤ 30) (I 0 1) ?_ ?_ ⟨ν, rfl, f, q, w, b⟩
    · rintro i z hi ⟨ρ, rfl, f, q, w, b⟩ Kc hKc
      have g := mGs.fr hG f
      obtain ⟨a31, a32, a33, a34, a35⟩ := q.2.2 i hi
      have cl : (nI i).toNatClampNeg = i := nI_clamp (by omega)
      have vin : vp_in (nI i) 8 := vp_in_nI (by omega) (by decide)
      have bi := b i hi
      have e : come2 t (i + 1) (come1 I t (I 0 1) s) = if (come2 t i (come1 I t (I 0 1) s)).1 0 i = 2 ∧ (come2 t i (come1 I t (I 0 1) s)).1 2 i = t then joinS (come2 t i (come1 I t (I 0 1) s)) i t else come2 t i (come1 I t (I 0 1) s) := rfl
      show wp_X5_comes_34 _ _ _ _ _ _
      unfold wp_X5_comes_34 wp_X5_comes_68
      rw [mg_16 hM, g.1]
      refine ⟨fun c => absurd c (nI_ge hi (by omega)), fun _ => ?_⟩
      rw [mr_31 hM, ml_31 hM, cl, a31, eN (a := (come2 t i (come1 I t (I 0 1) s)).1 0 i) 2 (x := 2) (by omega) (by decide) rfl, ← nI_succ]
      refine ⟨vin, fun c => ?_, fun c => ?_⟩
      · rw [mr_33 hM, ml_33 hM, cl, a33 c, nI_eq (by omega) (by omega)]
        refine ⟨vin, fun c2 => ⟨by rw [M_is hM]; trivial, ?_⟩, fun c2 => ?_⟩
        · rw [if_pos ⟨c, c2⟩] at e
          refine M_joins hM hn q w hi (by omega) (fun ρ2 f2 q2 => hKc _ ⟨ρ2, rfl, f.tr f2, ?_⟩)
          rw [e]
          refine ⟨q2, w.join hi (by omega), fun k hk => ?_⟩
          by_cases ek : k = i
          · subst ek
            have := (b k hk).2
            unfold joinS up2
            simp
            exact this
          · have := b k hk
            unfold joinS up2
            simp [ek]
            exact this
        · rw [if_neg (fun x => c2 x.2)] at e
          exact hKc _ ⟨ρ, rfl, f, by rw [e]; exact q, by rw [e]; exact w, by rw [e]; exact b⟩
      · rw [if_neg (fun x => c x.1)] at e
        exact hKc _ ⟨ρ, rfl, f, by rw [e]; exact q, by rw [e]; exact w, by rw [e]; exact b⟩
    · rintro z ⟨ρ, rfl, f, q, w, b⟩ Kc
      show wp_X5_comes_34 _ _ _ _ _ _
      unfold wp_X5_comes_34
      have g := mGs.fr hG f
      rw [mg_16 hM, g.1]
      exact ⟨fun _ => h ρ f q w, fun c => absurd (nI_le (Nat.le_refl _) (by omega)) c⟩
