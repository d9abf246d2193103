/-- the line of which the places from m on are looked through -/
def awL (t : Nat) (g : Nat → Nat → Nat) (L : List Nat) (m : Nat) : List Nat := L.take m ++ awayL t g (L.drop m)
theorem awL_len {t : Nat} {g : Nat → Nat → Nat} {L : List Nat} {m : Nat} : (awL t g L m).length ≤ L.length := by
  unfold awL awayL
  rw [List.length_append, List.length_take]
  have := List.length_filter_le (fun k => decide (t < g 3 k + 5)) (L.drop m)
  rw [List.length_drop] at this
  omega
theorem awL_ge {t : Nat} {g : Nat → Nat → Nat} {L : List Nat} {m : Nat} (hm : m ≤ L.length) : m ≤ (awL t g L m).length := by
  unfold awL
  rw [List.length_append, List.length_take]
  omega
theorem awL_at {t : Nat} {g : Nat → Nat → Nat} {L : List Nat} {m i : Nat} (hm : m ≤ L.length) (hi : i < m) : (awL t g L m).getD i 0 = L.getD i 0 := by
  unfold awL
  rw [List.getD_eq_getElem?_getD, List.getElem?_append_left (by rw [List.length_take]; omega), List.getElem?_take, if_pos hi, ← List.getD_eq_getElem?_getD]
theorem take_one {L : List Nat} {m : Nat} (hm : m < L.length) : L.take (m + 1) = L.take m ++ [L.getD m 0] := by
  rw [List.take_add_one, List.getD_eq_getElem?_getD, List.getElem?_eq_getElem hm]
  rfl
theorem drop_one {L : List Nat} {m : Nat} (hm : m < L.length) : L.drop m = L.getD m 0 :: L.drop (m + 1) := by
  rw [List.drop_eq_getElem_cons hm, List.getD_eq_getElem?_getD, List.getElem?_eq_getElem hm]
  rfl
theorem awL_keep {t : Nat} {g : Nat → Nat → Nat} {L : List Nat} {m : Nat} (hm : m < L.length) (h : t < g 3 (L.getD m 0) + 5) : awL t g L m = awL t g L (m + 1) := by
  unfold awL awayL
  rw [drop_one hm, List.filter_cons_of_pos (by simpa using h), take_one hm, List.append_assoc]
  rfl
theorem awL_drop {t : Nat} {g : Nat → Nat → Nat} {L : List Nat} {m : Nat} (hm : m < L.length) (h : ¬ t < g 3 (L.getD m 0) + 5) : awL t g L m = (awL t g L (m + 1)).eraseIdx m := by
  have e : awL t g L (m + 1) = L.take m ++ (L.getD m 0 :: awayL t g (L.drop (m + 1))) := by
    unfold awL
    rw [take_one hm, List.append_assoc]
    rfl
  rw [e, List.eraseIdx_append_of_length_le (by rw [List.length_take]; omega), List.length_take, show m - min m L.length = 0 by omega]
  unfold awL awayL
  rw [drop_one hm, List.filter_cons_of_neg (by simpa using h)]
  rfl
theorem M_goAway {M : Nat → Nat} (hM : jInj M) {F : jS} {μ : jMu} {I : jI} {s : jQg} (hI : I 0 1 ≤ 8) (hQ : mQ I s μ) (hw : wfQ I s) {t : Nat} (ht : t < 24) (hb : ∀ k, k < I 0 1 → s.1 3 k ≤ t) {K : jS → Unit → Prop}
    (h : ∀ ν, mfr [29] [30, 31] μ ν → mQ I (awayG t s.2 s.1, awayL t s.1 s.2) ν → K (mkM M F ν) ()) : wp_X5_goAway (mkM M F μ) (M 99) (nI t) K := by
  obtain ⟨q1, q2, q3⟩ := id hQ
  have hl := hw.len
  unfold wp_X5_goAway
  rw [mg_29 hM, q1]
  refine jl_loop (fun r (z : jS × Int32) => ∃ ν, z = (mkM M F ν, nI (s.2.length - r) - 1) ∧ mfr [29] [30, 31] μ ν ∧ mQ I (awayG t (s.2.drop (s.2.length - r)) s.1, awL t s.1 s.2 (s.2.length - r)) ν) s.2.length ?_ ?_ ⟨μ, rfl, mfr.rf, ?_⟩
  · rintro r z hr ⟨ν, rfl, f, v1, v2, v3⟩ Kc hKc
    obtain ⟨m, hm⟩ : ∃ m, s.2.length - r = m + 1 := ⟨s.2.length - r - 1, by omega⟩
    have hm2 : s.2.length - (r + 1) = m := by omega
    have hml : m < s.2.length := by omega
    rw [hm2] at hKc
    rw [hm] at v1 v2 v3 ⊢
    rw [show nI (m + 1) - 1 = nI m from pk_sub (b := 1) (by omega)]
    have hle := awL_len (t := t) (g := s.1) (L := s.2) (m := m + 1)
    have hge := awL_ge (t := t) (g := s.1) (L := s.2) (m := m + 1) (by omega)
    generalize hk : s.2.getD m 0 = k
    have hkm : k ∈ s.2 := hk ▸ getD_mem hml
    have hkn : k < I 0 1 := hw.2.1 k hkm
    have hk1 : s.1 0 k = 1 := (hw.2.2 k hkn).mp hkm
    have hnd : k ∉ s.2.drop (m + 1) := by
      have h9 := hw.1
      rw [← List.take_append_drop m s.2, drop_one hml, hk] at h9
      have := (List.nodup_append.mp h9).2.1
      exact (List.nodup_cons.mp this).1
    have ck : (nI k).toNatClampNeg = k := nI_clamp (by omega)
    have cm : (nI m).toNatClampNeg = m := nI_clamp (by omega)
    have vk : vp_in (nI k) 8 := vp_in_nI (by omega) (by decide)
    have b3 := hb k hkn
    obtain ⟨c31, c32, c33, c34, c35⟩ := v3 k hkn
    have u0 : awayG t (s.2.drop (m + 1)) s.1 0 k = 1 := by
      unfold awayG
      rw [if_neg (fun q => hnd q.2.1)]
      exact hk1
    have u3 : awayG t (s.2.drop (m + 1)) s.1 3 k = s.1 3 k := by
      unfold awayG
      rw [if_neg (fun q => absurd q.1 (by decide))]
    have c34' := c34 u0
    have c34' : ν.2 34 k = nI (s.1 3 k) := u3 ▸ c34'
    show wp_X5_goAway_7 _ _ _ _ _ _
    unfold wp_X5_goAway_7 wp_X5_goAway_42
    refine ⟨fun c => absurd c (nI_pos (by omega)), fun _ => ?_⟩
    rw [mr_30 hM, ml_30 hM, cm, v2 m (by show m < (awL t s.1 s.2 (m + 1)).length; omega)]
    show vp_in (nI m) 8 ∧ _
    rw [show (awL t s.1 s.2 (m + 1)).getD m 0 = k by rw [awL_at (by omega) (by omega), hk]]
    refine ⟨vp_in_nI (by omega) (by decide), ?_⟩
    rw [mr_34 hM, ml_34 hM, ck, c34', pk_sub b3, show (5 : Int32) = nI 5 from rfl, nI_ltI (by omega) (by omega), show nI m + (-1) = nI m - 1 from (Int32.sub_eq_add_neg (nI m) 1).symm]
    refine ⟨vk, fun c => ?_, fun c => ?_⟩
    · have e := awL_keep (t := t) (g := s.1) (L := s.2) (m := m) hml (by rw [hk]; omega)
      refine hKc _ ⟨ν, rfl, f, ?_⟩
      rw [e]
      refine ⟨v1, v2, fun j hj => ?_⟩
      have eg : ∀ a, awayG t (s.2.drop m) s.1 a j = awayG t (s.2.drop (m + 1)) s.1 a j := by
        intro a
        unfold awayG
        rw [drop_one hml, hk]
        by_cases ej : j = k
        · subst ej
          rw [if_neg (fun q => by have := q.2.2; omega), if_neg (fun q => hnd q.2.1)]
        · simp only [List.mem_cons, ej, false_or]
      have := v3 j hj
      dsimp only at this ⊢
      rw [eg, eg, eg, eg, eg]
      exact this
    · have e := awL_drop (t := t) (g := s.1) (L := s.2) (m := m) hml (by rw [hk]; omega)
      rw [mr_31 hM, ms_31 hM, ck, jnar0]
      refine ⟨vk, by rw [M_is hM]; trivial, ?_⟩
      refine M_leaves hM (L := awL t s.1 s.2 (m + 1)) (by omega) (by show (m2 ν 31 k 4).1 29 = _; exact v1) (fun i hi => by rw [m2_off (by decide)]; exact v2 i hi) (by omega) (fun τ f2 t29 t30 => hKc _ ⟨τ, rfl, (f.m2 (by decide)).tr (f2.mono (by decide) (by decide)), ?_⟩)
      rw [e]
      refine ⟨t29, t30, fun j hj => ?_⟩
      obtain ⟨d31, d32, d33, d34, d35⟩ := v3 j hj
      dsimp only at d31 d32 d33 d34 d35 ⊢
      rw [f2.2 31 (by decide), f2.2 32 (by decide), f2.2 33 (by decide), f2.2 34 (by decide), f2.2 35 (by decide), m2_at, m2_off (by decide), m2_off (by decide), m2_off (by decide), m2_off (by decide)]
      by_cases ej : j = k
      · subst ej
        have w0 : awayG t (s.2.drop m) s.1 0 j = 4 := by
          unfold awayG
          rw [drop_one hml, hk, if_pos ⟨rfl, List.mem_cons_self, by omega⟩]
        have w : ∀ a, a ≠ 0 → awayG t (s.2.drop m) s.1 a j = awayG t (s.2.drop (m + 1)) s.1 a j := by
          intro a ha
          unfold awayG
          rw [if_neg (fun q => ha q.1), if_neg (fun q => ha q.1)]
        rw [if_pos rfl, w0, w 1 (by decide), w 2 (by decide), w 3 (by decide), w 4 (by decide)]
        exact ⟨rfl, d32, fun q => absurd q (by decide), fun q => absurd q (by decide), d35⟩
      · have eg : ∀ a, awayG t (s.2.drop m) s.1 a j = awayG t (s.2.drop (m + 1)) s.1 a j := by
          intro a
          unfold awayG
          rw [drop_one hml, hk]
          simp only [List.mem_cons, ej, false_or]
        rw [if_neg ej, eg, eg, eg, eg, eg]
        exact ⟨d31, d32, d33, d34, d35⟩
  · rintro z ⟨ν, rfl, f, q⟩ Kc
    show wp_X5_goAway_7 _ _ _ _ _ _
    unfold wp_X5_goAway_7
    rw [show s.2.length - s.2.length = 0 by omega] at q ⊢
    refine ⟨fun _ => h ν f ?_, fun c => absurd (show (nI 0 - 1 : Int32) < 0 by decide) c⟩
    have e : awL t s.1 s.2 0 = awayL t s.1 s.2 := by unfold awL; simp
    rw [e, List.drop_zero] at q
    exact q
  · rw [Nat.sub_zero]
    have e : awL t s.1 s.2 s.2.length = s.2 := by unfold awL awayL; simp
    rw [e, List.drop_length]
    refine ⟨q1, q2, fun j hj => ?_⟩
    have eg : ∀ a, awayG t [] s.1 a j = s.1 a j := by
      intro a
      unfold awayG
      rw [if_neg (fun q => by have := q.2.1; cases this)]
    dsimp only
    rw [eg, eg, eg, eg, eg]
    exact q3 j hj
