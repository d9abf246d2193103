theorem come1_ne {I : jI} {t j : Nat} {s : jQg} (h : I 4 j ≠ t) : ∀ i : Nat, (come1 I t i s).1 0 j = s.1 0 j
  | 0 => rfl
  | i + 1 => by
    show (if I 4 i = t then joinS (come1 I t i s) i t else come1 I t i s).1 0 j = _
    split
    · rename_i c
      rw [join_st (k := i) (fun e => h (by rw [e]; exact c))]; exact come1_ne h i
    · exact come1_ne h i
theorem come2_ne {t j : Nat} {s : jQg} (h : s.1 0 j ≠ 2) : ∀ i : Nat, (come2 t i s).1 0 j = s.1 0 j
  | 0 => rfl
  | i + 1 => by
    show (if (come2 t i s).1 0 i = 2 ∧ (come2 t i s).1 2 i = t then joinS (come2 t i s) i t else come2 t i s).1 0 j = _
    split
    · rename_i c
      rw [join_st (fun e => by subst e; rw [come2_ne h] at c; exact h c.1)]; exact come2_ne h i
    · exact come2_ne h i
/-- bounds of the guests' numbers -/
def gBd (I : jI) (h t : Nat) (s : jQg) : Prop := ∀ k, k < I 0 1 → s.1 0 k ≤ 4 ∧ s.1 1 k ≤ h ∧ s.1 2 k ≤ t + 4 ∧ s.1 3 k ≤ t ∧ s.1 4 k ≤ t
theorem gBd_join {I : jI} {h t : Nat} {s : jQg} (b : gBd I h t s) (k : Nat) : gBd I h t (joinS s k t) := by
  intro j hj
  obtain ⟨b0, b1, b2, b3, b4⟩ := b j hj
  unfold joinS up2
  refine ⟨?_, ?_, ?_, ?_, ?_⟩ <;> dsimp only <;> simp <;> (try split) <;> omega
theorem gBd_c1 {I : jI} {h t : Nat} {s : jQg} (b : gBd I h t s) : ∀ i, gBd I h t (come1 I t i s)
  | 0 => b
  | i + 1 => by
    show gBd I h t (if I 4 i = t then joinS (come1 I t i s) i t else come1 I t i s)
    split
    · exact gBd_join (gBd_c1 b i) i
    · exact gBd_c1 b i
theorem gBd_c2 {I : jI} {h t : Nat} {s : jQg} (b : gBd I h t s) : ∀ i, gBd I h t (come2 t i s)
  | 0 => b
  | i + 1 => by
    show gBd I h t (if (come2 t i s).1 0 i = 2 ∧ (come2 t i s).1 2 i = t then joinS (come2 t i s) i t else come2 t i s)
    split
    · exact gBd_join (gBd_c2 b i) i
    · exact gBd_c2 b i
theorem gBd_sv {I : jI} {h t w b : Nat} {s : jQg} (q : gBd I h t s) : gBd I (h + 1) t (servS I t w b s).2.2.1 := by
  unfold servS
  split
  · intro k hk
    obtain ⟨b0, b1, b2, b3, b4⟩ := q k hk
    exact ⟨b0, by show s.1 1 k ≤ _; omega, b2, b3, b4⟩
  · rename_i p hp
    intro j hj
    generalize s.2.getD p 0 = k
    obtain ⟨b0, b1, b2, b3, b4⟩ := q j hj
    have hd : drinks (I 5 k) ≤ 4 := by unfold drinks; split <;> omega
    unfold servG up2
    by_cases e : j = k
    · subst e
      refine ⟨?_, ?_, ?_, ?_, ?_⟩ <;> dsimp only <;> simp <;> (try split) <;> omega
    · refine ⟨?_, ?_, ?_, ?_, ?_⟩ <;> dsimp only <;> simp [e] <;> omega
theorem serv_wf {I : jI} {t w b : Nat} {s : jQg} (q : wfQ I s) : wfQ I (servS I t w b s).2.2.1 := by
  unfold servS
  split
  · exact q
  · rename_i p hp
    obtain ⟨h1, h2⟩ := servI_lt hp
    refine q.out h1 ?_ (fun k hk => ?_)
    · show servG I t (s.2.getD p 0) s.1 0 (s.2.getD p 0) ≠ 1
      generalize s.2.getD p 0 = k
      unfold servG up2
      simp
      split <;> omega
    · show servG I t (s.2.getD p 0) s.1 0 k = s.1 0 k
      generalize s.2.getD p 0 = k2 at hk
      unfold servG up2
      simp [hk]
theorem serv_ne {I : jI} {t w b j : Nat} {s : jQg} (q : wfQ I s) (hj : j < I 0 1) (h : s.1 0 j = 0) : (servS I t w b s).2.2.1.1 0 j = 0 := by
  unfold servS
  split
  · exact h
  · rename_i p hp
    obtain ⟨h1, h2⟩ := servI_lt hp
    have hm : s.2.getD p 0 ∈ s.2 := getD_mem h1
    have h3 := (q.2.2 _ (q.2.1 _ hm)).mp hm
    have hne : j ≠ s.2.getD p 0 := fun e => by rw [← e] at h3; omega
    show servG I t (s.2.getD p 0) s.1 0 j = 0
    generalize s.2.getD p 0 = k2 at hne
    unfold servG up2
    simp [hne, h]
theorem away_wf {I : jI} {t : Nat} {s : jQg} (q : wfQ I s) : wfQ I (wtG (awayG t s.2 s.1), awayL t s.1 s.2) := by
  obtain ⟨h1, h2, h3⟩ := q
  refine ⟨h1.sublist List.filter_sublist, fun k hk => h2 k (List.mem_filter.mp hk).1, fun k hk => ?_⟩
  show k ∈ s.2.filter (fun k => decide (t < s.1 3 k + 5)) ↔ awayG t s.2 s.1 0 k = 1
  rw [List.mem_filter, h3 k hk, decide_eq_true_iff]
  unfold awayG
  by_cases c : k ∈ s.2
  · by_cases d : s.1 3 k + 5 ≤ t
    · rw [if_pos ⟨rfl, c, d⟩]; omega
    · rw [if_neg (fun x => d x.2.2)]; omega
  · rw [if_neg (fun x => c x.2.1)]
    have : ¬ s.1 0 k = 1 := fun q => c ((h3 k hk).mpr q)
    omega
theorem serv_wb {I : jI} {t w b : Nat} {s : jQg} : (servS I t w b s).1 ≤ w ∧ (servS I t w b s).2.1 ≤ b := by
  unfold servS
  split
  · exact ⟨Nat.le_refl _, Nat.le_refl _⟩
  · exact ⟨Nat.sub_le _ _, Nat.sub_le _ _⟩
theorem okR.bd {I : jI} {t : Nat} {R : jR} (h : okR I t R) : gBd I t t R.2.1 := fun k hk => by
  obtain ⟨-, -, -, -, -, -, -, -, -, h10⟩ := h
  obtain ⟨a, b, c, d, e, -⟩ := h10 k hk
  exact ⟨a, b, c, d, e⟩
theorem okR.wf {I : jI} {t : Nat} {R : jR} (h : okR I t R) : wfQ I R.2.1 := ⟨h.2.2.2.2.2.2.1, h.2.2.2.2.2.2.2.1, h.2.2.2.2.2.2.2.2.1⟩
theorem okR.b {I : jI} {t : Nat} {R : jR} (h : okR I t R) : bfOk (mnB I t R) := bf_ok ⟨h.1, h.2.1, h.2.2.1, Nat.zero_le _⟩ _
theorem come2_wf {I : jI} {t : Nat} {s : jQg} (h : wfQ I s) : ∀ i, i ≤ I 0 1 → wfQ I (come2 t i s)
  | 0, _ => h
  | i + 1, hi => by
    show wfQ I (if (come2 t i s).1 0 i = 2 ∧ (come2 t i s).1 2 i = t then joinS (come2 t i s) i t else come2 t i s)
    have ih := come2_wf (t := t) h i (by omega)
    split
    · rename_i c
      exact ih.join (by omega) (by omega)
    · exact ih
theorem come1_wf {I : jI} {t : Nat} {s : jQg} (h : wfQ I s) (hc : ∀ k, k < I 0 1 → I 4 k = t → s.1 0 k = 0) : ∀ i, i ≤ I 0 1 → wfQ I (come1 I t i s)
  | 0, _ => h
  | i + 1, hi => by
    show wfQ I (if I 4 i = t then joinS (come1 I t i s) i t else come1 I t i s)
    have ih := come1_wf h hc i (by omega)
    split
    · rename_i c
      exact ih.join (by omega) (by rw [come1_st i i (Nat.le_refl _), hc i (by omega) c]; omega)
    · exact ih
theorem okR.cw {I : jI} {t : Nat} {R : jR} (h : okR I t R) : wfQ I (mnC I t R) := by
  refine come2_wf (come1_wf h.wf (fun k hk e => ?_) _ (Nat.le_refl _)) _ (Nat.le_refl _)
  exact (h.2.2.2.2.2.2.2.2.2 k hk).2.2.2.2.2 (by omega)
theorem okR.cb {I : jI} {t : Nat} {R : jR} (h : okR I t R) : gBd I t t (mnC I t R) := gBd_c2 (gBd_c1 h.bd _) _
theorem okR.vw {I : jI} {t : Nat} {R : jR} (h : okR I t R) : wfQ I (mnV I t R).2.2.1 := by
  unfold mnV
  split
  · exact serv_wf h.cw
  · exact h.cw
theorem okR.vb {I : jI} {t : Nat} {R : jR} (h : okR I t R) : gBd I (t + 1) t (mnV I t R).2.2.1 := by
  unfold mnV
  split
  · exact gBd_sv h.cb
  · intro k hk
    obtain ⟨a, b, c, d, e⟩ := h.cb k hk
    exact ⟨a, by show (mnC I t R).1 1 k ≤ _; omega, c, d, e⟩
theorem okR.v0 {I : jI} {t : Nat} {R : jR} (h : okR I t R) {k : Nat} (hk : k < I 0 1) (h4 : t + 1 ≤ I 4 k) : (mnV I t R).2.2.1.1 0 k = 0 := by
  have e : (mnC I t R).1 0 k = 0 := by
    have h0 := (h.2.2.2.2.2.2.2.2.2 k hk).2.2.2.2.2 (by omega)
    have h1 : (come1 I t (I 0 1) R.2.1).1 0 k = 0 := by rw [come1_ne (by omega)]; exact h0
    unfold mnC
    rw [come2_ne (by omega)]
    exact h1
  unfold mnV
  split
  · exact serv_ne h.cw hk e
  · exact e
theorem okR.step {I : jI} {t : Nat} {R : jR} (h : okR I t R) : okR I (t + 1) (minS I t R) := by
  have hB := h.b
  have hs : mnS I t R ≤ 1 := by unfold mnS; split <;> omega
  have ho : mnO I t R ≤ 1 := by unfold mnO; split <;> omega
  have hh : mnH I t R ≤ 100 := by unfold mnH; omega
  have hv : (mnV I t R).1 ≤ 30 ∧ (mnV I t R).2.1 ≤ 40 := by
    obtain ⟨b1, b2, b3, b4⟩ := hB
    have hw : mnW I t R ≤ 30 := by unfold mnW; omega
    unfold mnV
    split
    · obtain ⟨x, y⟩ := serv_wb (I := I) (t := t) (w := mnW I t R) (b := (mnB I t R).2.2.1) (s := mnC I t R)
      exact ⟨by omega, by omega⟩
    · exact ⟨hw, b3⟩
  obtain ⟨w1, w2, w3⟩ := away_wf (t := t) h.vw
  obtain ⟨-, -, -, h3, h4, h5, -⟩ := id h
  refine ⟨hh, hv.1, hv.2, ?_, ?_, ?_, w1, w2, w3, fun k hk => ?_⟩
  · show R.1 3 + mnS I t R ≤ t + 1; omega
  · show R.1 4 + mnO I t R ≤ t + 1; omega
  · show (if mnO I t R = 1 ∧ R.1 5 = 0 then t + 1 else R.1 5) ≤ t + 1
    split <;> omega
  · obtain ⟨a, b, c, d, e⟩ := h.vb k hk
    have ha : ∀ x, (mnA I t R).1 x k ≤ (mnV I t R).2.2.1.1 x k ∨ (x = 0 ∧ (mnA I t R).1 x k = 4) := by
      intro x
      show awayG t _ _ x k ≤ _ ∨ (x = 0 ∧ awayG t _ _ x k = 4)
      unfold awayG
      split
      · rename_i q; exact Or.inr ⟨q.1, rfl⟩
      · exact Or.inl (Nat.le_refl _)
    have a0 := ha 0
    have a1 := ha 1
    have a2 := ha 2
    have a3 := ha 3
    have a4 := ha 4
    refine ⟨?_, ?_, ?_, ?_, ?_, fun q => ?_⟩
    · show (mnA I t R).1 0 k ≤ 4; omega
    · show (mnA I t R).1 1 k ≤ t + 1; omega
    · show (mnA I t R).1 2 k ≤ t + 1 + 4; omega
    · show (mnA I t R).1 3 k ≤ t + 1; omega
    · show (mnA I t R).1 4 k + (if (mnA I t R).1 0 k = 1 then 1 else 0) ≤ t + 1; split <;> omega
    · have z := h.v0 hk q
      show (mnA I t R).1 0 k = 0
      show awayG t (mnV I t R).2.2.1.2 (mnV I t R).2.2.1.1 0 k = 0
      unfold awayG
      rw [if_neg (fun q1 => by have := (h.vw.2.2 k hk).mp q1.2.1; omega)]
      exact z
theorem okR.zero {I : jI} (hw : I 0 4 ≤ 30) (hb : I 0 5 ≤ 40) : okR I 0 (run0 I) :=
  ⟨Nat.zero_le _, hw, hb, Nat.zero_le _, Nat.zero_le _, Nat.zero_le _, List.nodup_nil, fun _ h => absurd h List.not_mem_nil, fun _ _ => ⟨fun h => absurd h List.not_mem_nil, fun h => absurd h (by show (0 : Nat) ≠ 1; omega)⟩, fun _ _ => ⟨Nat.zero_le _, Nat.zero_le _, Nat.zero_le _, Nat.zero_le _, Nat.zero_le _, fun _ => rfl⟩⟩
theorem okR.run {I : jI} (hw : I 0 4 ≤ 30) (hb : I 0 5 ≤ 40) : ∀ t, okR I t (runS I t)
  | 0 => okR.zero hw hb
  | t + 1 => (okR.run hw hb t).step
/-- the run's numbers in the model at a minute's beginning -/
def mRn (I : jI) (R : jR) (μ : jMu) : Prop := μ.1 22 = nI (R.1 0) ∧ μ.1 23 = nI (R.1 1) ∧ μ.1 24 = nI (R.1 2) ∧ μ.1 26 = nI (R.1 3) ∧ μ.1 27 = nI (R.1 4) ∧ μ.1 28 = nM (R.1 5) ∧ mQ I R.2.1 μ
/-- what is told of the first t minutes -/
def mOut (I : jI) (t : Nat) (R : jR) (μ : jMu) : Prop := ∀ m, m < t → (∀ j, j < 5 → μ.2 36 (6 * m + j) = nI (R.2.2.1 m j)) ∧ μ.2 36 (6 * m + 5) = nM (R.2.2.1 m 5) ∧ μ.2 37 m = nI (R.2.2.1 m 6) ∧ ∀ k, k < I 0 1 → μ.2 38 (8 * m + k) = nI (R.2.2.2 m k 0) ∧ μ.2 39 (8 * m + k) = nI (R.2.2.2 m k 1)
theorem mQ.fr {I : jI} {s : jQg} {μ ν : jMu} {a b : List Nat} (h : mQ I s μ) (f : mfr a b μ ν) (ha : 29 ∉ a := by decide) (hb : 30 ∉ b ∧ 31 ∉ b ∧ 32 ∉ b ∧ 33 ∉ b ∧ 34 ∉ b ∧ 35 ∉ b := by decide) : mQ I s ν := by
  unfold mQ
  rw [f.1 29 ha, f.2 30 hb.1, f.2 31 hb.2.1, f.2 32 hb.2.2.1, f.2 33 hb.2.2.2.1, f.2 34 hb.2.2.2.2.1, f.2 35 hb.2.2.2.2.2]
  exact h
theorem M_goesBy {M : Nat → Nat} (hM : jInj M) {F : jS} {μ : jMu} {I : jI} {t : Nat} {R : jR} (hIn : mIn I μ) (hok : okR I t R) (ht : t < 24) (hR : mRn I R μ) (hO : mOut I t R μ) {K : jS → Unit → Prop}
    (h : ∀ ν, mfr [22, 23, 24, 25, 26, 27, 28, 29] [30, 31, 32, 33, 34, 35, 36, 37, 38, 39] μ ν → mRn I (minS I t R) ν → mOut I (t + 1) (minS I t R) ν → (∃ b, b ≤ 1 ∧ ν.1 25 = nI b) → K (mkM M F ν) ()) {b : Nat} (hb0 : b ≤ 1) (hb : μ.1 25 = nI b) : wp_X5_goesBy (mkM M F μ) (M 99) (nI t) K := by
  obtain ⟨hE, hP, hG⟩ := hIn
  obtain ⟨r0, r1, r2, r3, r4, r5, rQ⟩ := hR
  obtain ⟨o0, o1, o2, o3, o4, o5, -⟩ := id hok
  have hm4 : m4 μ (R.1 0, R.1 1, R.1 2, b) = μ := by
    refine Prod.ext (funext fun j => ?_) rfl
    show (if j = 22 then nI (R.1 0) else if j = 23 then nI (R.1 1) else if j = 24 then nI (R.1 2) else if j = 25 then nI b else μ.1 j) = _
    by_cases c2 : j = 22
    · rw [if_pos c2, c2, r0]
    · rw [if_neg c2]
      by_cases c3 : j = 23
      · rw [if_pos c3, c3, r1]
      · rw [if_neg c3]
        by_cases c4 : j = 24
        · rw [if_pos c4, c4, r2]
        · rw [if_neg c4]
          by_cases c5 : j = 25
          · rw [if_pos c5, c5, hb]
          · rw [if_neg c5]
  have hB := hok.b
  unfold wp_X5_goesBy
  refine ⟨by rw [M_is hM]; trivial, ?_⟩
  refine M_befalls hM hE ht (s := (R.1 0, R.1 1, R.1 2, b)) ⟨o0, o1, o2, hb0⟩ hm4 ?_
  refine ⟨by rw [M_is hM]; trivial, ?_⟩
  show wp_X5_fireAt (mkM M F (m4 μ (mnB I t R))) (M 99) (nI t) _
  generalize hs : mnB I t R = s at hB
  obtain ⟨s1, s2, s3, s4⟩ := id hB
  refine M_fireAt hM (hP.fr (m4_fr (s := s))) ht (b := s.2.2.2) rfl s4 ?_
  have hF : fireOf I t s.2.2.2 ≤ 192 := by
    have := fireS_le (I := I) (t := t) (n := I 0 0) (fun e he => (hP.2.2 e he).2.2.2.2.2)
    have := hP.2.1
    unfold fireOf
    split <;> omega
  have hFe : mnF I t R = fireOf I t s.2.2.2 := by unfold mnF; rw [hs]
  generalize fireOf I t s.2.2.2 = f at hF hFe
  rw [mg_22 hM, show (m4 μ s).1 22 = nI s.1 from rfl, mg_23 hM, show (m4 μ s).1 23 = nI s.2.1 from rfl]
  refine ⟨by decide, ?_⟩
  rw [mp_22 hM, show (5 : Int32) = nI 5 from rfl, pk_div (by omega) (by decide) (by decide)]
  have hv := heatI (h := s.1) (f := f) (q := s.2.1 / 5) (K := fun v => (∃ x : Nat, s.1 + f = x + (2 + s.2.1 / 5) ∧ v = nI x) ∨ (s.1 + f < 2 + s.2.1 / 5 ∧ v < 0)) s1 (by omega) (by omega) (fun x hx => Or.inl ⟨x, hx, rfl⟩) (fun hx v hv => Or.inr ⟨hx, hv⟩)
  generalize nI s.1 + ((nI f - 2) - nI (s.2.1 / 5)) = v at hv
  have hH : mnH I t R = min (s.1 + f - (2 + s.2.1 / 5)) 100 := by unfold mnH; rw [hs, hFe]
  have key : wp_X5_goesBy_60 (mkM M F (m1 (m4 μ s) 22 v)) (M 99) (nI (mnH I t R)) (M 99) (nI t) (nI f) K := by
    refine M_min60 hM (s := s) (H := mnH I t R) (st := R.1 3) (t := t) (f := f) hB (by omega) (by omega) r3 (fun ν hν => ?_)
    have eS : (if mnH I t R = 100 ∧ 0 < s.2.1 then 1 else 0) = mnS I t R := by unfold mnS; rw [hs]
    have eW : s.2.1 - mnS I t R = mnW I t R := by unfold mnW; rw [hs]
    rw [eS, eW] at hν
    obtain ⟨fν, n22, n23, n24, n25, n26⟩ := hν
    have hW : mnW I t R ≤ 30 := by omega
    have ho : mnO I t R ≤ 1 := by unfold mnO; split <;> omega
    refine M_min99 hM (h := mnH I t R) (w := mnW I t R) n22 n23 (by omega) hW ?_
    show wp_X5_goesBy_120 (mkM M F ν) (nI (mnO I t R)) (M 99) (nI t) (nI f) K
    refine M_min120 hM (bo := R.1 4) (fi := R.1 5) ho (by rw [fν.1 27 (by decide)]; exact r4) (by rw [fν.1 28 (by decide)]; exact r5) (by omega) (fun ρ fρ p27 p28 => ⟨by rw [M_is hM]; trivial, ?_⟩)
    have f1 : mfr [22, 23, 24, 25, 26, 27, 28] [] μ ρ := (fν.mono (by decide) (by decide)).tr (fρ.mono (by decide) (by decide))
    refine M_comes hM (hG.fr f1) (rQ.fr f1) hok.wf ht (fun k hk => ?_) (fun k hk e => ?_) (fun τ fτ qτ wτ => ?_)
    · have := hok.bd k hk; omega
    · exact (hok.2.2.2.2.2.2.2.2.2 k hk).2.2.2.2.2 (by omega)
    have f2 : mfr [22, 23, 24, 25, 26, 27, 28, 29] [30, 31, 34] μ τ := (f1.mono (by decide) (by decide)).tr (fτ.mono (by decide) (by decide))
    have t22 : τ.1 22 = nI (mnH I t R) := by rw [fτ.1 22 (by decide), fρ.1 22 (by decide), n22]
    have t23 : τ.1 23 = nI (mnW I t R) := by rw [fτ.1 23 (by decide), fρ.1 23 (by decide), n23]
    have t24 : τ.1 24 = nI s.2.2.1 := by rw [fτ.1 24 (by decide), fρ.1 24 (by decide), n24]
    have t26 : τ.1 26 = nI (R.1 3 + mnS I t R) := by rw [fτ.1 26 (by decide), fρ.1 26 (by decide), n26]
    have t27 : τ.1 27 = nI (R.1 4 + mnO I t R) := by rw [fτ.1 27 (by decide), p27]
    have t28 : τ.1 28 = nM (if mnO I t R = 1 ∧ R.1 5 = 0 then t + 1 else R.1 5) := by rw [fτ.1 28 (by decide), p28]
    have fin : ∀ σ, mfr [23, 24, 29] [30, 31, 32, 33] τ σ → σ.1 23 = nI (mnV I t R).1 → σ.1 24 = nI (mnV I t R).2.1 → mQ I (mnV I t R).2.2.1 σ → wp_X5_goesBy_181 (mkM M F σ) (nM (mnV I t R).2.2.2) (M 99) (nI t) (nI f) (nI (mnO I t R)) K := by
      intro σ fσ s23 s24 qσ
      have f3 : mfr [22, 23, 24, 25, 26, 27, 28, 29] [30, 31, 32, 33, 34] μ σ := (f2.mono (by decide) (by decide)).tr (fσ.mono (by decide) (by decide))
      refine M_min181 hM (hG.fr f3) qσ hok.vw ht (by rw [fσ.1 22 (by decide), t22]) s23 s24 ho (fun k hk => ?_) (fun υ fυ qυ u36 u37 u38 u39 => ?_)
      · have := hok.vb k hk; omega
      refine h υ ((f3.mono (by decide) (by decide)).tr (fυ.mono (by decide) (by decide))) ⟨?_, ?_, ?_, ?_, ?_, ?_, qυ⟩ (fun m hm => ?_) ⟨s.2.2.2, s4, by rw [fυ.1 25 (by decide), fσ.1 25 (by decide), fτ.1 25 (by decide), fρ.1 25 (by decide), n25]⟩
      · rw [fυ.1 22 (by decide), fσ.1 22 (by decide), t22]; rfl
      · rw [fυ.1 23 (by decide), s23]; rfl
      · rw [fυ.1 24 (by decide), s24]; rfl
      · rw [fυ.1 26 (by decide), fσ.1 26 (by decide), t26]; rfl
      · rw [fυ.1 27 (by decide), fσ.1 27 (by decide), t27]; rfl
      · rw [fυ.1 28 (by decide), fσ.1 28 (by decide), t28]; rfl
      · by_cases e : m = t
        · subst e
          have w1 : ∀ j, (minS I m R).2.2.1 m j = (if j = 0 then mnH I m R else if j = 1 then (mnV I m R).1 else if j = 2 then (mnV I m R).2.1 else if j = 3 then mnF I m R else if j = 4 then mnO I m R else if j = 5 then (mnV I m R).2.2.2 else (mnA I m R).2.length) := fun j => if_pos rfl
          have w2 : ∀ k j, (minS I m R).2.2.2 m k j = (mnA I m R).1 (if j = 0 then 0 else 1) k := fun k j => if_pos rfl
          refine ⟨fun j hj => ?_, ?_, ?_, fun k hk => ⟨?_, ?_⟩⟩
          · rw [u36, w1, hFe]
            match j, hj with
            | 0, _ => rw [if_pos (by omega)]; rfl
            | 1, _ => rw [if_neg (by omega), if_pos rfl]; rfl
            | 2, _ => rw [if_neg (by omega), if_neg (by omega), if_pos rfl]; rfl
            | 3, _ => rw [if_neg (by omega), if_neg (by omega), if_neg (by omega), if_pos rfl]; rfl
            | 4, _ => rw [if_neg (by omega), if_neg (by omega), if_neg (by omega), if_neg (by omega), if_pos rfl]; rfl
          · rw [u36, w1, if_neg (by omega), if_neg (by omega), if_neg (by omega), if_neg (by omega), if_neg (by omega), if_pos rfl]; rfl
          · rw [u37, w1, if_pos rfl]; rfl
          · rw [u38, w2, if_pos (by omega), show 8 * m + k - 8 * m = k by omega]; rfl
          · rw [u39, w2, if_pos (by omega), show 8 * m + k - 8 * m = k by omega]; rfl
        · obtain ⟨a1, a2, a3, a4⟩ := hO m (by omega)
          have w1 : ∀ j, (minS I t R).2.2.1 m j = R.2.2.1 m j := fun j => if_neg e
          have w2 : ∀ k j, (minS I t R).2.2.2 m k j = R.2.2.2 m k j := fun k j => if_neg e
          have g := f3.2
          refine ⟨fun j hj => ?_, ?_, ?_, fun k hk => ⟨?_, ?_⟩⟩
          · rw [u36, w1, if_neg (by omega), if_neg (by omega), if_neg (by omega), if_neg (by omega), if_neg (by omega), if_neg (by omega), f3.2 36 (by decide)]; exact a1 j hj
          · rw [u36, w1, if_neg (by omega), if_neg (by omega), if_neg (by omega), if_neg (by omega), if_neg (by omega), if_neg (by omega), f3.2 36 (by decide)]; exact a2
          · rw [u37, w1, if_neg e, f3.2 37 (by decide)]; exact a3
          · have hn := hG.2.1
            rw [u38, w2, if_neg (by omega), f3.2 38 (by decide)]; exact (a4 k hk).1
          · have hn := hG.2.1
            rw [u39, w2, if_neg (by omega), f3.2 39 (by decide)]; exact (a4 k hk).2
    rw [e0 (by omega)]
    refine ⟨fun c => ?_, fun c => ⟨by rw [M_is hM]; trivial, ?_⟩⟩
    · have eV : mnV I t R = (mnW I t R, s.2.2.1, mnC I t R, 0) := by unfold mnV; rw [if_neg (by omega), hs]
      rw [eV] at fin
      exact fin τ mfr.rf t23 t24 qτ
    · have c1 : mnO I t R = 1 := by omega
      have eV : mnV I t R = servS I t (mnW I t R) s.2.2.1 (mnC I t R) := by unfold mnV; rw [if_pos c1, hs]
      rw [eV] at fin
      have w0 : 0 < mnW I t R := by
        unfold mnO at c1
        split at c1 <;> omega
      refine M_serves hM (hG.fr f2) qτ wτ ht t23 t24 w0 hW (by omega) (fun k hk => ?_) (fun σ fσ s23 s24 qσ => fin σ fσ s23 s24 qσ)
      have := hok.cb k hk
      show (mnC I t R).1 0 k ≤ 4 ∧ (mnC I t R).1 1 k ≤ 30
      omega
  rw [mg_22 hM, m1_at]
  refine ⟨fun c => ?_, fun c => ?_⟩
  · rw [mg_22 hM, m1_at]
    rcases hv with ⟨x, hx, rfl⟩ | ⟨hx, hn⟩
    · refine ⟨fun c2 => ?_, fun c2 => ?_⟩
      · rw [mg_22 hM, m1_at]
        rw [show (100 : Int32) = nI 100 from rfl, nI_leI (by omega) (by decide)] at c2
        rw [show mnH I t R = x by omega] at key
        exact key
      · rw [show (100 : Int32) = nI 100 from rfl, nI_leI (by omega) (by decide)] at c2
        rw [show mnH I t R = 100 by omega] at key
        exact key
    · exact absurd c (Int32.not_le.mpr hn)
  · rcases hv with ⟨x, hx, rfl⟩ | ⟨hx, hn⟩
    · exact absurd (nI_pos (by omega)) (fun q => c (Int32.not_lt.mp q))
    · rw [show mnH I t R = 0 by omega] at key
      exact key
/-- the model runs an evening -/
theorem M_runs {M : Nat → Nat} (hM : jInj M) {F : jS} {μ : jMu} {I : jI} (hIn : mIn I μ) (hw : μ.1 20 = nI (I 0 4)) (hw9 : I 0 4 ≤ 30) (hb : μ.1 11 = nI (I 0 5)) (hb9 : I 0 5 ≤ 40) {b : Nat} (hb0 : b ≤ 1) (hbo : μ.1 25 = nI b) {K : jS → Unit → Prop}
    (h : ∀ ν, mfr [22, 23, 24, 25, 26, 27, 28, 29] [30, 31, 32, 33, 34, 35, 36, 37, 38, 39] μ ν → mRn I (runS I 24) ν → mOut I 24 (runS I 24) ν → (∃ b, b ≤ 1 ∧ ν.1 25 = nI b) → K (mkM M F ν) ()) : wp_X5_runs (mkM M F μ) (M 99) K := by
  unfold wp_X5_runs
  rw [mp_22 hM, mg_20 hM, show (m1 μ 22 0).1 20 = μ.1 20 from rfl, hw, mp_23 hM, mg_11 hM, show (m1 (m1 μ 22 0) 23 (nI (I 0 4))).1 11 = μ.1 11 from rfl, hb, mp_24 hM, mp_26 hM, mp_27 hM, mp_28 hM, mp_29 hM]
  generalize hρ : m1 (m1 (m1 (m1 (m1 (m1 (m1 μ 22 0) 23 (nI (I 0 4))) 24 (nI (I 0 5))) 26 0) 27 0) 28 (-1)) 29 0 = ρ
  have f0 : mfr [22, 23, 24, 25, 26, 27, 28, 29] [30, 31, 32, 33, 34, 35, 36, 37, 38, 39] μ ρ := by rw [← hρ]; exact ((((((mfr.rf.m1 (by decide)).m1 (by decide)).m1 (by decide)).m1 (by decide)).m1 (by decide)).m1 (by decide)).m1 (by decide)
  have n22 : ρ.1 22 = nI 0 := by rw [← hρ]; rfl
  have n23 : ρ.1 23 = nI (I 0 4) := by rw [← hρ]; rfl
  have n24 : ρ.1 24 = nI (I 0 5) := by rw [← hρ]; rfl
  have n25 : ρ.1 25 = nI b := by rw [← hρ]; exact hbo
  have n26 : ρ.1 26 = nI 0 := by rw [← hρ]; rfl
  have n27 : ρ.1 27 = nI 0 := by rw [← hρ]; rfl
  have n28 : ρ.1 28 = nM 0 := by rw [← hρ]; rfl
  have n29 : ρ.1 29 = nI 0 := by rw [← hρ]; rfl
  clear hρ
  refine jl_loop (fun i (z : jS × Int32) => ∃ ν, z = (mkM M F ν, nI i) ∧ mfr [] [31, 32, 33, 34, 35] ρ ν ∧ ∀ k, k < i → ν.2 31 k = nI 0 ∧ ν.2 32 k = nI 0 ∧ ν.2 35 k = nI 0) 8 ?_ ?_ ⟨ρ, rfl, mfr.rf, fun k hk => absurd hk (Nat.not_lt_zero _)⟩
  · rintro i z hi ⟨ν, rfl, f, q⟩ Kc hKc
    have ci : (nI i).toNatClampNeg = i := nI_clamp (by omega)
    have vi : vp_in (nI i) 8 := vp_in_nI (by omega) (by decide)
    show wp_X5_runs_43 _ _ _ _ _
    unfold wp_X5_runs_43 wp_X5_runs_67
    refine ⟨fun c => absurd c (nI_ge (b := 8) hi (by decide)), fun _ => ?_⟩
    rw [mr_31 hM, ms_31 hM, ci, jnar0]
    refine ⟨vi, ?_⟩
    rw [mr_32 hM, ms_32 hM, ci, jnar0]
    refine ⟨vi, ?_⟩
    rw [mr_33 hM, ms_33 hM, ci, jnar0]
    refine ⟨vi, ?_⟩
    rw [mr_34 hM, ms_34 hM, ci, jnar0]
    refine ⟨vi, ?_⟩
    rw [mr_35 hM, ms_35 hM, ci, jnar0]
    refine ⟨vi, ?_⟩
    rw [← nI_succ]
    refine hKc _ ⟨_, rfl, ((((f.m2 (by decide)).m2 (by decide)).m2 (by decide)).m2 (by decide)).m2 (by decide), fun k hk => ⟨?_, ?_, ?_⟩⟩
    · rw [m2_off (by decide), m2_off (by decide), m2_off (by decide), m2_off (by decide), m2_at]
      split
      · rfl
      · exact (q k (by omega)).1
    · rw [m2_off (by decide), m2_off (by decide), m2_off (by decide), m2_at]
      split
      · rfl
      · rw [m2_off (by decide)]; exact (q k (by omega)).2.1
    · rw [m2_at]
      split
      · rfl
      · rw [m2_off (by decide), m2_off (by decide), m2_off (by decide), m2_off (by decide)]; exact (q k (by omega)).2.2
  · rintro z ⟨ν, rfl, f, q⟩ Kc
    show wp_X5_runs_43 _ _ _ _ _
    unfold wp_X5_runs_43
    refine ⟨fun _ => ?_, fun c => absurd (show (8 : Int32) ≤ nI 8 by decide) c⟩
    have f1 := f0.tr (f.mono (by decide) (by decide))
    have hG := hIn.2.2.2.1
    have base : mRn I (run0 I) ν := by
      refine ⟨by rw [f.1 22 (by decide), n22]; rfl, by rw [f.1 23 (by decide), n23]; rfl, by rw [f.1 24 (by decide), n24]; rfl, by rw [f.1 26 (by decide), n26]; rfl, by rw [f.1 27 (by decide), n27]; rfl, by rw [f.1 28 (by decide), n28]; rfl, by rw [f.1 29 (by decide), n29]; rfl, fun i hi => absurd hi (Nat.not_lt_zero _), fun k hk => ?_⟩
      obtain ⟨a, b, c⟩ := q k (by omega)
      exact ⟨a, b, fun e => absurd e (by show (0 : Nat) ≠ 2; omega), fun e => absurd e (by show (0 : Nat) ≠ 1; omega), c⟩
    refine jl_loop (fun t (z : jS × Int32) => ∃ τ, z = (mkM M F τ, nI t) ∧ mfr [22, 23, 24, 25, 26, 27, 28, 29] [30, 31, 32, 33, 34, 35, 36, 37, 38, 39] μ τ ∧ mRn I (runS I t) τ ∧ mOut I t (runS I t) τ ∧ ∃ b, b ≤ 1 ∧ τ.1 25 = nI b) 24 ?_ ?_ ⟨ν, rfl, f1, base, fun m hm => absurd hm (Nat.not_lt_zero _), b, hb0, by rw [f.1 25 (by decide), n25]⟩
    · rintro t z ht ⟨τ, rfl, fτ, r, o, b2, hb2, h25⟩ Kc hKc
      show wp_X5_runs_92 _ _ _ _ _
      unfold wp_X5_runs_92 wp_X5_runs_100
      refine ⟨fun c => absurd c (nI_ge (b := 24) ht (by decide)), fun _ => ⟨by rw [M_is hM]; trivial, ?_⟩⟩
      refine M_goesBy hM ⟨hIn.1.fr fτ, hIn.2.1.fr fτ, hIn.2.2.fr fτ⟩ (okR.run hw9 hb9 t) ht r o (fun υ fυ r2 o2 b3 => ?_) hb2 h25
      rw [← nI_succ]
      exact hKc _ ⟨υ, rfl, fτ.tr fυ, r2, o2, b3⟩
    · rintro z ⟨τ, rfl, fτ, r, o, hb2⟩ Kc
      show wp_X5_runs_92 _ _ _ _ _
      unfold wp_X5_runs_92
      exact ⟨fun _ => h τ fτ r o hb2, fun c => absurd (show (24 : Int32) ≤ nI 24 by decide) c⟩
