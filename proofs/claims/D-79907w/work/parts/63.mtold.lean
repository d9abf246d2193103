theorem M_readsText {M : Nat → Nat} (hM : jInj M) {F : jS} {n : Nat → Nat} {T : Nat → Nat → Nat} {p : Nat} (hp : p < 2) {μ : jMu} (hT : mT n T μ) {K : jS → Int32 → Prop}
    (h : ∀ ν, mfr [if p = 0 then 2 else 6] (aP p) μ ν → ν.1 (if p = 0 then 2 else 6) = nI (parse p (n p) (T p)).2 → mPt p (parse p (n p) (T p)).2 (n p) (T p) ν → K (mkM M F ν) (nM (parse p (n p) (T p)).1)) : wp_X5_readsText (mkM M F μ) (M 99) (nI p) K := by
  unfold wp_X5_readsText wp_X5_readsText_17 wp_X5_readsText_34
  rw [e0 (by omega)]
  refine ⟨fun z => ?_, fun z => ?_⟩
  · subst z
    rw [mp_2 hM]
    refine ⟨fun q => absurd q (by decide), fun _ => ?_⟩
    rw [mg_6 hM, mp_6 hM, m1_self rfl]
    exact M_rtLoop hM hp (hT.fr (mfr.rf.m1 (a := [2]) (b := []) (by decide))) m1_at (fun ν f c m => h ν ((mfr.rf.m1 (by decide)).tr f) c m)
  · have z1 : p = 1 := by omega
    subst z1
    rw [mg_2 hM, mp_2 hM, m1_self rfl]
    refine ⟨fun _ => ?_, fun q => absurd rfl q⟩
    rw [mp_6 hM]
    exact M_rtLoop hM hp (hT.fr (mfr.rf.m1 (a := [6]) (b := []) (by decide))) m1_at (fun ν f c m => h ν ((mfr.rf.m1 (by decide)).tr f) c m)
/-- both texts are read -/
def mRd (n : Nat → Nat) (T : Nat → Nat → Nat) (ν : jMu) : Prop := ν.1 2 = nI (parse 0 (n 0) (T 0)).2 ∧ mPt 0 (parse 0 (n 0) (T 0)).2 (n 0) (T 0) ν ∧ ν.1 6 = nI (parse 1 (n 1) (T 1)).2 ∧ mPt 1 (parse 1 (n 1) (T 1)).2 (n 1) (T 1) ν
theorem M_faultOf {M : Nat → Nat} (hM : jInj M) {F : jS} {n : Nat → Nat} {T : Nat → Nat → Nat} {p : Nat} (hp : p < 2) {μ : jMu} (hT : mT n T μ) {K : jS → Int32 → Prop}
    (h : ∀ ν, mfr [2, 6] [3, 4, 5, 7, 8, 9] μ ν → mRd n T ν → K (mkM M F ν) (nM (parse p (n p) (T p)).1)) : wp_X5_faultOf (mkM M F μ) (M 99) (nI p) K := by
  unfold wp_X5_faultOf wp_X5_faultOf_21
  refine ⟨by rw [M_is hM]; trivial, ?_⟩
  refine M_readsText hM (p := 0) (by decide) hT (fun ν f c m => ⟨by rw [M_is hM]; trivial, ?_⟩)
  refine M_readsText hM (p := 1) (by decide) (hT.fr f) (fun υ f2 c2 m2 => ?_)
  have ff : mfr [2, 6] [3, 4, 5, 7, 8, 9] μ υ := (f.mono (by decide) (by decide)).tr (f2.mono (by decide) (by decide))
  have hr : mRd n T υ := ⟨by rw [f2.1 2 (by decide)]; exact c, m.fr f2 (by decide), c2, m2⟩
  rw [e0 (by omega)]
  refine ⟨fun z => ?_, fun z => ?_⟩
  · subst z; exact h υ ff hr
  · have z1 : p = 1 := by omega
    subst z1
    exact h υ ff hr
theorem M_reads {M : Nat → Nat} (hM : jInj M) {F : jS} {n : Nat → Nat} {T : Nat → Nat → Nat} {μ : jMu} (hT : mT n T μ) {K : jS → Unit → Prop}
    (h : ∀ ν, mfr [2, 6] [3, 4, 5, 7, 8, 9] μ ν → mRd n T ν → K (mkM M F ν) ()) : wp_X5_reads (mkM M F μ) (M 99) K := by
  unfold wp_X5_reads
  exact ⟨by rw [M_is hM]; trivial, M_faultOf hM (p := 0) (by decide) hT h⟩
theorem parseL_le {p n : Nat} {T : Nat → Nat} : ∀ (f k : Nat), k + f = 9 → (parseL p n T f k).2 ≤ 8
  | 0, _, _ => Nat.zero_le _
  | f + 1, k, h => by
    show (if partT p n T k < 3 then (4 * k + partT p n T k + 1, 0) else if 4 * k + 3 = n then (0, k + 1) else if bN n T (4 * k + 3) = 59 then parseL p n T f (k + 1) else (4 * k + 3 + 1, 0)).2 ≤ 8
    split
    · exact Nat.zero_le _
    · rename_i c
      have h8 : k ≠ 8 := fun q => c (by unfold partT partF; rw [if_pos (Or.inl q)]; omega)
      split
      · show k + 1 ≤ 8; omega
      · split
        · exact parseL_le f (k + 1) (by omega)
        · exact Nat.zero_le _
theorem parse_le {p n : Nat} {T : Nat → Nat} : (parse p n T).2 ≤ 8 := by
  unfold parse
  split
  · exact Nat.zero_le _
  · exact parseL_le 9 0 rfl
/-- the evening as told: its inputs out of the texts, the settings and the events -/
def toI (n : Nat → Nat) (T : Nat → Nat → Nat) (w b : Nat) (ne : Nat) (E : Nat → Nat → Nat) : jI := fun c i =>
  if c = 0 then (if i = 0 then (parse 0 (n 0) (T 0)).2 else if i = 1 then (parse 1 (n 1) (T 1)).2 else if i = 2 then ne else if i = 3 then 0 else if i = 4 then w else b)
  else if c = 1 then bN (n 0) (T 0) (4 * i) - 97 else if c = 2 then kindN 0 (bN (n 0) (T 0) (4 * i + 1)) else if c = 3 then bN (n 0) (T 0) (4 * i + 2) - 48
  else if c = 4 then bN (n 1) (T 1) (4 * i) - 97 else if c = 5 then kindN 1 (bN (n 1) (T 1) (4 * i + 1)) else if c = 6 then bN (n 1) (T 1) (4 * i + 2) - 48
  else E (c - 7) i
theorem part_bd {p n k : Nat} {T : Nat → Nat} (h : partT p n T k = 3) : bN n T (4 * k) - 97 < 24 ∧ kindN p (bN n T (4 * k + 1)) ≤ 2 ∧ bN n T (4 * k + 2) - 48 ≤ 3 + p ∧ (p = 1 → kindN p (bN n T (4 * k + 1)) ≤ 1) := by
  unfold partT partF at h
  split at h
  · omega
  · split at h
    · omega
    · rename_i c1 c2
      split at h
      · omega
      · have := kindN_le (p := p) (b := bN n T (4 * k + 1))
        refine ⟨by omega, by omega, by omega, fun q => ?_⟩
        subst q
        unfold kindN at c2 ⊢
        rw [if_neg (by decide)] at c2 ⊢
        split <;> (try split) <;> simp_all
/-- what the model keeps of texts, settings and events -/
def mSt (n : Nat → Nat) (T : Nat → Nat → Nat) (w b ne : Nat) (E : Nat → Nat → Nat) (μ : jMu) : Prop := mT n T μ ∧ μ.1 10 = nI w ∧ w ≤ 30 ∧ μ.1 11 = nI b ∧ b ≤ 40 ∧ μ.1 12 = nI ne ∧ ne ≤ 8 ∧ (∀ e, e < ne → μ.2 13 e = nI (E 0 e) ∧ μ.2 14 e = nI (E 1 e) ∧ μ.2 15 e = nI (E 2 e) ∧ E 0 e ≤ 2 ∧ E 1 e < 24 ∧ E 2 e ≤ 9) ∧ ∃ b, b ≤ 1 ∧ μ.1 25 = nI b
theorem mSt.fr {n : Nat → Nat} {T : Nat → Nat → Nat} {w b ne : Nat} {E : Nat → Nat → Nat} {μ ν : jMu} {x y : List Nat} (h : mSt n T w b ne E μ) (f : mfr x y μ ν) (hx : 10 ∉ x ∧ 11 ∉ x ∧ 12 ∉ x ∧ 25 ∉ x := by decide) (hy : 0 ∉ y ∧ 1 ∉ y ∧ 13 ∉ y ∧ 14 ∉ y ∧ 15 ∉ y := by decide) : mSt n T w b ne E ν := by
  unfold mSt mT
  rw [f.1 10 hx.1, f.1 11 hx.2.1, f.1 12 hx.2.2.1, f.1 25 hx.2.2.2, f.2 0 hy.1, f.2 1 hy.2.1, f.2 13 hy.2.2.1, f.2 14 hy.2.2.2.1, f.2 15 hy.2.2.2.2]
  exact h
theorem M_asTold {M : Nat → Nat} (hM : jInj M) {F : jS} {n : Nat → Nat} {T : Nat → Nat → Nat} {w b ne : Nat} {E : Nat → Nat → Nat} {μ : jMu} (hS : mSt n T w b ne E μ) {K : jS → Unit → Prop}
    (h : ∀ ν, mfr [2, 6, 16, 20, 21] [3, 4, 5, 7, 8, 9, 17, 18, 19] μ ν → mRd n T ν → mIn (toI n T w b ne E) ν → ν.1 20 = nI w → K (mkM M F ν) ()) : wp_X5_asTold (mkM M F μ) (M 99) K := by
  have hT := hS.1
  unfold wp_X5_asTold
  refine ⟨by rw [M_is hM]; trivial, ?_⟩
  refine M_reads hM hT (fun ρ f0 r => ?_)
  have hle : (parse 1 (n 1) (T 1)).2 ≤ 8 := parse_le
  have hle0 : (parse 0 (n 0) (T 0)).2 ≤ 8 := parse_le
  rw [mg_6 hM, r.2.2.1, mp_16 hM]
  generalize hg : (parse 1 (n 1) (T 1)).2 = g at hle
  have r2 := r.2.2.2
  rw [hg] at r2
  refine jl_loop (fun i (z : jS × Int32) => ∃ ν, z = (mkM M F ν, nI i) ∧ mfr [16] [17, 18, 19] ρ ν ∧ ν.1 16 = nI g ∧ ∀ e, e < i → ν.2 17 e = ρ.2 7 e ∧ ν.2 18 e = ρ.2 8 e ∧ ν.2 19 e = ρ.2 9 e) g ?_ ?_ ⟨_, rfl, mfr.rf.m1 (by decide), m1_at, fun e he => absurd he (Nat.not_lt_zero _)⟩
  · rintro i z hi ⟨ν, rfl, f, c16, q⟩ Kc hKc
    have ci : (nI i).toNatClampNeg = i := nI_clamp (by omega)
    have vi : vp_in (nI i) 9 := vp_in_nI (by omega) (by decide)
    have vi8 : vp_in (nI i) 8 := vp_in_nI (by omega) (by decide)
    show wp_X5_asTold_14 _ _ _ _ _
    unfold wp_X5_asTold_14 wp_X5_asTold_39
    have f6 : ν.1 6 = nI g := by rw [f.1 6 (by decide), r.2.2.1, hg]
    rw [mg_6 hM, f6]
    refine ⟨fun c => absurd c (nI_ge hi (by omega)), fun _ => ?_⟩
    rw [mr_17 hM, mr_7 hM, ml_7 hM, ci]
    refine ⟨vi, ?_⟩
    rw [ms_17 hM, ci, jnar0]
    refine ⟨vi8, ?_⟩
    rw [mr_18 hM, mr_8 hM, ml_8 hM, ci]
    refine ⟨vi, ?_⟩
    rw [ms_18 hM, ci, jnar0]
    refine ⟨vi8, ?_⟩
    rw [mr_19 hM, mr_9 hM, ml_9 hM, ci]
    refine ⟨vi, ?_⟩
    rw [ms_19 hM, ci, jnar0]
    refine ⟨vi8, ?_⟩
    rw [← nI_succ]
    refine hKc _ ⟨_, rfl, ((f.m2 (by decide)).m2 (by decide)).m2 (by decide), c16, fun e he => ⟨?_, ?_, ?_⟩⟩
    · rw [m2_off (by decide), m2_off (by decide), m2_at]
      split
      · rename_i c; rw [c, f.2 7 (by decide)]
      · exact (q e (by omega)).1
    · rw [m2_off (by decide), m2_at]
      split
      · rename_i c; rw [c, m2_off (by decide), f.2 8 (by decide)]
      · rw [m2_off (by decide)]; exact (q e (by omega)).2.1
    · rw [m2_at]
      split
      · rename_i c; rw [c, m2_off (by decide), m2_off (by decide), f.2 9 (by decide)]
      · rw [m2_off (by decide), m2_off (by decide)]; exact (q e (by omega)).2.2
  · rintro z ⟨ν, rfl, f, c16, q⟩ Kc
    show wp_X5_asTold_14 _ _ _ _ _
    unfold wp_X5_asTold_14
    have f6 : ν.1 6 = nI g := by rw [f.1 6 (by decide), r.2.2.1, hg]
    rw [mg_6 hM, f6]
    refine ⟨fun _ => ?_, fun c => absurd (nI_le (Nat.le_refl _) (by omega)) c⟩
    have fμ : mfr [2, 6, 16] [3, 4, 5, 7, 8, 9, 17, 18, 19] μ ν := (f0.mono (by decide) (by decide)).tr (f.mono (by decide) (by decide))
    obtain ⟨-, s10, w9, s11, b9, s12, n9, sE, -⟩ := hS
    rw [mg_10 hM, fμ.1 10 (by decide), s10, mp_20 hM, mp_21 hM]
    have fν : mfr [2, 6, 16, 20, 21] [3, 4, 5, 7, 8, 9, 17, 18, 19] μ (m1 (m1 ν 20 (nI w)) 21 0) := ((fμ.mono (by decide) (by decide)).m1 (by decide)).m1 (by decide)
    have frho : mfr [16, 20, 21] [17, 18, 19] ρ (m1 (m1 ν 20 (nI w)) 21 0) := ((f.mono (by decide) (by decide)).m1 (by decide)).m1 (by decide)
    refine h _ fν ⟨by rw [frho.1 2 (by decide)]; exact r.1, r.2.1.fr frho (by decide), by rw [frho.1 6 (by decide)]; exact r.2.2.1, r.2.2.2.fr frho (by decide)⟩ ⟨⟨?_, n9, ?_, by show (0 : Nat) < 256; decide, fun e he => ?_⟩, ⟨?_, hle0, fun e he => ?_⟩, ⟨?_, by show (parse 1 (n 1) (T 1)).2 ≤ 8; omega, fun e he => ?_⟩⟩ rfl
    · rw [fν.1 12 (by decide)]; exact s12
    · exact m1_at
    · rw [fν.2 13 (by decide), fν.2 14 (by decide), fν.2 15 (by decide)]; exact sE e he
    · rw [frho.1 2 (by decide)]; exact r.1
    · obtain ⟨a, b, c, d⟩ := r.2.1 e he
      obtain ⟨d1, d2, d3, d4⟩ := part_bd d
      rw [frho.2 3 (by decide), frho.2 4 (by decide), frho.2 5 (by decide)]
      exact ⟨a, b, c, d1, d2, d3⟩
    · show ν.1 16 = nI (parse 1 (n 1) (T 1)).2
      rw [c16, hg]
    · have he2 : e < g := by rw [← hg]; exact he
      obtain ⟨a, b, c, d⟩ := r2 e he2
      obtain ⟨d1, d2, d3, d4⟩ := part_bd d
      obtain ⟨q1, q2, q3⟩ := q e he2
      show ν.2 17 e = _ ∧ ν.2 18 e = _ ∧ ν.2 19 e = _ ∧ _
      rw [q1, q2, q3]
      exact ⟨a, b, c, d1, d4 rfl, d3⟩
