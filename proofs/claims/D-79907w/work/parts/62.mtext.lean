theorem mPt.fr {p m n : Nat} {T : Nat → Nat} {μ ν : jMu} {a b : List Nat} (h : mPt p m n T μ) (f : mfr a b μ ν) (hb : 3 + 4 * p ∉ b ∧ 4 + 4 * p ∉ b ∧ 5 + 4 * p ∉ b) : mPt p m n T ν := by
  intro e he
  rw [f.2 _ hb.1, f.2 _ hb.2.1, f.2 _ hb.2.2]
  exact h e he
theorem mT.fr {n : Nat → Nat} {T : Nat → Nat → Nat} {μ ν : jMu} {a b : List Nat} (h : mT n T μ) (f : mfr a b μ ν) (hb : 0 ∉ b ∧ 1 ∉ b := by decide) : mT n T ν := by
  unfold mT
  rw [f.2 _ hb.1, f.2 _ hb.2]
  exact h
theorem m1_self {μ : jMu} {k : Nat} {v : Int32} (h : μ.1 k = v) : m1 μ k v = μ := by
  refine Prod.ext (funext fun j => ?_) rfl
  show upd μ.1 k v j = μ.1 j
  unfold upd
  split
  · rename_i c; rw [c, h]
  · rfl
def aP (p : Nat) : List Nat := if p = 0 then [3, 4, 5] else [7, 8, 9]
theorem M_rtLoop {M : Nat → Nat} (hM : jInj M) {F : jS} {n : Nat → Nat} {T : Nat → Nat → Nat} {p : Nat} (hp : p < 2) {μ : jMu} (hT : mT n T μ) (hc : μ.1 (if p = 0 then 2 else 6) = nI 0) {K : jS → Int32 → Prop}
    (h : ∀ ν, mfr [if p = 0 then 2 else 6] (aP p) μ ν → ν.1 (if p = 0 then 2 else 6) = nI (parse p (n p) (T p)).2 → mPt p (parse p (n p) (T p)).2 (n p) (T p) ν → K (mkM M F ν) (nM (parse p (n p) (T p)).1)) : ∃ m : Nat, jlp m (wp_X5_readsText_37_L (M 99) (nI p) K) (mkM M F μ, 0, 0) := by
  have hn := (hT p hp).2.1
  have h0p := (hT p hp).1
  have hz : 0 ∉ aP p ∧ 1 ∉ aP p := by unfold aP; split <;> decide
  by_cases h0 : n p = 0
  · refine ⟨1, ?_⟩
    show wp_X5_readsText_37 _ _ _ _ _ _ _
    unfold wp_X5_readsText_37
    rw [mr_0 hM, ml_0 hM, nI_clamp (by omega), h0p, h0]
    refine ⟨vp_in_nI (by omega) (by decide), fun c => absurd c (show ¬ ((0 : Int32) < nI 0) by decide), fun _ => ⟨fun _ => ?_, fun c => absurd (show (0 : Int32) ≤ 0 by decide) c⟩⟩
    have e : parse p (n p) (T p) = (0, 0) := by unfold parse; rw [if_pos h0]
    rw [e] at h
    exact h μ mfr.rf hc (fun e he => absurd he (Nat.not_lt_zero _))
  have hpar : parse p (n p) (T p) = parseL p (n p) (T p) 9 0 := by unfold parse; rw [if_neg h0]
  refine jl_loop (fun k (z : jS × Int32 × Int32) => k ≤ 8 ∧ ∃ ν, z = (mkM M F ν, nI k, nI (4 * k)) ∧ mfr [] (aP p) μ ν ∧ mPt p k (n p) (T p) ν ∧ parse p (n p) (T p) = parseL p (n p) (T p) (9 - k) k) 9 ?_ ?_ ⟨Nat.zero_le _, μ, rfl, mfr.rf, fun e he => absurd he (Nat.not_lt_zero _), hpar⟩
  · rintro k z hk ⟨hk8, ν, rfl, f, hm, hpk⟩ Kc hKc
    have hTν := hT.fr f hz
    obtain ⟨g, hg⟩ : ∃ g, 9 - k = g + 1 := ⟨8 - k, by omega⟩
    rw [hg] at hpk
    have e51 : wp_X5_readsText_51 (mkM M F ν) (M 99) (nI p) (nI k) (nI (4 * k)) Kc K := by
      unfold wp_X5_readsText_51
      refine ⟨by rw [M_is hM]; trivial, ?_⟩
      refine M_part hM hTν hp (by omega) hm (fun υ fυ mυ => ?_)
      have f2 : mfr [] (aP p) μ υ := f.tr fυ
      have hT2 := hT.fr f2 hz
      have hle : partT p (n p) (T p) k ≤ 3 := by unfold partT partF; split <;> (try split) <;> (try split) <;> omega
      have cu : ∀ (τ : jMu), υ = τ → υ.1 (if p = 0 then 2 else 6) = nI 0 := fun _ _ => by rw [f2.1 _ (by simp)]; exact hc
      rw [show (3 : Int32) = nI 3 from rfl, nI_leI (by decide) (by omega)]
      refine ⟨fun c => ?_, fun c => ?_⟩
      · have e3 : partT p (n p) (T p) k = 3 := by omega
        have h8 : k + 1 ≤ 8 := by
          by_cases q : k = 8
          · exact absurd e3 (by unfold partT partF; rw [if_pos (Or.inl q)]; omega)
          · omega
        have hpk2 : parse p (n p) (T p) = if 4 * k + 3 = n p then (0, k + 1) else if bN (n p) (T p) (4 * k + 3) = 59 then parseL p (n p) (T p) g (k + 1) else (4 * k + 3 + 1, 0) := by
          rw [hpk]
          show (if partT p (n p) (T p) k < 3 then _ else _) = _
          rw [if_neg (by omega)]
        rw [mr_0 hM, ml_0 hM, nI_clamp (by omega), (hT2 p hp).1]
        refine ⟨vp_in_nI (by omega) (by decide), ?_⟩
        rw [show nI (4 * k) + nI 3 = nI (4 * k + 3) from nI_add (4 * k) 3, eN (a := 4 * k + 3) (n p) (x := nI (n p)) (by omega) (by omega) rfl]
        refine ⟨fun d => ?_, fun d => ⟨by rw [M_is hM]; trivial, ?_⟩⟩
        · rw [if_pos d] at hpk2
          rw [hpk2] at h
          rw [show (1 : Int32) = nI 1 from rfl, nI_add, e0 (by omega)]
          unfold wp_X5_readsText_100 wp_X5_readsText_117
          refine ⟨fun z => ?_, fun z => ?_⟩
          · subst z
            rw [mp_2 hM]
            refine ⟨fun q => absurd q (by decide), fun _ => ?_⟩
            rw [mg_6 hM, mp_6 hM, m1_self rfl]
            exact h _ ((f2.mono (by intro j hj; exact absurd hj List.not_mem_nil) (fun _ q => q)).m1 (by decide)) m1_at (mυ e3)
          · have z1 : p = 1 := by omega
            subst z1
            rw [mg_2 hM, mp_2 hM, m1_self rfl]
            refine ⟨fun _ => ?_, fun q => absurd rfl q⟩
            rw [mp_6 hM]
            exact h _ ((f2.mono (by intro j hj; exact absurd hj List.not_mem_nil) (fun _ q => q)).m1 (by decide)) m1_at (mυ e3)
        · rw [if_neg d] at hpk2
          refine M_byteAt hM hT2 hp (by omega) ?_
          rw [show (59 : Int32) = nI 59 from rfl, bI_is (fun i hi => ((hT p hp).2.2 i hi).2) (by decide) (by decide)]
          refine ⟨fun q => ?_, fun q => ?_⟩
          · rw [if_pos q] at hpk2
            rw [show (1 : Int32) = nI 1 from rfl, nI_add, nI_add]
            exact hKc _ ⟨h8, υ, rfl, f2, mυ e3, by rw [hpk2, show 9 - (k + 1) = g by omega]⟩
          · rw [if_neg q] at hpk2
            rw [hpk2] at h
            have := h υ (f2.mono (by intro j hj; exact absurd hj List.not_mem_nil) (fun _ q => q)) (cu υ rfl) (fun e he => absurd he (Nat.not_lt_zero _))
            exact this
      · have hpk2 : parse p (n p) (T p) = (4 * k + partT p (n p) (T p) k + 1, 0) := by
          rw [hpk]
          show (if partT p (n p) (T p) k < 3 then _ else _) = _
          rw [if_pos (by omega)]
        rw [hpk2] at h
        have := h υ (f2.mono (by intro j hj; exact absurd hj List.not_mem_nil) (fun _ q => q)) (cu υ rfl) (fun e he => absurd he (Nat.not_lt_zero _))
        rw [nI_add]
        exact this
    show wp_X5_readsText_37 _ _ _ _ _ _ _
    unfold wp_X5_readsText_37
    rw [mr_0 hM, ml_0 hM, nI_clamp (by omega), (hTν p hp).1]
    refine ⟨vp_in_nI (by omega) (by decide), fun _ => e51, fun c => ⟨fun d => ?_, fun _ => e51⟩⟩
    rw [show (0 : Int32) = nI 0 from rfl, nI_leI (by omega) (by decide)] at d
    rw [nI_ltI (by omega) (by omega)] at c
    omega
  · rintro z ⟨h8, -⟩ Kc
    omega
