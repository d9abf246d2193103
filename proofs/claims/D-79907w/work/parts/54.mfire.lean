/-- pieces -/
def mP (I : jI) (μ : jMu) : Prop := μ.1 2 = nI (I 0 0) ∧ I 0 0 ≤ 8 ∧ ∀ e, e < I 0 0 → μ.2 3 e = nI (I 1 e) ∧ μ.2 4 e = nI (I 2 e) ∧ μ.2 5 e = nI (I 3 e) ∧ I 1 e < 24 ∧ I 2 e ≤ 2 ∧ I 3 e ≤ 3
/-- guests -/
def mGs (I : jI) (μ : jMu) : Prop := μ.1 16 = nI (I 0 1) ∧ I 0 1 ≤ 8 ∧ ∀ e, e < I 0 1 → μ.2 17 e = nI (I 4 e) ∧ μ.2 18 e = nI (I 5 e) ∧ μ.2 19 e = nI (I 6 e) ∧ I 4 e < 24 ∧ I 5 e ≤ 1 ∧ I 6 e ≤ 4
def mIn (I : jI) (μ : jMu) : Prop := mE I μ ∧ mP I μ ∧ mGs I μ
/-- what is left as it was: all numbers but these, all arrays but these -/
def mfr (a b : List Nat) (μ ν : jMu) : Prop := (∀ j, j ∉ a → ν.1 j = μ.1 j) ∧ ∀ j, j ∉ b → ν.2 j = μ.2 j
theorem mfr.rf {a b : List Nat} {μ : jMu} : mfr a b μ μ := ⟨fun _ _ => rfl, fun _ _ => rfl⟩
theorem mfr.tr {a b : List Nat} {μ ν ρ : jMu} (h1 : mfr a b μ ν) (h2 : mfr a b ν ρ) : mfr a b μ ρ := ⟨fun j hj => (h2.1 j hj).trans (h1.1 j hj), fun j hj => (h2.2 j hj).trans (h1.2 j hj)⟩
theorem mfr.mono {a b c d : List Nat} {μ ν : jMu} (h : mfr a b μ ν) (h1 : ∀ j ∈ a, j ∈ c) (h2 : ∀ j ∈ b, j ∈ d) : mfr c d μ ν := ⟨fun j hj => h.1 j (fun q => hj (h1 j q)), fun j hj => h.2 j (fun q => hj (h2 j q))⟩
theorem mfr.m1 {a b : List Nat} {μ ν : jMu} {k : Nat} {v : Int32} (h : mfr a b μ ν) (hk : k ∈ a) : mfr a b μ (m1 ν k v) := ⟨fun j hj => by have e : j ≠ k := fun e => hj (e ▸ hk); show upd ν.1 k v j = _; unfold upd; rw [if_neg e]; exact h.1 j hj, h.2⟩
theorem mfr.m2 {a b : List Nat} {μ ν : jMu} {k i : Nat} {v : Int32} (h : mfr a b μ ν) (hk : k ∈ b) : mfr a b μ (m2 ν k i v) := ⟨h.1, fun j hj => by have e : j ≠ k := fun e => hj (e ▸ hk); show (if j = k then _ else ν.2 j) = _; rw [if_neg e]; exact h.2 j hj⟩
theorem mE.fr {I : jI} {μ ν : jMu} {a b : List Nat} (h : mE I μ) (f : mfr a b μ ν) (ha : 12 ∉ a ∧ 21 ∉ a := by decide) (hb : 13 ∉ b ∧ 14 ∉ b ∧ 15 ∉ b := by decide) : mE I ν := by
  unfold mE
  rw [f.1 12 ha.1, f.1 21 ha.2, f.2 13 hb.1, f.2 14 hb.2.1, f.2 15 hb.2.2]
  exact h
theorem mP.fr {I : jI} {μ ν : jMu} {a b : List Nat} (h : mP I μ) (f : mfr a b μ ν) (ha : 2 ∉ a := by decide) (hb : 3 ∉ b ∧ 4 ∉ b ∧ 5 ∉ b := by decide) : mP I ν := by
  unfold mP
  rw [f.1 2 ha, f.2 3 hb.1, f.2 4 hb.2.1, f.2 5 hb.2.2]
  exact h
theorem mGs.fr {I : jI} {μ ν : jMu} {a b : List Nat} (h : mGs I μ) (f : mfr a b μ ν) (ha : 16 ∉ a := by decide) (hb : 17 ∉ b ∧ 18 ∉ b ∧ 19 ∉ b := by decide) : mGs I ν := by
  unfold mGs
  rw [f.1 16 ha, f.2 17 hb.1, f.2 18 hb.2.1, f.2 19 hb.2.2]
  exact h
theorem wp_in {S : jS} {x a b : Int32} {K : jS → Int32 → Prop} (h : K S (if a ≤ x ∧ x ≤ b then 1 else 0)) : wp_X5_in S x a b K := by
  unfold wp_X5_in wp_X5_in_14 wp_X5_in_15
  refine ⟨fun c => ⟨Or.inl rfl, ?_⟩, fun c => ⟨fun c2 => ⟨Or.inl rfl, ?_⟩, fun c2 => ⟨Or.inr rfl, ?_⟩⟩⟩
  · rw [if_neg (fun q => absurd q.1 (Int32.not_le.mpr c))] at h; exact h
  · rw [if_neg (fun q => absurd q.2 (Int32.not_le.mpr c2))] at h; exact h
  · rw [if_pos ⟨Int32.not_lt.mp c, Int32.not_lt.mp c2⟩] at h; exact h
theorem inSub : ∀ (t : Fin 24) (p : Fin 24) (l : Fin 10), 1 ≤ l.val → (((0 : Int32) ≤ nI t.val - nI p.val ∧ nI t.val - nI p.val ≤ nI l.val - 1) ↔ (p.val ≤ t.val ∧ t.val < p.val + l.val)) := by decide +kernel
theorem M_fire51 {M : Nat → Nat} (hM : jInj M) {F : jS} {μ : jMu} {I : jI} (hP : mP I μ) {t e q : Nat} (ht : t < 24) (he : e < I 0 0) {Kc : jS × Int32 × Int32 → Prop} {K : jS → Int32 → Prop} (h : Kc (mkM M F μ, nI (q + (if I 1 e ≤ t ∧ t < I 1 e + lasts (I 2 e) then I 3 e * gives (I 2 e) else 0)), nI (e + 1))) : wp_X5_fireAt_51 (mkM M F μ) (nI (lasts (I 2 e))) (M 99) (nI t) (nI q) (nI e) (nI t - nI (I 1 e)) Kc K := by
  obtain ⟨-, hn, hev⟩ := hP
  obtain ⟨e3, e4, e5, b1, b2, b3⟩ := hev e he
  have cl : (nI e).toNatClampNeg = e := nI_clamp (by omega)
  have vin : vp_in (nI e) 9 := vp_in_nI (by omega) (by decide)
  have hl : 1 ≤ lasts (I 2 e) ∧ lasts (I 2 e) < 10 := by unfold lasts; split <;> (try split) <;> omega
  have hi := inSub ⟨t, ht⟩ ⟨I 1 e, b1⟩ ⟨lasts (I 2 e), hl.2⟩ hl.1
  dsimp only at hi
  unfold wp_X5_fireAt_51 wp_X5_fireAt_88 wp_X5_fireAt_93
  refine wp_in ?_
  rw [← nI_succ]
  by_cases c : I 1 e ≤ t ∧ t < I 1 e + lasts (I 2 e)
  · rw [if_pos c] at h
    rw [if_pos (hi.mpr c)]
    refine ⟨fun q => absurd q (by decide), fun _ => ?_⟩
    rw [mr_5 hM, ml_5 hM, cl, e5]
    refine ⟨vin, ?_⟩
    rw [mr_4 hM, ml_4 hM, cl, e4, eN (a := I 2 e) 1 (x := 1) (by omega) (by decide) rfl]
    refine ⟨vin, fun c2 => ?_, fun c2 => ?_⟩
    · rw [show (nI (I 3 e) * 4 : Int32) = nI (I 3 e * 4) from pk_mul _ 4, nI_add]
      unfold gives at h
      rw [if_pos c2] at h
      exact h
    · rw [show (nI (I 3 e) * 3 : Int32) = nI (I 3 e * 3) from pk_mul _ 3, nI_add]
      unfold gives at h
      rw [if_neg c2] at h
      exact h
  · rw [if_neg c] at h
    rw [if_neg (fun q => c (hi.mp q))]
    refine ⟨fun _ => ?_, fun q => absurd rfl q⟩
    rw [show nI q + 0 = nI (q + 0) from nI_add q 0]
    exact h
theorem M_fireAt {M : Nat → Nat} (hM : jInj M) {F : jS} {μ : jMu} {I : jI} (hP : mP I μ) {t b : Nat} (ht : t < 24) (hb : μ.1 25 = nI b) (hb1 : b ≤ 1) {K : jS → Int32 → Prop} (h : K (mkM M F μ) (nI (fireOf I t b))) : wp_X5_fireAt (mkM M F μ) (M 99) (nI t) K := by
  obtain ⟨h2, hn, hev⟩ := id hP
  unfold wp_X5_fireAt
  refine jl_loop (fun i (z : jS × Int32 × Int32) => z = (mkM M F μ, nI (fireS I t i), nI i)) (I 0 0) ?_ ?_ rfl
  · intro i z hi hz Kc hKc
    subst hz
    obtain ⟨e3, e4, e5, b1, b2, b3⟩ := hev i hi
    have cl : (nI i).toNatClampNeg = i := nI_clamp (by omega)
    have vin : vp_in (nI i) 9 := vp_in_nI (by omega) (by decide)
    have hst := M_fire51 hM (F := F) hP (t := t) (e := i) (q := fireS I t i) ht hi (Kc := Kc) (K := K) (hKc _ rfl)
    show wp_X5_fireAt_4 _ _ _ _ _ _ _
    unfold wp_X5_fireAt_4
    rw [mg_2 hM, h2]
    refine ⟨fun c => absurd c (nI_ge hi (by omega)), fun _ => ?_⟩
    rw [mr_3 hM, ml_3 hM, cl, e3]
    refine ⟨vin, ?_⟩
    rw [mr_4 hM, ml_4 hM, cl, e4, e0 (by omega)]
    unfold lasts at hst
    refine ⟨vin, fun c => ?_, fun c => ?_⟩
    · rw [if_pos c] at hst; exact hst
    · rw [if_neg c] at hst
      rw [mr_4 hM, ml_4 hM, cl, e4, eN (a := I 2 i) 1 (x := 1) (by omega) (by decide) rfl]
      refine ⟨vin, fun c2 => ?_, fun c2 => ?_⟩
      · rw [if_pos c2] at hst; exact hst
      · rw [if_neg c2] at hst; exact hst
  · intro z hz Kc
    subst hz
    show wp_X5_fireAt_4 _ _ _ _ _ _ _
    unfold wp_X5_fireAt_4 wp_X5_fireAt_116
    rw [mg_2 hM, h2]
    refine ⟨fun _ => ?_, fun c => absurd (nI_le (Nat.le_refl _) (by omega)) c⟩
    rw [mg_25 hM, hb, eN (a := b) 1 (x := 1) (by omega) (by decide) rfl]
    unfold fireOf at h
    refine ⟨fun c => ?_, fun c => ?_⟩
    · rw [if_pos c] at h
      rw [show (2 : Int32) * nI (fireS I t (I 0 0)) = nI (2 * fireS I t (I 0 0)) from pk_mul 2 _]
      exact h
    · rw [if_neg c] at h; exact h
