/-! PURE, the model: its object and arrays as one picture -/
def lM : Nat → Nat := fun k => ([2, 62, 0, 9, 9, 9, 0, 9, 9, 9, 0, 0, 0, 8, 8, 8, 0, 8, 8, 8, 0, 0, 0, 0, 0, 0, 0, 0, 0, 0, 8, 8, 8, 8, 8, 8, 144, 24, 192, 192, 0, 0, 2, 0, 8, 8, 24, 4, 4, 4, 240, 60, 0] : List Nat).getD k 0
def kM (k : Nat) : Nat := if k = 47 then 3 else 0
abbrev jMu : Type := (Nat → Int32) × (Nat → Nat → Int32)
def vM (M : Nat → Nat) (μ : jMu) : Nat → Value := fun k => if lM k = 0 then .int (μ.1 k) else .ref (M k)
def cM (M : Nat → Nat) (μ : jMu) (c : Nat) : jE := if c = 99 then (8, .inr (.inr (vM M μ))) else (kM c, .inl (lM c, μ.2 c))
def uM (c : Nat) : Prop := c = 99 ∨ lM c ≠ 0
noncomputable def mkM (M : Nat → Nat) (F : jS) (μ : jMu) : jS := (fun q => @ite _ (∃ c, uM c ∧ M c = q) (Classical.propDecidable _) (some (cM M μ (Classical.epsilon fun c => uM c ∧ M c = q))) (F.1 q), F.2)
def jInj (M : Nat → Nat) : Prop := ∀ a b : Nat, M a = M b → a = b
def m1 (μ : jMu) (k : Nat) (v : Int32) : jMu := (upd μ.1 k v, μ.2)
def m2 (μ : jMu) (k i : Nat) (v : Int32) : jMu := (μ.1, fun j => if j = k then upd (μ.2 k) i v else μ.2 j)
theorem mkM_at {M : Nat → Nat} (hM : jInj M) (F : jS) (μ : jMu) {c : Nat} (h : uM c) : (mkM M F μ).1 (M c) = some (cM M μ c) := by
  have hex : ∃ d, uM d ∧ M d = M c := ⟨c, h, rfl⟩
  unfold mkM
  dsimp only
  rw [if_pos hex]
  have h2 := Classical.epsilon_spec hex
  rw [hM _ _ h2.2]
theorem mkM_off {M : Nat → Nat} (F : jS) (μ : jMu) {q : Nat} (h : ∀ c, uM c → M c ≠ q) : (mkM M F μ).1 q = F.1 q := by
  unfold mkM
  dsimp only
  rw [if_neg (fun ⟨c, h1, h2⟩ => h c h1 h2)]
theorem mkM_set {M : Nat → Nat} (hM : jInj M) (F : jS) (μ ν : jMu) {c : Nat} (h : uM c) (hne : ∀ d, uM d → d ≠ c → cM M ν d = cM M μ d) : jset (mkM M F μ) (M c) (cM M ν c) = mkM M F ν := by
  have e : ∀ q : Nat, (jset (mkM M F μ) (M c) (cM M ν c)).1 q = (mkM M F ν).1 q := by
    intro q
    by_cases hq : ∃ d, uM d ∧ M d = q
    · obtain ⟨d, h1, rfl⟩ := hq
      rw [mkM_at hM F ν h1]
      by_cases e : d = c
      · subst e
        simp [jset, va_up]
      · have h2 : M d ≠ M c := fun h9 => e (hM _ _ h9)
        have h3 : (jset (mkM M F μ) (M c) (cM M ν c)).1 (M d) = (mkM M F μ).1 (M d) := by simp [jset, va_up, h2]
        rw [h3, mkM_at hM F μ h1, hne d h1 e]
    · have h0 : ∀ d, uM d → M d ≠ q := fun d h1 h2 => hq ⟨d, h1, h2⟩
      rw [mkM_off F ν h0]
      have h2 : q ≠ M c := fun h9 => h0 c h h9.symm
      have h3 : (jset (mkM M F μ) (M c) (cM M ν c)).1 q = (mkM M F μ).1 q := by simp [jset, va_up, h2]
      rw [h3, mkM_off F μ h0]
  exact Prod.ext (funext e) rfl
section MP
variable {M : Nat → Nat} {F : jS} {μ : jMu}
theorem M_is (hM : jInj M) : jis 8 (mkM M F μ) (M 99) = True := propext ⟨fun _ => trivial, fun _ => ⟨_, mkM_at hM F μ (c := 99) (Or.inl rfl)⟩⟩
theorem M_gi (hM : jInj M) {k : Nat} {K : Int32 → Prop} (h : lM k = 0) : jgi [8] k (mkM M F μ) (M 99) K = K (μ.1 k) := by
  have h0 := mkM_at hM F μ (c := 99) (Or.inl rfl)
  apply propext
  constructor
  · rintro ⟨v, ⟨c, V, h1, h2, h3⟩, hk⟩
    rw [h0] at h1
    cases h1
    simp [vM, h] at h3
    rw [h3]
    exact hk
  · intro hk
    exact ⟨_, ⟨8, _, h0, by decide, by simp [vM, h]⟩, hk⟩
theorem M_gr (hM : jInj M) {k : Nat} {K : Nat → Prop} (h : lM k ≠ 0) : jgr [8] k (mkM M F μ) (M 99) K = K (M k) := by
  have h0 := mkM_at hM F μ (c := 99) (Or.inl rfl)
  apply propext
  constructor
  · rintro ⟨v, ⟨c, V, h1, h2, h3⟩, hk⟩
    rw [h0] at h1
    cases h1
    simp [vM, h] at h3
    rw [h3]
    exact hk
  · intro hk
    exact ⟨_, ⟨8, _, h0, by decide, by simp [vM, h]⟩, hk⟩
theorem M_pi (hM : jInj M) {k : Nat} {v : Int32} {K : jS → Prop} (h : lM k = 0) (h9 : k ≠ 99) : jpi [8] k (mkM M F μ) (M 99) v K = K (mkM M F (m1 μ k v)) := by
  have h0 := mkM_at hM F μ (c := 99) (Or.inl rfl)
  have e : jset (mkM M F μ) (M 99) (8, .inr (.inr (updV (vM M μ) k (.int v)))) = mkM M F (m1 μ k v) := by
    have h1 := mkM_set hM F μ (m1 μ k v) (c := 99) (Or.inl rfl) (fun d hd hne => by unfold cM; rw [if_neg hne, if_neg hne]; rfl)
    rw [← h1]
    congr 1
    show _ = (8, Sum.inr (Sum.inr (vM M (m1 μ k v))))
    congr 3
    funext j
    by_cases hj : j = k
    · subst hj
      simp [updV, vM, h, m1, upd]
    · simp [updV, vM, m1, upd, hj]
  apply propext
  constructor
  · rintro ⟨c, V, h1, h2, hk⟩
    rw [h0] at h1
    cases h1
    rw [e] at hk
    exact hk
  · intro hk
    exact ⟨8, _, h0, by decide, by rw [e]; exact hk⟩
theorem M_al (hM : jInj M) {k t : Nat} {i : Int32} {K : Int32 → Prop} (h : lM k ≠ 0) (ht : kM k = t) (h9 : k ≠ 99) : jal t (mkM M F μ) (M k) i K = (vp_in i (lM k) ∧ K (μ.2 k i.toNatClampNeg)) := by
  have h0 := mkM_at hM F μ (c := k) (Or.inr h)
  unfold cM at h0
  rw [if_neg h9] at h0
  apply propext
  constructor
  · rintro ⟨n, f, h1, h2, hk⟩
    rw [h0] at h1
    cases h1
    exact ⟨h2, hk⟩
  · rintro ⟨h2, hk⟩
    exact ⟨_, _, by rw [h0, ht], h2, hk⟩
theorem M_as (hM : jInj M) {k t : Nat} {i x : Int32} {K : jS → Prop} (h : lM k ≠ 0) (ht : kM k = t) (h9 : k ≠ 99) : jas t (mkM M F μ) (M k) i x K = (vp_in i (lM k) ∧ K (mkM M F (m2 μ k i.toNatClampNeg (jnar t x)))) := by
  have h0 := mkM_at hM F μ (c := k) (Or.inr h)
  unfold cM at h0
  rw [if_neg h9] at h0
  have e : jset (mkM M F μ) (M k) (t, .inl (lM k, upd (μ.2 k) i.toNatClampNeg (jnar t x))) = mkM M F (m2 μ k i.toNatClampNeg (jnar t x)) := by
    have h1 := mkM_set hM F μ (m2 μ k i.toNatClampNeg (jnar t x)) (c := k) (Or.inr h) (fun d hd hne => by
      unfold cM
      by_cases hd9 : d = 99
      · rw [if_pos hd9, if_pos hd9]; rfl
      · rw [if_neg hd9, if_neg hd9]
        simp [m2, hne])
    rw [← h1]
    congr 1
    unfold cM
    rw [if_neg h9, ht]
    simp [m2]
  apply propext
  constructor
  · rintro ⟨n, f, h1, h2, hk⟩
    rw [h0] at h1
    cases h1
    rw [ht, e] at hk
    exact ⟨h2, hk⟩
  · rintro ⟨h2, hk⟩
    exact ⟨_, _, by rw [h0, ht], h2, by rw [e]; exact hk⟩
end MP
