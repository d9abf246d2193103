/-- the model's own numbers of heat, water, brew, boot -/
def m4 (μ : jMu) (s : jB) : jMu := (fun j => if j = 22 then nI s.1 else if j = 23 then nI s.2.1 else if j = 24 then nI s.2.2.1 else if j = 25 then nI s.2.2.2 else μ.1 j, μ.2)
theorem m4_22 (μ : jMu) (s : jB) (x : Nat) : m1 (m4 μ s) 22 (nI x) = m4 μ (x, s.2.1, s.2.2.1, s.2.2.2) := by
  unfold m1 m4; refine Prod.ext (funext fun j => ?_) rfl; dsimp only [upd]; split <;> simp_all
theorem m4_23 (μ : jMu) (s : jB) (x : Nat) : m1 (m4 μ s) 23 (nI x) = m4 μ (s.1, x, s.2.2.1, s.2.2.2) := by
  unfold m1 m4; refine Prod.ext (funext fun j => ?_) rfl; dsimp only [upd]; split <;> simp_all
theorem m4_24 (μ : jMu) (s : jB) (x : Nat) : m1 (m4 μ s) 24 (nI x) = m4 μ (s.1, s.2.1, x, s.2.2.2) := by
  unfold m1 m4; refine Prod.ext (funext fun j => ?_) rfl; dsimp only [upd]; split <;> simp_all
theorem m4_25 (μ : jMu) (s : jB) (x : Nat) : m1 (m4 μ s) 25 (nI x) = m4 μ (s.1, s.2.1, s.2.2.1, x) := by
  unfold m1 m4; refine Prod.ext (funext fun j => ?_) rfl; dsimp only [upd]; split <;> simp_all
/-- what of the model's numbers are an evening's inputs: events -/
def mE (I : jI) (μ : jMu) : Prop := μ.1 12 = nI (I 0 2) ∧ I 0 2 ≤ 8 ∧ μ.1 21 = nI (I 0 3) ∧ I 0 3 < 256 ∧ ∀ e, e < I 0 2 → μ.2 13 e = nI (I 7 e) ∧ μ.2 14 e = nI (I 8 e) ∧ μ.2 15 e = nI (I 9 e) ∧ I 7 e ≤ 2 ∧ I 8 e < 24 ∧ I 9 e ≤ 9
theorem wp_less {S : jS} {a b : Nat} {K : jS → Int32 → Prop} (ha : a < 2 ^ 31) (hb : b < 2 ^ 31) (h : K S (nI (min a b))) : wp_X5_less S (nI a) (nI b) K := by
  unfold wp_X5_less wp_X5_less_10
  refine ⟨fun c => ?_, fun c => ?_⟩
  · rw [nI_leI hb ha] at c
    rw [Nat.min_eq_right c] at h
    exact h
  · rw [nI_leI hb ha] at c
    rw [Nat.min_eq_left (by omega)] at h
    exact h
theorem bitE : ∀ g : Fin 256, ∀ e : Fin 8, (((nI g.val >>> (nI e.val &&& 31)) &&& 1) = 1) ↔ g.val.testBit e.val = true := by decide +kernel
theorem wp_isIn {S : jS} {g e : Nat} {K : jS → Int32 → Prop} (hg : g < 256) (he : e < 8) (h : K S (if g.testBit e = true then 1 else 0)) : wp_X5_isIn S (nI g) (nI e) K := by
  have hb := bitE ⟨g, hg⟩ ⟨e, he⟩
  dsimp only at hb
  unfold wp_X5_isIn wp_X5_isIn_14
  refine ⟨fun c => ⟨Or.inr rfl, ?_⟩, fun c => ⟨Or.inl rfl, ?_⟩⟩
  · rw [if_pos (hb.mp c)] at h; exact h
  · rw [if_neg (fun q => c (hb.mpr q))] at h; exact h
theorem e0 {a : Nat} (h : a < 2 ^ 31) : (nI a = 0) = (a = 0) := propext (nI_eq h (b := 0) (by decide))
theorem eN {a : Nat} (b : Nat) (h : a < 2 ^ 31) (hb : b < 2 ^ 31) {x : Int32} (hx : x = nI b) : (nI a = x) = (a = b) := by subst hx; exact propext (nI_eq h hb)
theorem M_befalls_158 {M : Nat → Nat} (hM : jInj M) {F : jS} {μ : jMu} {x1 x2 : Int32} {s : jB} {b : Nat} {Kc : jS × Int32 → Prop} {K : jS → Unit → Prop} (h : Kc (mkM M F (m4 μ (s.1, s.2.1, s.2.2.1, b)), x2 + 1)) : wp_X5_befalls_158 (mkM M F (m4 μ s)) (M 99) (nI b) (M 99) x1 x2 Kc K := by
  unfold wp_X5_befalls_158 wp_X5_befalls_161
  rw [mp_25 hM, m4_25]
  exact h
theorem M_befalls_136 {M : Nat → Nat} (hM : jInj M) {F : jS} {μ : jMu} {x1 : Int32} {e k : Nat} (he : e < 8) (hk : μ.2 13 e = nI k) (hk2 : k ≤ 2) {s : jB} {b : Nat} {Kc : jS × Int32 → Prop} {K : jS → Unit → Prop} (h : Kc (mkM M F (m4 μ (s.1, s.2.1, b, if k = 2 then 1 else s.2.2.2)), nI e + 1)) : wp_X5_befalls_136 (mkM M F (m4 μ s)) (M 99) (nI b) (M 99) x1 (nI e) Kc K := by
  unfold wp_X5_befalls_136
  rw [mp_24 hM, m4_24, mr_13 hM, ml_13 hM, nI_clamp (by omega)]
  refine ⟨vp_in_nI he (by decide), ?_⟩
  rw [show (m4 μ (s.1, s.2.1, b, s.2.2.2)).2 13 e = nI k from hk, eN (a := k) 2 (x := 2) (by omega) (by decide) rfl]
  refine ⟨fun c => ?_, fun c => ?_⟩
  · rw [if_pos c] at h
    exact M_befalls_158 hM (s := (s.1, s.2.1, b, s.2.2.2)) (b := 1) h
  · rw [if_neg c] at h
    rw [mg_25 hM]
    exact M_befalls_158 hM (s := (s.1, s.2.1, b, s.2.2.2)) (b := s.2.2.2) h
theorem M_befalls_99 {M : Nat → Nat} (hM : jInj M) {F : jS} {μ : jMu} {x1 : Int32} {e k n : Nat} (he : e < 8) (hk : μ.2 13 e = nI k) (hk2 : k ≤ 2) (hn : μ.2 15 e = nI n) (hn9 : n ≤ 9) {s : jB} (h3 : s.2.2.1 ≤ 40) {a : Nat} {Kc : jS × Int32 → Prop} {K : jS → Unit → Prop} (h : Kc (mkM M F (m4 μ (a, s.2.1, (if k = 1 then min (s.2.2.1 + n) 40 else s.2.2.1), if k = 2 then 1 else s.2.2.2)), nI e + 1)) : wp_X5_befalls_99 (mkM M F (m4 μ s)) (M 99) (nI a) (M 99) x1 (nI e) Kc K := by
  unfold wp_X5_befalls_99
  rw [mp_22 hM, m4_22, mr_13 hM, ml_13 hM, nI_clamp (by omega)]
  refine ⟨vp_in_nI he (by decide), ?_⟩
  rw [show (m4 μ (a, s.2.1, s.2.2.1, s.2.2.2)).2 13 e = nI k from hk, eN (a := k) 1 (x := 1) (by omega) (by decide) rfl]
  refine ⟨fun c => ?_, fun c => ?_⟩
  · rw [if_pos c] at h
    rw [mg_24 hM, mr_15 hM, ml_15 hM, nI_clamp (by omega)]
    refine ⟨vp_in_nI he (by decide), ?_⟩
    rw [show (m4 μ (a, s.2.1, s.2.2.1, s.2.2.2)).2 15 e = nI n from hn, show (m4 μ (a, s.2.1, s.2.2.1, s.2.2.2)).1 24 = nI s.2.2.1 from rfl, nI_add]
    exact wp_less (b := 40) (by omega) (by decide) (M_befalls_136 hM he hk hk2 (s := (a, s.2.1, s.2.2.1, s.2.2.2)) h)
  · rw [if_neg c] at h
    rw [mg_24 hM]
    exact M_befalls_136 hM he hk hk2 (s := (a, s.2.1, s.2.2.1, s.2.2.2)) (b := s.2.2.1) h
theorem M_befalls_65 {M : Nat → Nat} (hM : jInj M) {F : jS} {μ : jMu} {x1 : Int32} {e k n m : Nat} (he : e < 8) (hk : μ.2 13 e = nI k) (hk2 : k ≤ 2) (hn : μ.2 15 e = nI n) (hn9 : n ≤ 9) {s : jB} (hs : bfOk s) (hm : m ≤ 9) {Kc : jS × Int32 → Prop} {K : jS → Unit → Prop} (h : Kc (mkM M F (m4 μ (s.1 - 4 * m, s.2.1 + m, (if k = 1 then min (s.2.2.1 + n) 40 else s.2.2.1), if k = 2 then 1 else s.2.2.2)), nI e + 1)) : wp_X5_befalls_65 (mkM M F (m4 μ s)) (nI m) (M 99) x1 (nI e) Kc K := by
  obtain ⟨s1, s2, s3, s4⟩ := hs
  unfold wp_X5_befalls_65
  rw [mg_23 hM, mp_23 hM, show (m4 μ s).1 23 = nI s.2.1 from rfl, nI_add, m4_23, mg_22 hM, mg_22 hM, show (m4 μ (s.1, s.2.1 + m, s.2.2.1, s.2.2.2)).1 22 = nI s.1 from rfl, show (4 : Int32) * nI m = nI (4 * m) from pk_mul 4 m, nI_leI (by omega) (by omega)]
  refine ⟨fun c => ?_, fun c => ?_⟩
  · rw [pk_sub c]
    exact M_befalls_99 hM he hk hk2 hn hn9 (s := (s.1, s.2.1 + m, s.2.2.1, s.2.2.2)) s3 h
  · rw [show s.1 - 4 * m = 0 by omega] at h
    exact M_befalls_99 hM he hk hk2 hn hn9 (s := (s.1, s.2.1 + m, s.2.2.1, s.2.2.2)) s3 (a := 0) h
theorem M_befalls_step {M : Nat → Nat} (hM : jInj M) {F : jS} {μ : jMu} {I : jI} (hE : mE I μ) {t e : Nat} (ht : t < 24) (he : e < I 0 2) {s : jB} (hs : bfOk s) {Kc : jS × Int32 → Prop} {K : jS → Unit → Prop} (h : Kc (mkM M F (m4 μ (bfs I t e s)), nI (e + 1))) : wp_X5_befalls_7 (mkM M F (m4 μ s)) (M 99) (nI t) (nI e) Kc K := by
  obtain ⟨h12, hn, h21, hg, hev⟩ := hE
  obtain ⟨e13, e14, e15, b7, b8, b9⟩ := hev e he
  obtain ⟨s1, s2, s3, s4⟩ := id hs
  have cl : (nI e).toNatClampNeg = e := nI_clamp (by omega)
  have vin : vp_in (nI e) 8 := vp_in_nI (by omega) (by decide)
  have f12 : (m4 μ s).1 12 = nI (I 0 2) := h12
  have f21 : (m4 μ s).1 21 = nI (I 0 3) := h21
  have f23 : (m4 μ s).1 23 = nI s.2.1 := rfl
  rw [nI_succ] at h
  unfold wp_X5_befalls_7
  rw [mg_12 hM, f12]
  refine ⟨fun c => absurd c (nI_ge he (by omega)), fun _ => ?_⟩
  rw [mr_14 hM, ml_14 hM, cl]
  refine ⟨vin, ?_⟩
  have g14 : (m4 μ s).2 14 e = nI (I 8 e) := e14
  have g13 : (m4 μ s).2 13 e = nI (I 7 e) := e13
  have g15 : (m4 μ s).2 15 e = nI (I 9 e) := e15
  rw [g14, nI_eq (by omega) (by omega)]
  unfold bfs at h
  refine ⟨fun c1 => ?_, fun c1 => ?_⟩
  · rw [mg_21 hM, f21]
    refine wp_isIn hg (by omega) ?_
    by_cases c2 : (I 0 3).testBit e = true
    · rw [if_pos c2]
      refine ⟨fun c => absurd c (by decide), fun _ => ?_⟩
      rw [if_neg (fun q => by rw [q.2] at c2; cases c2)] at h
      exact h
    · rw [if_neg c2]
      refine ⟨fun _ => ?_, fun c => absurd rfl c⟩
      rw [if_pos ⟨c1, by simpa using c2⟩] at h
      rw [mr_13 hM, ml_13 hM, cl, g13, e0 (by omega)]
      refine ⟨vin, fun c3 => ?_, fun c3 => ?_⟩
      · rw [if_pos c3] at h
        rw [mr_15 hM, ml_15 hM, cl, g15, mg_23 hM, f23, show (30 : Int32) - nI s.2.1 = nI (30 - s.2.1) from pk_sub s2]
        refine ⟨vin, wp_less (by omega) (by omega) (M_befalls_65 hM (by omega) e13 b7 e15 b9 hs (by omega) ?_)⟩
        rw [if_neg (by omega), if_neg (by omega)]
        exact h
      · rw [if_neg c3] at h
        refine M_befalls_65 hM (m := 0) (by omega) e13 b7 e15 b9 hs (by omega) ?_
        by_cases c4 : I 7 e = 1
        · rw [if_pos c4] at h
          rw [if_pos c4, if_neg (by omega)]
          exact h
        · rw [if_neg c4] at h
          rw [if_neg c4, if_pos (by omega)]
          exact h
  · rw [if_neg (fun q => c1 q.1)] at h
    exact h
theorem M_befalls {M : Nat → Nat} (hM : jInj M) {F : jS} {μ : jMu} {I : jI} (hE : mE I μ) {t : Nat} (ht : t < 24) {s : jB} (hs : bfOk s) (hμ : m4 μ s = μ) {K : jS → Unit → Prop} (h : K (mkM M F (m4 μ (bf I t (I 0 2) (s.1, s.2.1, s.2.2.1, 0)))) ()) : wp_X5_befalls (mkM M F μ) (M 99) (nI t) K := by
  obtain ⟨h12, hn, -⟩ := id hE
  unfold wp_X5_befalls
  have hs0 : bfOk (s.1, s.2.1, s.2.2.1, 0) := ⟨hs.1, hs.2.1, hs.2.2.1, Nat.zero_le _⟩
  have e1 : m1 μ 25 0 = m4 μ (s.1, s.2.1, s.2.2.1, 0) := by
    have := m4_25 μ s 0
    rw [hμ] at this
    exact this
  rw [mp_25 hM, e1]
  refine ⟨I 0 2 + 1, ?_⟩
  have key : ∀ d e : Nat, e + d = I 0 2 → jlp (d + 1) (wp_X5_befalls_7_L (M 99) (nI t) K) (mkM M F (m4 μ (bf I t e (s.1, s.2.1, s.2.2.1, 0))), nI e) := by
    intro d
    induction d with
    | zero =>
      intro e he
      show wp_X5_befalls_7 _ _ _ _ _ _
      unfold wp_X5_befalls_7
      rw [mg_12 hM, show (m4 μ (bf I t e (s.1, s.2.1, s.2.2.1, 0))).1 12 = nI (I 0 2) from h12]
      refine ⟨fun _ => ?_, fun c => absurd (nI_le (by omega) (by omega)) c⟩
      rw [show e = I 0 2 by omega]
      exact h
    | succ d ih =>
      intro e he
      exact M_befalls_step hM hE ht (by omega) (bf_ok hs0 e) (ih (e + 1) (by omega))
  exact key (I 0 2) 0 (by omega)
