/-! PURE, the spec: an evening by minutes. Inputs: I 0 .. counts (0 pieces, 1 guests, 2 events, 3 events that are not, 4 water, 5 brew); I 1 2 3 pieces' minute, kind, many; I 4 5 6 guests' minute, dark, all; I 7 8 9 events' kind, minute, number -/
abbrev jI : Type := Nat → Nat → Nat
abbrev jB : Type := Nat × Nat × Nat × Nat
/-- one event: heat, water, brew, boot -/
def bfs (I : jI) (t e : Nat) (s : jB) : jB :=
  if I 8 e = t ∧ (I 0 3).testBit e = false then
    (if I 7 e = 0 then (s.1 - 4 * min (I 9 e) (30 - s.2.1), s.2.1 + min (I 9 e) (30 - s.2.1), s.2.2.1, s.2.2.2)
     else if I 7 e = 1 then (s.1, s.2.1, min (s.2.2.1 + I 9 e) 40, s.2.2.2) else (s.1, s.2.1, s.2.2.1, 1))
  else s
def bf (I : jI) (t : Nat) : Nat → jB → jB
  | 0, s => s
  | e + 1, s => bfs I t e (bf I t e s)
def bfOk (s : jB) : Prop := s.1 ≤ 100 ∧ s.2.1 ≤ 30 ∧ s.2.2.1 ≤ 40 ∧ s.2.2.2 ≤ 1
theorem bfs_ok {I : jI} {t e : Nat} {s : jB} (h : bfOk s) : bfOk (bfs I t e s) := by
  obtain ⟨h1, h2, h3, h4⟩ := h
  unfold bfs
  split
  · split
    · refine ⟨?_, ?_, ?_, ?_⟩ <;> dsimp only <;> omega
    · split
      · refine ⟨?_, ?_, ?_, ?_⟩ <;> dsimp only <;> omega
      · refine ⟨?_, ?_, ?_, ?_⟩ <;> dsimp only <;> omega
  · exact ⟨h1, h2, h3, h4⟩
theorem bf_ok {I : jI} {t : Nat} {s : jB} (h : bfOk s) : ∀ e, bfOk (bf I t e s)
  | 0 => h
  | e + 1 => bfs_ok (bf_ok h e)
/-- a loop of at most N rounds, by an invariant -/
theorem jl_loop {α : Type} {f : α → (α → Prop) → Prop} (P : Nat → α → Prop) (N : Nat) (hs : ∀ (i : Nat) (x : α), i < N → P i x → ∀ Kc : α → Prop, (∀ y, P (i + 1) y → Kc y) → f x Kc) (he : ∀ x : α, P N x → ∀ Kc : α → Prop, f x Kc) {x : α} (h0 : P 0 x) : ∃ n : Nat, jlp n f x := by
  refine ⟨N + 1, ?_⟩
  have key : ∀ (d i : Nat) (x : α), i + d = N → P i x → jlp (d + 1) f x := by
    intro d
    induction d with
    | zero => intro i x hi hp; exact he x (by rw [← hi]; exact hp) _
    | succ d ih => intro i x hi hp; exact hs i x (by omega) hp _ (fun y hy => ih (i + 1) y (by omega) hy)
  exact key N 0 x (by omega) h0
def lasts (k : Nat) : Nat := if k = 0 then 3 else if k = 1 then 5 else 9
def gives (k : Nat) : Nat := if k = 1 then 4 else 3
/-- what the first n pieces give at a minute -/
def fireS (I : jI) (t : Nat) : Nat → Nat
  | 0 => 0
  | n + 1 => fireS I t n + (if I 1 n ≤ t ∧ t < I 1 n + lasts (I 2 n) then I 3 n * gives (I 2 n) else 0)
def fireOf (I : jI) (t boot : Nat) : Nat := if boot = 1 then 2 * fireS I t (I 0 0) else fireS I t (I 0 0)
/-- states of guests: g 0 state, g 1 had, g 2 back, g 3 since, g 4 waited; and the line -/
abbrev jQg : Type := (Nat → Nat → Nat) × List Nat
def up2 (g : Nat → Nat → Nat) (c k v : Nat) : Nat → Nat → Nat := fun a b => if a = c ∧ b = k then v else g a b
def joinS (s : jQg) (k t : Nat) : jQg := (up2 (up2 s.1 0 k 1) 3 k t, s.2 ++ [k])
def come1 (I : jI) (t : Nat) : Nat → jQg → jQg
  | 0, s => s
  | k + 1, s => let s1 := come1 I t k s; if I 4 k = t then joinS s1 k t else s1
def come2 (t : Nat) : Nat → jQg → jQg
  | 0, s => s
  | k + 1, s => let s1 := come2 t k s; if s1.1 0 k = 2 ∧ s1.1 2 k = t then joinS s1 k t else s1
def needs (d : Nat) : Nat := if d = 1 then 3 else 1
def drinks (d : Nat) : Nat := if d = 1 then 4 else 3
/-- the first of the line for whom there is brew: his place -/
def servI (I : jI) (brew : Nat) : List Nat → Option Nat
  | [] => none
  | k :: l => if needs (I 5 k) ≤ brew then some 0 else (servI I brew l).map (· + 1)
def servG (I : jI) (t k : Nat) (g : Nat → Nat → Nat) : Nat → Nat → Nat := up2 (up2 (up2 g 1 k (g 1 k + 1)) 0 k (if g 1 k + 1 = I 6 k then 3 else 2)) 2 k (t + drinks (I 5 k))
def awayG (t : Nat) (L : List Nat) (g : Nat → Nat → Nat) : Nat → Nat → Nat := fun a b => if a = 0 ∧ b ∈ L ∧ g 3 b + 5 ≤ t then 4 else g a b
def awayL (t : Nat) (g : Nat → Nat → Nat) (L : List Nat) : List Nat := L.filter fun k => decide (t < g 3 k + 5)
/-- who is served: water, brew, the guests' states and line, and who (one more; none: 0) -/
def servS (I : jI) (t : Nat) (w b : Nat) (s : jQg) : Nat × Nat × jQg × Nat := match servI I b s.2 with
  | none => (w, b, s, 0)
  | some p => (w - 1, b - needs (I 5 (s.2.getD p 0)), (servG I t (s.2.getD p 0) s.1, s.2.eraseIdx p), s.2.getD p 0 + 1)
/-- a run: 0 heat, 1 water, 2 brew, 3 steamed, 4 minutes that boil, 5 the first of them (one more; none: 0); guests and line; of minutes 0 .. 4 heat, water, brew, fire, boils, 5 who is served (one more), 6 the line; of minutes and guests 0 state, 1 had -/
abbrev jR : Type := (Nat → Nat) × jQg × (Nat → Nat → Nat) × (Nat → Nat → Nat → Nat)
def mnB (I : jI) (t : Nat) (R : jR) : jB := bf I t (I 0 2) (R.1 0, R.1 1, R.1 2, 0)
def mnF (I : jI) (t : Nat) (R : jR) : Nat := fireOf I t (mnB I t R).2.2.2
def mnH (I : jI) (t : Nat) (R : jR) : Nat := min ((mnB I t R).1 + mnF I t R - (2 + (mnB I t R).2.1 / 5)) 100
def mnS (I : jI) (t : Nat) (R : jR) : Nat := if mnH I t R = 100 ∧ 0 < (mnB I t R).2.1 then 1 else 0
def mnW (I : jI) (t : Nat) (R : jR) : Nat := (mnB I t R).2.1 - mnS I t R
def mnO (I : jI) (t : Nat) (R : jR) : Nat := if 80 ≤ mnH I t R ∧ 0 < mnW I t R then 1 else 0
def mnC (I : jI) (t : Nat) (R : jR) : jQg := come2 t (I 0 1) (come1 I t (I 0 1) R.2.1)
def mnV (I : jI) (t : Nat) (R : jR) : Nat × Nat × jQg × Nat := if mnO I t R = 1 then servS I t (mnW I t R) (mnB I t R).2.2.1 (mnC I t R) else (mnW I t R, (mnB I t R).2.2.1, mnC I t R, 0)
def mnA (I : jI) (t : Nat) (R : jR) : jQg := (awayG t (mnV I t R).2.2.1.2 (mnV I t R).2.2.1.1, awayL t (mnV I t R).2.2.1.1 (mnV I t R).2.2.1.2)
def wtG (g : Nat → Nat → Nat) : Nat → Nat → Nat := fun a b => if a = 4 then g 4 b + (if g 0 b = 1 then 1 else 0) else g a b
def minS (I : jI) (t : Nat) (R : jR) : jR :=
  (fun c => if c = 0 then mnH I t R else if c = 1 then (mnV I t R).1 else if c = 2 then (mnV I t R).2.1 else if c = 3 then R.1 3 + mnS I t R else if c = 4 then R.1 4 + mnO I t R else if c = 5 then (if mnO I t R = 1 ∧ R.1 5 = 0 then t + 1 else R.1 5) else R.1 c,
   (wtG (mnA I t R).1, (mnA I t R).2),
   fun m j => if m = t then (if j = 0 then mnH I t R else if j = 1 then (mnV I t R).1 else if j = 2 then (mnV I t R).2.1 else if j = 3 then mnF I t R else if j = 4 then mnO I t R else if j = 5 then (mnV I t R).2.2.2 else (mnA I t R).2.length) else R.2.2.1 m j,
   fun m k j => if m = t then (mnA I t R).1 (if j = 0 then 0 else 1) k else R.2.2.2 m k j)
def run0 (I : jI) : jR := (fun c => if c = 1 then I 0 4 else if c = 2 then I 0 5 else 0, (fun _ _ => 0, []), fun _ _ => 0, fun _ _ _ => 0)
def runS (I : jI) : Nat → jR
  | 0 => run0 I
  | t + 1 => minS I t (runS I t)
/-- what stays so at the minutes' beginnings -/
def okR (I : jI) (t : Nat) (R : jR) : Prop := R.1 0 ≤ 100 ∧ R.1 1 ≤ 30 ∧ R.1 2 ≤ 40 ∧ R.1 3 ≤ t ∧ R.1 4 ≤ t ∧ R.1 5 ≤ t ∧ R.2.1.2.Nodup ∧ (∀ k ∈ R.2.1.2, k < I 0 1) ∧ (∀ k, k < I 0 1 → (k ∈ R.2.1.2 ↔ R.2.1.1 0 k = 1)) ∧
  ∀ k, k < I 0 1 → R.2.1.1 0 k ≤ 4 ∧ R.2.1.1 1 k ≤ t ∧ R.2.1.1 2 k ≤ t + 4 ∧ R.2.1.1 3 k ≤ t ∧ R.2.1.1 4 k ≤ t ∧ (t ≤ I 4 k → R.2.1.1 0 k = 0)
