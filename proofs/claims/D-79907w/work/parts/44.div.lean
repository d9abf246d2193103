theorem nd_X0_divisor : yX0_divisor.cls ≠ "java/lang/invoke/MethodHandle" ∧ yX0_divisor.cls ≠ "java/lang/invoke/VarHandle" ∧ (parseMethodDescriptor yX0_divisor.desc).map (fun d => d.parameters.length) = some 2 := by decide +kernel
def wp_X0_divisor : Nat → jS → Int64 → Int64 → (jS → Int64 → Prop) → Prop
  | 0, _, _, _, _ => False
  | n + 1, S, x0, x2, K => (((lg_cmp x2 0) = 0) → K S x0) ∧ ((¬ ((lg_cmp x2 0) = 0)) → (¬ (x2 : Int64) = 0) ∧ wp_X0_divisor n S x2 (x0 - x0 / x2 * x2) K)
theorem m_X0_divisor : ∀ (n : Nat) {l : Launch} (hl : l.stackTraces = false) {G : jG} {K : jS → Int64 → Prop} {S : jS} {x0 : Int64} {x2 : Int64}, wp_X0_divisor n S x0 x2 K → jMet l G n yX0_divisor (ws_ yX0_divisor cX0_divisor 4 (some .long)) [.long x0, .long x2] S tvl K := by
  intro n
  induction n with
  | zero => intro l hl G K S x0 x2 h; exact h.elim
  | succ n ih =>
    intro l hl G K S x0 x2 h
    refine jMet.of hl rfl (by decide) (Nat.le_of_ble_eq_true rfl) (fun X C => jr_sub [0, 1] rfl ?_)
    refine jr_lload_n C 1 rfl dX0_divisor_0 rfl 1 rfl ?_
    refine jr_lconst (v := 0) C 2 rfl dX0_divisor_1 (by decide) ?_
    refine jr_lcmp C 3 rfl dX0_divisor_2 ?_
    refine jr_if_ne C 10 6 rfl dX0_divisor_3 (by decide) (fun c3 => ?_) (fun c3 => ?_)
    · have h := h.1 c3
      refine jr_lload_n C 7 rfl dX0_divisor_6 rfl 0 rfl ?_
      refine jr_goto C 17 dX0_divisor_7 (by decide) ?_
      exact jr_lreturn C dX0_divisor_17 h
    · have h := h.2 c3
      refine jr_lload_n C 11 rfl dX0_divisor_10 rfl 1 rfl ?_
      refine jr_lload_n C 12 rfl dX0_divisor_11 rfl 0 rfl ?_
      refine jr_lload_n C 13 rfl dX0_divisor_12 rfl 1 rfl ?_
      obtain ⟨hz, h⟩ := h
      refine jr_lrem C 14 rfl dX0_divisor_13 hz ?_
      refine jr_callSl (As := [.long x2, .long (x0 - x0 / x2 * x2)]) (st := []) C 17 rfl (ih C.2.2.2.2.2.2.2.2.2.2.2.2.2.2.2 h) rfl q1115 q1116 q94 q1117 (Nat.le_refl _) (by decide) nd_X0_divisor (Nat.le_of_ble_eq_true rfl) dX0_divisor_14 (fun S1 r h => ?_)
      exact jr_lreturn C dX0_divisor_17 h
