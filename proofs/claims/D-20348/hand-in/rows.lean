section
/-- a cell of the script: whatever it holds (0 behind its end), the reading returns -/
theorem lx_cell {post : Int32 → Prop} {L : Nat} {xs : Nat → Int32} {p : Int32} (hL : L ≤ 5) (k : Nat) (hk : k < 2 ^ 31) (hp : p = nI k) (H : ∀ x, post x) : wpL_cellAt post L xs () p :=
  pk_le L k (fun _ => H _) (fun z => ⟨pk_in k L z hp (by omega), H _⟩) rfl hp (by omega) hk
/-- the two orders agree: -1 below, 0 at, 1 above -/
theorem lx_order (a b : Int64) : wL_lawOf_26 (fun r => r = 1) a b := by
  by_cases h1 : b ≤ a
  · by_cases e : a = b
    · have h2 : a ≤ b := e ▸ Int64.le_refl a
      exact br_t h1 (br_t e (br_t h2 (br_t h1 (br_t rfl rfl))))
    · have h2 : ¬ a ≤ b := fun z => e (Int64.le_antisymm z h1)
      exact br_t h1 (br_f e (br_f h2 (fun x ex => br_t h1 (br_t (by rw [ex]; decide) rfl))))
  · have h2 : a ≤ b := (Int64.le_total a b).resolve_right h1
    exact br_f h1 (br_t h2 (br_f h1 (fun x ex => br_t (by rw [ex]; decide) rfl)))
/-- the law over two longs, by its selector -/
theorem lx_lawOf (a b : Int64) (c : Int32) : wpL_lawOf (fun r => r = 1) () a b c :=
  ⟨fun _ => lx_order _ _, fun _ => ⟨fun _ => lx_order _ _, fun _ => lx_order _ _⟩⟩
theorem i_vc (xs : Nat → Int32) (L : Nat) (hL : L ≤ 5) : wpL_law (fun r => r = 1) L xs :=
  lx_cell hL 0 (by decide) rfl fun _ => lx_cell hL 1 (by decide) rfl fun _ => lx_cell hL 2 (by decide) rfl fun _ =>
    lx_cell hL 3 (by decide) rfl fun _ => lx_cell hL 4 (by decide) rfl fun _ => lx_lawOf _ _ _
end
