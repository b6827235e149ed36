section
/-! ===== plain rows: the bound read off the int and off the long; the two prices ===== -/
theorem sr_ten (x : Int32) : x.toInt64 ≤ 10 ↔ x ≤ 10 := by
  have h1 : (10 : Int64).toInt = 10 := by decide
  have h2 : (10 : Int32).toInt = 10 := by decide
  have h3 : x.toInt64.toInt = x.toInt := Int32.toInt_toInt64 x
  rw [Int64.le_iff_toInt_le, Int32.le_iff_toInt_le]
  omega
theorem sr_one : (1 : Int32).toInt64 = 1 := by decide
theorem sr_full (p : Int64) : 500 * p + 500 * (1 : Int32).toInt64 = 500 * (p + 1) := by
  rw [sr_one]
  grind
theorem sr_low (p : Int64) : 400 * p + 500 * (1 : Int32).toInt64 = 500 * (p + 1) - 100 * p := by
  rw [sr_one]
  grind
/-! ===== the two calls and their comparison: Flat, then Tiered (a quantity that isn't negative) ===== -/
theorem sr_flat {post : Int32 → St0 → Prop} {mc ms : Nat} {x : Int32} (hm : 1 ≤ mc) (h : post 1 ()) : wL_lawOf_32 post mc ms x 0 0 0 := by
  refine ⟨1, 0, by omega, by omega, 1, 0, by omega, by omega, br_t rfl ⟨Nat.le_refl 1, Nat.le_refl 0, ?_⟩⟩
  exact nm_e (br_t rfl (br_t (sr_full _) h))
theorem sr_tier {post : Int32 → St0 → Prop} {mc ms : Nat} {x : Int32} (hx : ¬ x < 0) (hm : 1 ≤ mc) (h : post 1 ()) : wL_lawOf_32 post mc ms x 1 0 0 := by
  have h0 : (0 : Int32) ≤ x := Int32.not_lt.mp hx
  refine ⟨1, 0, by omega, by omega, 1, 0, by omega, by omega, br_f (by decide) ⟨Nat.le_refl 1, Nat.le_refl 0, ?_⟩⟩
  refine br_t h0 (br_c (fun h1 => ?_) (fun h1 => ?_))
  · refine br_t (by decide) (br_t (by decide) ?_)
    exact nm_e (br_f (by decide) (br_t ((sr_ten x).mpr h1) (br_t (sr_full _) h)))
  · refine br_t (by decide) (br_t (by decide) ?_)
    exact nm_e (br_f (by decide) (br_f (fun z => h1 ((sr_ten x).mp z)) (nm_e (br_t (sr_low _) h))))
theorem sr_16 {post : Int32 → St0 → Prop} {mc ms : Nat} {k x : Int32} (hm : 1 ≤ mc) (h : post 1 ()) : wL_lawOf_16 post mc ms k x 0 0 :=
  br_c (fun _ => sr_flat hm h) (fun _ => br_c (fun _ => sr_flat hm h) (fun z => sr_tier z hm h))
theorem sr_lawOf {post : Int32 → St0 → Prop} {mc ms : Nat} {u : St0} {k q : Int32} (hm : 1 ≤ mc) (h : post 1 ()) : wpL_lawOf post mc ms u k q :=
  br_c (fun _ => sr_16 hm h) (fun _ => sr_16 hm h)
/-- a cell of the script, or 0 behind its end: whatever it answers -/
theorem sr_cell {post : Int32 → Prop} {L : Nat} {xs : Nat → Int32} {u : St0} {p : Int32} (n : Nat) (hp : p = nI n) (hn : n < 2 ^ 31) (hL : L ≤ 2) (H : ∀ r, post r) : wpL_cellAt post L xs u p :=
  pk_le L n (fun _ => H _) (fun z => ⟨pk_in n L z hp, H _⟩) rfl hp
end
section
/-! ===== WHAT IS OWED for SmallRulesLaw: one statement: the law answers true on every script of L ints xs ===== -/
theorem i_vc (xs : Nat → Int32) (L : Nat) (hL : L ≤ 2) : wpL_law (fun r => r = 1) L xs :=
  sr_cell 0 rfl (by decide) hL (fun _ => sr_cell 1 rfl (by decide) hL (fun _ => ⟨1, 0, by omega, by omega, sr_lawOf (Nat.le_refl 1) rfl⟩))
end
