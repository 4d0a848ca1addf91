section
/-- a cell of the script, read at place k: whatever it is, post holds of it -/
theorem os_cell {post : Int32 → Prop} {L : Nat} {xs : Nat → Int32} {u : St0} {p : Int32} (k : Nat) (hL : L ≤ 2) (hk : k < 2) (hp : p = nI k) (h : ∀ r, post r) : wpL_cellAt post L xs u p :=
  pk_le L k (fun _ => h _) (fun z => ⟨pk_in k L z hp, h _⟩) rfl hp
/-- the class's hash: 31 * (31 * 17 + mark) + prio -/
theorem os_x1 {post : Int32 → Prop} {d p : Int32} (h0 : d = 0 → post (31 * (31 * 17 + 1237) + p)) (h1 : ¬ d = 0 → post (31 * (31 * 17 + 1231) + p)) : wpX1_taskHash post (d, p) :=
  br_c (fun z => nm_e (nm_e (h0 z))) (fun z => nm_e (nm_e (h1 z)))
/-- the twin's hash: 16337 + 31 * mark + prio -/
theorem os_x2 {post : Int32 → Prop} {d p : Int32} (h0 : d = 0 → post (16337 + 31 * 1237 + p)) (h1 : ¬ d = 0 → post (16337 + 31 * 1231 + p)) : wpX2_taskHash post (d, p) :=
  br_c h0 h1
/-- the plain law: the two hashes are one number -/
theorem os_eq (m p : Int32) : 31 * (31 * 17 + m) + p = 16337 + 31 * m + p := by grind
/-- made, hashed twice, compared -/
theorem os_15 {mc ms kc ks : Nat} {x z a b : Int32} (h1 : narrow .boolean (.int z) = .int z) (h2 : fits .boolean (.int z) = true) : wL_lawOf_15 (fun r _ => r = 1) mc ms x z kc ks a b :=
  ⟨h1, h2, os_x1 (fun e => os_x2 (fun _ => br_t (os_eq 1237 x) rfl) (fun n => absurd e n)) (fun n => os_x2 (fun e => absurd e n) (fun _ => br_t (os_eq 1231 x) rfl))⟩
/-- the flag's low bit, either way -/
theorem os_of {x f : Int32} : wpL_lawOf (fun r _ => r = 1) 2 24 () x f :=
  ⟨by omega, by omega, br_c (fun _ => os_15 rfl rfl) (fun _ => os_15 rfl rfl)⟩
end
section
theorem i_vc (xs : Nat → Int32) (L : Nat) (hL : L ≤ 2) : wpL_law (fun r => r = 1) L xs :=
  os_cell 0 hL (by omega) rfl (fun _ => os_cell 1 hL (by omega) rfl (fun _ => ⟨2, 24, by omega, by omega, os_of⟩))
end
