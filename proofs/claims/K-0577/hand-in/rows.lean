section
/-- both objects hold the same four coefficients and the same four state cells -/
def i_Rel (_ : Nat) (u : SX) (v : SY) : Prop := u = v
theorem i_up {k : Nat} {u : SX} {v : SY} (h : i_Rel k u v) : i_Rel (k + 4) u v := h
theorem i_vc0 : wpX_init (fun u => wpY_init (fun v => i_Rel 0 u v)) := rfl
/-- an int that passes both of a method's checks is an index of a four-cell array -/
theorem cm_in {x : Int32} (h0 : ¬ x < 0) (h3 : x ≤ 3) : vp_in x 4 := by
  obtain ⟨j, hj, rfl⟩ := nI_of2 (M := 3) (n := 3) (by decide) h0 h3
  exact vp_in_nI (by omega) (by decide)
theorem i_vc_setCoef {k : Nat} {u : SX} {v : SY} (I : i_Rel k u v) (hk : k + 4 ≤ 2048) (v1 : Int32) (v2 : Int32) : wpX_setCoef (fun r u' => wpY_setCoef (fun r' v' => r' = r ∧ i_Rel (k + 4) u' v') v v1 v2) u v1 v2 := by
  cases I
  obtain ⟨c, s⟩ := u
  by_cases h0 : v1 < 0
  · exact br_t h0 (br_t h0 ⟨rfl, rfl⟩)
  · by_cases h3 : v1 ≤ 3
    · have hi : vp_in v1 4 := cm_in h0 h3
      exact br_f h0 (br_t h3 ⟨hi, fun a ea => br_f h0 (br_t h3 ⟨hi, fun b eb => ⟨rfl, by rw [ea, eb]; exact rfl⟩⟩)⟩)
    · exact br_f h0 (br_f h3 (br_f h0 (br_f h3 ⟨rfl, rfl⟩)))
theorem i_vc_seed {k : Nat} {u : SX} {v : SY} (I : i_Rel k u v) (hk : k + 4 ≤ 2048) (v1 : Int32) (a1 : Int64) : wpX_seed (fun r u' => wpY_seed (fun r' v' => r' = r ∧ i_Rel (k + 4) u' v') v v1 a1) u v1 a1 := by
  cases I
  obtain ⟨c, s⟩ := u
  by_cases h0 : v1 < 0
  · exact br_t h0 (br_t h0 ⟨rfl, rfl⟩)
  · by_cases h3 : v1 ≤ 3
    · have hi : vp_in v1 4 := cm_in h0 h3
      exact br_f h0 (br_t h3 ⟨hi, fun a ea => br_f h0 (br_t h3 ⟨hi, fun b eb => ⟨rfl, by rw [ea, eb]; exact rfl⟩⟩)⟩)
    · exact br_f h0 (br_f h3 (br_f h0 (br_f h3 ⟨rfl, rfl⟩)))
theorem i_vc_step {k : Nat} {u : SX} {v : SY} (I : i_Rel k u v) (hk : k + 4 ≤ 2048) : wpX_step (fun r u' => wpY_step (fun r' v' => r' = r ∧ i_Rel (k + 4) u' v') v) u := by
  cases I
  obtain ⟨c, s⟩ := u
  intro x1 e1 x3 e3 x5 e5 x7 e7 x9 e9 p f1 q f2 r f3 w f4
  intro y ey p' g1 q' g2 r' g3 w' g4
  have ht : y = x9 := by rw [ey, e9, e1, e3, e5, e7]
  have h1 : p' = p := by rw [g1, f1, e3]
  have h2 : q' = q := by rw [g2, f2, h1, f1, e5]; rfl
  have h3 : r' = r := by rw [g3, f3, h2, f2, f1, e7]; rfl
  have h4 : w' = w := by rw [g4, f4, h3, ht]
  exact ⟨ht, by rw [h4]; exact rfl⟩
theorem i_vc_peek {k : Nat} {u : SX} {v : SY} (I : i_Rel k u v) (hk : k + 4 ≤ 2048) (v1 : Int32) : wpX_peek (fun r => wpY_peek (fun r' => r' = r ∧ i_Rel (k + 4) u v) v v1) u v1 := by
  cases I
  obtain ⟨c, s⟩ := u
  by_cases h0 : v1 < 0
  · exact br_t h0 (br_t h0 ⟨rfl, rfl⟩)
  · by_cases h3 : v1 ≤ 3
    · have hi : vp_in v1 4 := cm_in h0 h3
      exact br_f h0 (br_t h3 ⟨hi, br_f h0 (br_t h3 ⟨hi, ⟨rfl, rfl⟩⟩)⟩)
    · exact br_f h0 (br_f h3 (br_f h0 (br_f h3 ⟨rfl, rfl⟩)))
end
