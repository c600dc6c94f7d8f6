section
/-- both capacities are nI c, both depths nI d, d ≤ c ≤ 6, and the counts agree below the depth
(the reference leaves -1 in a popped cell, the component 0: cells from d on are free) -/
def i_Rel (_ : Nat) (u : SX) (v : SY) : Prop :=
  ∃ (c d : Nat) (a b : Nat → Int32), u = (nI c, nI d, a) ∧ v = (nI c, nI d, b) ∧ d ≤ c ∧ c ≤ 6 ∧ ∀ j : Nat, j < d → a j = b j
theorem i_up {k : Nat} {u : SX} {v : SY} (h : i_Rel k u v) : i_Rel (k + 2) u v := h
/-- one value written at one place on both sides keeps the agreement -/
theorem im_wr {a b : Nat → Int32} {d : Nat} (e : Nat) (x : Int32) (h : ∀ j : Nat, j < d → a j = b j) : ∀ j : Nat, j < d → upd a e x j = upd b e x j := by
  intro j hj
  unfold upd
  rw [h j hj]
/-- the same, and the place written is the new top -/
theorem im_push {a b : Nat → Int32} {d : Nat} (x : Int32) (h : ∀ j : Nat, j < d → a j = b j) : ∀ j : Nat, j < d + 1 → upd a d x j = upd b d x j := by
  intro j hj
  unfold upd
  by_cases e : j = d
  · rw [if_pos e, if_pos e]
  · rw [if_neg e, if_neg e]
    exact h j (by omega)
/-- a write at the popped cell isn't seen below it -/
theorem im_pop {a b : Nat → Int32} {e : Nat} (x : Int32) (h : ∀ j : Nat, j < e + 1 → a j = b j) : ∀ j : Nat, j < e → a j = upd b e x j := by
  intro j hj
  unfold upd
  rw [if_neg (by omega)]
  exact h j (by omega)
theorem im_i0 (c : Nat) (hc : c ≤ 6) (k : Nat) : i_Rel k (nI c, 0, fun _ => 0) (nI c, 0, fun _ => 0) :=
  ⟨c, 0, fun _ => 0, fun _ => 0, rfl, rfl, Nat.zero_le c, hc, fun _ _ => rfl⟩
end
section
theorem i_vc0 (k0 : Int32) : wpX_init (fun u => wpY_init (fun v => i_Rel 1 u v) k0) k0 := by
  by_cases h1 : 1 ≤ k0
  · by_cases h6 : k0 ≤ 6
    · have h0 : ¬ k0 < 0 := by
        intro h
        rw [Int32.lt_iff_toInt_lt] at h
        rw [Int32.le_iff_toInt_le] at h1
        have e0 : (0 : Int32).toInt = 0 := by decide
        have e1 : (1 : Int32).toInt = 1 := by decide
        omega
      obtain ⟨c, hc, rfl⟩ := nI_of2 (x := k0) (M := 6) (n := 6) (by decide) h0 h6
      exact br_t h1 (br_t h6 (br_t h1 (br_t h6 (im_i0 c hc 1))))
    · exact br_t h1 (br_f h6 (br_t h1 (br_f h6 (im_i0 6 (Nat.le_refl 6) 1))))
  · exact br_f h1 (br_t (by decide) (br_f h1 (im_i0 1 (by decide) 1)))
theorem i_vc_enterHole {k : Nat} {u : SX} {v : SY} (I : i_Rel k u v) (hk : k + 2 ≤ 1025) : wpX_enterHole (fun r u' => wpY_enterHole (fun r' v' => r' = r ∧ i_Rel (k + 2) u' v') v) u := by
  obtain ⟨c, d, a, b, rfl, rfl, hd, hc, hab⟩ := I
  by_cases h : d < c
  · have hlt : nI d < nI c := nI_lt h (by omega)
    have hin : vp_in (nI d) 6 := vp_in_nI (by omega) (by omega)
    have hcl : (nI d).toNatClampNeg = d := nI_clamp (by omega)
    refine br_t hlt ⟨hin, nm_e (nm_r (nI_1 d) (br_t hlt (nm_r (nI_1 d) ⟨hin, nm_e ⟨rfl, c, d + 1, _, _, rfl, rfl, h, hc, ?_⟩⟩)))⟩
    rw [hcl]
    exact im_push _ hab
  · have hlt : ¬ nI d < nI c := nI_nlt (by omega) (by omega)
    exact br_f hlt (br_f hlt ⟨rfl, c, d, a, b, rfl, rfl, hd, hc, hab⟩)
theorem i_vc_brace {k : Nat} {u : SX} {v : SY} (I : i_Rel k u v) (hk : k + 2 ≤ 1025) (v1 : Int32) : wpX_brace (fun r u' => wpY_brace (fun r' v' => r' = r ∧ i_Rel (k + 2) u' v') v (lw_bz v1)) u (lw_bz v1) := by
  obtain ⟨c, d, a, b, rfl, rfl, hd, hc, hab⟩ := I
  cases d with
  | zero => exact br_t nI_0 (br_t nI_0 ⟨rfl, c, 0, a, b, rfl, rfl, hd, hc, hab⟩)
  | succ e =>
    have hne : ¬ nI (e + 1) = 0 := nI_ne0 (by omega) (by omega)
    have hin : vp_in (nI e) 6 := vp_in_nI (by omega) (by omega)
    have hcl : (nI e).toNatClampNeg = e := nI_clamp (by omega)
    have hae : a e = b e := hab e (by omega)
    by_cases hp : lw_bz v1 = 0
    · by_cases hz : b e = 0
      · have hx : a (nI e).toNatClampNeg = 0 := by rw [hcl, hae]; exact hz
        have hy : b (nI e).toNatClampNeg = 0 := by rw [hcl]; exact hz
        refine br_f hne (nm_r (nI_pred e) (br_t hp ⟨hin, br_t hx (br_f hne (nm_r (nI_pred e) (br_t hp ⟨hin, hin, nm_e (br_t hy ⟨rfl, c, e, _, _, rfl, rfl, by omega, hc, ?_⟩)⟩)))⟩))
        rw [hcl]
        exact im_pop _ hab
      · have hx : ¬ a (nI e).toNatClampNeg = 0 := by rw [hcl, hae]; exact hz
        have hy : ¬ b (nI e).toNatClampNeg = 0 := by rw [hcl]; exact hz
        refine br_f hne (nm_r (nI_pred e) (br_t hp ⟨hin, br_f hx ⟨hin, hin, nm_e (br_f hne (nm_r (nI_pred e) (br_t hp ⟨hin, hin, nm_e (br_f hy ⟨rfl, c, e + 1, _, _, rfl, rfl, hd, hc, ?_⟩)⟩)))⟩⟩))
        rw [hcl, hae]
        exact im_wr e _ hab
    · refine br_f hne (nm_r (nI_pred e) (br_f hp ⟨hin, hin, nm_e (br_f hne (nm_r (nI_pred e) (br_f hp ⟨hin, hin, nm_e ⟨rfl, c, e + 1, _, _, rfl, rfl, hd, hc, ?_⟩⟩)))⟩))
      rw [hcl, hae]
      exact im_wr e _ hab
theorem i_vc_opens {k : Nat} {u : SX} {v : SY} (I : i_Rel k u v) (hk : k + 2 ≤ 1025) (v1 : Int32) : wpX_opens (fun r u' => wpY_opens (fun r' v' => r' = r ∧ i_Rel (k + 2) u' v') v v1) u v1 := by
  obtain ⟨c, d, a, b, rfl, rfl, hd, hc, hab⟩ := I
  cases d with
  | zero => exact br_t nI_0 (br_t nI_0 ⟨rfl, c, 0, a, b, rfl, rfl, hd, hc, hab⟩)
  | succ e =>
    have hne : ¬ nI (e + 1) = 0 := nI_ne0 (by omega) (by omega)
    have hin : vp_in (nI e) 6 := vp_in_nI (by omega) (by omega)
    have hcl : (nI e).toNatClampNeg = e := nI_clamp (by omega)
    have hin' : vp_in (nI (e + 1) - 1) 6 := by rw [nI_pred]; exact hin
    have hcl' : (nI (e + 1) - 1).toNatClampNeg = e := by rw [nI_pred]; exact hcl
    have hae : a e = b e := hab e (by omega)
    refine br_f hne (nm_r (nI_pred e) ⟨hin, nm_e ⟨hin, nm_e (br_f hne ⟨hin', hin', nm_e ⟨?_, c, e + 1, _, _, rfl, rfl, hd, hc, ?_⟩⟩)⟩⟩)
    · rw [hcl, hcl', hae]
    · rw [hcl, hcl', hae]
      exact im_wr e _ hab
theorem i_vc_mode {k : Nat} {u : SX} {v : SY} (I : i_Rel k u v) (hk : k + 2 ≤ 1025) : wpX_mode (fun r => wpY_mode (fun r' => r' = r ∧ i_Rel (k + 2) u v) v) u := by
  have J : i_Rel (k + 2) u v := i_up I
  obtain ⟨c, d, a, b, rfl, rfl, hd, hc, hab⟩ := I
  exact br_c (fun h => br_t h ⟨rfl, J⟩) (fun h => br_f h ⟨rfl, J⟩)
end
