section
/-- both hold the same rest and the same cells; the node count is e + 1, in 2 .. 5 -/
def i_Rel (_ : Nat) (u : SX) (v : SY) : Prop := ∃ (e : Nat) (rest : Int32) (a : Nat → Int32), 1 ≤ e ∧ e ≤ 4 ∧ u = (rest, nI (e + 1), a) ∧ v = (nI (e + 1), rest, a)
theorem i_up {k : Nat} {u : SX} {v : SY} (h : i_Rel k u v) : i_Rel (k + 3) u v := h
theorem zc_mk {k e : Nat} (h1 : 1 ≤ e) (h4 : e ≤ 4) (rest c : Int32) (a : Nat → Int32) (hc : c = nI (e + 1)) : i_Rel k (rest, c, a) (c, rest, a) := by
  subst hc
  exact ⟨e, rest, a, h1, h4, rfl, rfl⟩
theorem zc_cnt {c : Int32} (h2 : 2 ≤ c) (h5 : c ≤ 5) : ∃ e : Nat, 1 ≤ e ∧ e ≤ 4 ∧ c = nI (e + 1) := by
  rw [Int32.le_iff_toInt_le] at h2 h5
  have e2 : (2 : Int32).toInt = 2 := by decide
  have e5 : (5 : Int32).toInt = 5 := by decide
  rw [e2] at h2
  rw [e5] at h5
  refine ⟨c.toInt.toNat - 1, by omega, by omega, ?_⟩
  apply Int32.toInt_inj.mp
  rw [nI_toInt (by omega)]
  omega
theorem zc_in {v : Int32} {e : Nat} (h4 : e ≤ 4) (h0 : ¬ v < 0) (hc : v < nI (e + 1)) : vp_in v 5 := by
  obtain ⟨j, hj, rfl⟩ := nI_of h0
  rw [nI_ltI hj (by omega)] at hc
  exact vp_in_nI (by omega) (by omega)
theorem i_vc0 (k0 : Int32) (k1 : Int32) : wpX_init (fun u => wpY_init (fun v => i_Rel 2 u v) k0 k1) k0 k1 := by
  by_cases h2 : 2 ≤ k0
  · by_cases h5 : k0 ≤ 5
    · obtain ⟨e, h1, h4, hc⟩ := zc_cnt h2 h5
      exact br_t h2 (br_t h5 (nm_e (br_t h2 (br_t h5 (nm_e (zc_mk h1 h4 _ _ _ hc))))))
    · exact br_t h2 (br_f h5 (nm_e (br_t h2 (br_f h5 (nm_e (zc_mk (e := 4) (by decide) (by decide) _ _ _ (by decide)))))))
  · exact br_f h2 (br_t (by decide) (nm_e (br_f h2 (nm_e (zc_mk (e := 1) (by decide) (by decide) _ _ _ (by decide))))))
theorem i_vc_drag {k : Nat} {u : SX} {v : SY} (I : i_Rel k u v) (hk : k + 3 ≤ 1538) (v1 : Int32) (v2 : Int32) : wpX_drag (fun r u' => wpY_drag (fun r' v' => r' = r ∧ i_Rel (k + 3) u' v') v v1 v2) u v1 v2 := by
  obtain ⟨e, rest, a, h1, h4, rfl, rfl⟩ := I
  have K : ∀ b : Nat → Int32, i_Rel (k + 3) (rest, nI (e + 1), b) (nI (e + 1), rest, b) := fun b => zc_mk h1 h4 _ _ _ rfl
  by_cases h0 : v1 < 0
  · exact br_t h0 (br_t h0 ⟨rfl, K _⟩)
  · by_cases hc : v1 < nI (e + 1)
    · by_cases hz : v1 = 0
      · exact br_f h0 (br_t hc (br_t hz (br_f h0 (br_t hc (br_t hz ⟨rfl, K _⟩)))))
      · have hi := zc_in h4 h0 hc
        exact br_f h0 (br_t hc (br_f hz ⟨hi, nm_e (br_f h0 (br_t hc (br_f hz ⟨hi, nm_e ⟨rfl, K _⟩⟩)))⟩))
    · exact br_f h0 (br_f hc (br_f h0 (br_f hc ⟨rfl, K _⟩)))
theorem i_vc_node {k : Nat} {u : SX} {v : SY} (I : i_Rel k u v) (hk : k + 3 ≤ 1538) (v1 : Int32) : wpX_node (fun r => wpY_node (fun r' => r' = r ∧ i_Rel (k + 3) u v) v v1) u v1 := by
  obtain ⟨e, rest, a, h1, h4, rfl, rfl⟩ := I
  have K : i_Rel (k + 3) (rest, nI (e + 1), a) (nI (e + 1), rest, a) := zc_mk h1 h4 _ _ _ rfl
  by_cases h0 : v1 < 0
  · exact br_t h0 (br_t h0 ⟨rfl, K⟩)
  · by_cases hc : v1 < nI (e + 1)
    · have hi := zc_in h4 h0 hc
      exact br_f h0 (br_t hc ⟨hi, br_f h0 (br_t hc ⟨hi, rfl, K⟩)⟩)
    · exact br_f h0 (br_f hc (br_f h0 (br_f hc ⟨rfl, K⟩)))
theorem i_vc_size {k : Nat} {u : SX} {v : SY} (I : i_Rel k u v) (hk : k + 3 ≤ 1538) : wpX_size (fun r => wpY_size (fun r' => r' = r ∧ i_Rel (k + 3) u v) v) u := by
  obtain ⟨e, rest, a, h1, h4, rfl, rfl⟩ := I
  exact ⟨rfl, zc_mk h1 h4 _ _ _ rfl⟩
/-- the loops' heads: X asks count - 1 ≤ i, Y asks size ≤ i + 1 -/
theorem zc_end {e j : Nat} (he : e ≤ 4) (h : e ≤ j) (hj : j ≤ 4) : nI (e + 1) - 1 ≤ nI j ∧ nI (e + 1) ≤ nI j + 1 := by
  rw [nI_pred, nI_1]
  exact ⟨nI_le (by omega) (by omega), nI_le (by omega) (by omega)⟩
theorem zc_go {e j : Nat} (he : e ≤ 4) (h : j < e) : (¬ nI (e + 1) - 1 ≤ nI j) ∧ (¬ nI (e + 1) ≤ nI j + 1) ∧ vp_in (nI j + 1) 5 ∧ vp_in (nI j) 5 := by
  rw [nI_pred, nI_1]
  exact ⟨nI_ge (by omega) (by omega), nI_ge (by omega) (by omega), vp_in_nI (by omega) (by omega), vp_in_nI (by omega) (by omega)⟩
/-- the second loop: one worst error for both -/
theorem zc_scan (rest : Int32) (a : Nat → Int32) (e : Nat) (he : e ≤ 4) : ∀ (d j : Nat) (b : Int64), j + d = e → ∃ r : Int64, (∀ post : Int64 → SX → Prop, post r (rest, nI (e + 1), a) → wX_relax_77 post rest (nI (e + 1)) a (d + 1) b (nI j)) ∧ (∀ post : Int64 → SY → Prop, post r (nI (e + 1), rest, a) → wY_relax_79 post (nI (e + 1)) rest a (d + 1) b (nI j)) := by
  intro d
  induction d with
  | zero =>
    intro j b hj
    obtain ⟨hx, hy⟩ := zc_end (e := e) (j := j) he (by omega) (by omega)
    exact ⟨b, fun _ hp => br_t hx hp, fun _ hp => br_t hy hp⟩
  | succ d ih =>
    intro j b hj
    obtain ⟨hx, hy, hi1, hi⟩ := zc_go (e := e) (j := j) he (by omega)
    have S : ∀ D : Int64, ∃ r : Int64, (∀ post : Int64 → SX → Prop, post r (rest, nI (e + 1), a) → wX_relax_124 post (wX_relax_77 post rest (nI (e + 1)) a (d + 1)) b (nI j) D rest (nI (e + 1)) a) ∧ (∀ post : Int64 → SY → Prop, post r (nI (e + 1), rest, a) → wY_relax_126 post (wY_relax_79 post (nI (e + 1)) rest a (d + 1)) b (nI j) D (nI (e + 1)) rest a) := by
      intro D
      by_cases hD : D ≤ b
      · obtain ⟨r, hX, hY⟩ := ih (j + 1) b (by omega)
        exact ⟨r, fun post hp => br_t hD (nm_r (nI_1 j) (hX post hp)), fun post hp => br_t hD (nm_r (nI_1 j) (hY post hp))⟩
      · obtain ⟨r, hX, hY⟩ := ih (j + 1) D (by omega)
        exact ⟨r, fun post hp => br_f hD (nm_r (nI_1 j) (hX post hp)), fun post hp => br_f hD (nm_r (nI_1 j) (hY post hp))⟩
    obtain ⟨D, hD⟩ : ∃ D : Int64, ((a (nI j + 1).toNatClampNeg).toInt64 - (a (nI j).toNatClampNeg).toInt64) - rest.toInt64 = D := ⟨_, rfl⟩
    by_cases h0 : 0 ≤ D
    · obtain ⟨r, hX, hY⟩ := S D
      exact ⟨r, fun post hp => br_f hx ⟨hi1, hi, nm_r hD (br_t h0 (hX post hp))⟩, fun post hp => br_f hy ⟨hi1, hi, nm_r hD (br_t h0 (hY post hp))⟩⟩
    · obtain ⟨r, hX, hY⟩ := S (-D)
      exact ⟨r, fun post hp => br_f hx ⟨hi1, hi, nm_r hD (br_f h0 (nm_e (hX post hp)))⟩, fun post hp => br_f hy ⟨hi1, hi, nm_r hD (br_f h0 (nm_e (hY post hp)))⟩⟩
/-- the first loop, and the second behind it: one answer and one row of cells for both -/
theorem zc_pass (rest : Int32) (e : Nat) (he : e ≤ 4) : ∀ (d j : Nat) (a : Nat → Int32), j + d = e → ∃ (r : Int64) (a' : Nat → Int32), (∀ post : Int64 → SX → Prop, post r (rest, nI (e + 1), a') → wX_relax_2 post rest (nI (e + 1)) (d + 1) (nI j) a) ∧ (∀ post : Int64 → SY → Prop, post r (nI (e + 1), rest, a') → wY_relax_2 post (nI (e + 1)) rest (d + 1) (nI j) a) := by
  intro d
  induction d with
  | zero =>
    intro j a hj
    obtain ⟨hx, hy⟩ := zc_end (e := e) (j := j) he (by omega) (by omega)
    obtain ⟨r, hX, hY⟩ := zc_scan rest a e he e 0 0 (by omega)
    rw [nI_0] at hX hY
    exact ⟨r, a, fun post hp => br_t hx ⟨_, hX post hp⟩, fun post hp => br_t hy ⟨_, hY post hp⟩⟩
  | succ d ih =>
    intro j a hj
    obtain ⟨hx, hy, hi1, hi⟩ := zc_go (e := e) (j := j) he (by omega)
    have S : ∀ E h : Int32, ∃ (r : Int64) (a' : Nat → Int32), (∀ post : Int64 → SX → Prop, post r (rest, nI (e + 1), a') → wX_relax_43 post (wX_relax_2 post rest (nI (e + 1)) (d + 1)) (nI j) E h rest (nI (e + 1)) a) ∧ (∀ post : Int64 → SY → Prop, post r (nI (e + 1), rest, a') → wY_relax_44 post (wY_relax_2 post (nI (e + 1)) rest (d + 1)) (nI j) E h (nI (e + 1)) rest a) := by
      intro E h
      obtain ⟨r, a', hX, hY⟩ := ih (j + 1) (upd (upd a (nI j).toNatClampNeg (a (nI j).toNatClampNeg + h)) (nI j + 1).toNatClampNeg (upd a (nI j).toNatClampNeg (a (nI j).toNatClampNeg + h) (nI j + 1).toNatClampNeg - (E - h))) (by omega)
      exact ⟨r, a', fun post hp => ⟨hi, hi, nm_e ⟨hi1, hi1, nm_e (nm_r (nI_1 j) (hX post hp))⟩⟩, fun post hp => ⟨hi, hi, nm_e ⟨hi1, hi1, nm_e (nm_r (nI_1 j) (hY post hp))⟩⟩⟩
    obtain ⟨E, hE⟩ : ∃ E : Int32, (a (nI j + 1).toNatClampNeg - a (nI j).toNatClampNeg) - rest = E := ⟨_, rfl⟩
    by_cases h0 : nI j = 0
    · obtain ⟨r, a', hX, hY⟩ := S E 0
      exact ⟨r, a', fun post hp => br_f hx ⟨hi1, hi, nm_r hE (br_t h0 (hX post hp))⟩, fun post hp => br_f hy ⟨hi1, hi, nm_r hE (br_t h0 (hY post hp))⟩⟩
    · obtain ⟨r, a', hX, hY⟩ := S E (E >>> ((1 : Int32) &&& 31))
      exact ⟨r, a', fun post hp => br_f hx ⟨hi1, hi, nm_r hE (br_f h0 (nm_e (hX post hp)))⟩, fun post hp => br_f hy ⟨hi1, hi, nm_r hE (br_f h0 (hY post hp))⟩⟩
theorem i_vc_relax {k : Nat} {u : SX} {v : SY} (I : i_Rel k u v) (hk : k + 3 ≤ 1538) : wpX_relax (fun r u' => wpY_relax (fun r' v' => r' = r ∧ i_Rel (k + 3) u' v') v) u := by
  obtain ⟨e, rest, a, h1, h4, rfl, rfl⟩ := I
  obtain ⟨r, a', hX, hY⟩ := zc_pass rest e h4 e 0 a (by omega)
  rw [nI_0] at hX hY
  exact ⟨_, hX _ ⟨_, hY _ ⟨rfl, zc_mk h1 h4 _ _ _ rfl⟩⟩⟩
end
