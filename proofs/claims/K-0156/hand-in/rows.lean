section
/-- the two objects are in one state, and the cap is a number from 0 to 11 -/
def i_Rel (_ : Nat) (u : SX) (v : SY) : Prop := u = v ∧ ∃ c : Nat, c ≤ 11 ∧ u.2.1 = nI c
theorem i_up {k : Nat} {u : SX} {v : SY} (h : i_Rel k u v) : i_Rel (k + 2) u v := h
theorem sk_11 : (11 : Int32) = nI 11 := by decide +kernel
theorem sk_11i : (11 : Int32).toInt = ((11 : Nat) : Int) := by decide +kernel
theorem i_vc0 (k0 : Int32) : wpX_init (fun u => wpY_init (fun v => i_Rel 1 u v) k0) k0 := by
  intro f ef g eg
  cases eg.trans ef.symm
  exact ⟨rfl, 11, Nat.le_refl _, sk_11⟩
/-- the lowest bit is 0 or 1 -/
theorem sk_b01 (y : Int32) : (y &&& 1) = 0 ∨ (y &&& 1) = 1 := by
  have h : (y &&& 1).toBitVec.toNat < 2 := by
    rw [Int32.toBitVec_and, BitVec.toNat_and]
    exact Nat.lt_of_le_of_lt Nat.and_le_right (by decide)
  rcases (by omega : (y &&& 1).toBitVec.toNat = 0 ∨ (y &&& 1).toBitVec.toNat = 1) with e | e
  · exact Or.inl (Int32.toBitVec_inj.mp (BitVec.eq_of_toNat_eq (e.trans (by decide))))
  · exact Or.inr (Int32.toBitVec_inj.mp (BitVec.eq_of_toNat_eq (e.trans (by decide))))
/-- the store behind the loop: both sides store the same short at j -/
theorem sk_exit (f : Int64) (cap : Int32) (a : Nat → Int32) (j : Nat) (hj : j < 12) : ∃ (r : Int32) (b : Nat → Int32), (∀ post : Int32 → SX → Prop, post r (f, cap, b) → wX_level_80 post (nI j) f cap a) ∧ (∀ post : Int32 → SY → Prop, post r (f, cap, b) → wY_level_75 post (nI j) f cap a) := by
  have hi : vp_in (nI j) 12 := vp_in_nI hj (by decide)
  exact ⟨nI j, upd a (nI j).toNatClampNeg (vp_nar .short (((a (nI j).toNatClampNeg) + 1).toInt16.toInt32)),
    fun _ hp => And.intro hi (And.intro hi (nm_e hp)), fun _ hp => And.intro hi (And.intro hi (nm_e hp))⟩
/-- the two loops in lockstep: one answer and one tally for both -/
theorem sk_scan (f : Int64) (a : Nat → Int32) (x : Int32) (c : Nat) (hc : c ≤ 11) : ∀ d j : Nat, j + d = c → ∃ (r : Int32) (b : Nat → Int32), (∀ post : Int32 → SX → Prop, post r (f, nI c, b) → wX_level_56 post x f (nI c) a (d + 1) (nI j)) ∧ (∀ post : Int32 → SY → Prop, post r (f, nI c, b) → wY_level_53 post x f (nI c) a (d + 1) (nI j)) := by
  intro d
  induction d with
  | zero =>
    intro j hj
    have h : nI c ≤ nI j := nI_le (by omega) (by omega)
    obtain ⟨r, b, hX, hY⟩ := sk_exit f (nI c) a j (by omega)
    exact ⟨r, b, fun post hp => br_t h (hX post hp), fun post hp => br_t h (hY post hp)⟩
  | succ d ih =>
    intro j hj
    have h : ¬ nI c ≤ nI j := nI_ge (by omega) (by omega)
    have h01 := sk_b01 ((x.toUInt32 >>> ((nI j).toUInt32 &&& Int32.toUInt32 31)).toInt32)
    by_cases z : ((x.toUInt32 >>> ((nI j).toUInt32 &&& Int32.toUInt32 31)).toInt32) &&& 1 = 1
    · have z0 : ¬ ((x.toUInt32 >>> ((nI j).toUInt32 &&& Int32.toUInt32 31)).toInt32) &&& 1 = 0 := by rw [z]; decide
      obtain ⟨r, b, hX, hY⟩ := ih (j + 1) (by omega)
      exact ⟨r, b, fun post hp => br_f h (br_t z (nm_r (nI_1 j) (hX post hp))), fun post hp => br_f h (br_f z0 (nm_r (nI_1 j) (hY post hp)))⟩
    · have z0 : ((x.toUInt32 >>> ((nI j).toUInt32 &&& Int32.toUInt32 31)).toInt32) &&& 1 = 0 := h01.resolve_right z
      obtain ⟨r, b, hX, hY⟩ := sk_exit f (nI c) a j (by omega)
      exact ⟨r, b, fun post hp => br_f h (br_f z (hX post hp)), fun post hp => br_f h (br_t z0 (hY post hp))⟩
theorem i_vc_level {k : Nat} {u : SX} {v : SY} (I : i_Rel k u v) (hk : k + 2 ≤ 1025) : wpX_level (fun r u' => wpY_level (fun r' v' => r' = r ∧ i_Rel (k + 2) u' v') v) u := by
  obtain ⟨e, c, hc, hcap⟩ := I
  subst e
  obtain ⟨f, cap, a⟩ := u
  have hcap' : cap = nI c := hcap
  subst hcap'
  intro f1 e1 f2 e2 f3 e3
  obtain ⟨r, b, hX, hY⟩ := sk_scan f3 a f3.toInt32 c hc c 0 (by omega)
  refine ⟨c + 1, hX _ ?_⟩
  intro g1 d1 g2 d2 g3 d3 y dy
  cases d1.trans e1.symm
  cases d2.trans e2.symm
  cases d3.trans e3.symm
  rw [← e3] at dy
  subst dy
  exact ⟨c + 1, hY _ ⟨rfl, rfl, c, hc, rfl⟩⟩
theorem i_vc_tally {k : Nat} {u : SX} {v : SY} (I : i_Rel k u v) (hk : k + 2 ≤ 1025) (v1 : Int32) : wpX_tally (fun r => wpY_tally (fun r' => r' = r ∧ i_Rel (k + 2) u v) v v1) u v1 := by
  have I' : i_Rel (k + 2) u v := I
  obtain ⟨e, -⟩ := I
  subst e
  obtain ⟨f, cap, a⟩ := u
  by_cases h0 : v1 < 0
  · exact br_t h0 (br_t h0 ⟨rfl, I'⟩)
  · by_cases h11 : v1 ≤ 11
    · have hi : vp_in v1 12 := by
        obtain ⟨j, hj, rfl⟩ := nI_of2 sk_11i h0 h11
        exact vp_in_nI (by omega) (by decide)
      exact br_f h0 (br_t h11 ⟨hi, br_f h0 (br_t h11 ⟨hi, rfl, I'⟩)⟩)
    · exact br_f h0 (br_f h11 (br_f h0 (br_f h11 ⟨rfl, I'⟩)))
/-- the join behind the first clamp: one answer and one new cap for both -/
theorem sk_set (f : Int64) (cap : Int32) (a : Nat → Int32) (x : Int32) (hx : ¬ x < 0) : ∃ (r : Int32) (j : Nat), j ≤ 11 ∧ (∀ post : Int32 → SX → Prop, post r (f, nI j, a) → wX_setCap_9 post x f cap a) ∧ (∀ post : Int32 → SY → Prop, post r (f, nI j, a) → wY_setCap_7 post x f cap a) := by
  by_cases h : x ≤ 11
  · obtain ⟨j, hj, rfl⟩ := nI_of2 sk_11i hx h
    exact ⟨nI j, j, hj, fun _ hp => br_t h hp, fun _ hp => br_t h hp⟩
  · refine ⟨11, 11, Nat.le_refl _, ?_, ?_⟩
    · intro post hp
      rw [← sk_11] at hp
      exact br_f h hp
    · intro post hp
      rw [← sk_11] at hp
      exact br_f h hp
theorem i_vc_setCap {k : Nat} {u : SX} {v : SY} (I : i_Rel k u v) (hk : k + 2 ≤ 1025) (v1 : Int32) : wpX_setCap (fun r u' => wpY_setCap (fun r' v' => r' = r ∧ i_Rel (k + 2) u' v') v v1) u v1 := by
  obtain ⟨e, -⟩ := I
  subst e
  obtain ⟨f, cap, a⟩ := u
  by_cases h : 1 ≤ v1
  · obtain ⟨r, j, hj, hX, hY⟩ := sk_set f cap a v1 (Int32.not_lt.mpr (Int32.le_trans (by decide) h))
    exact br_t h (hX _ (br_t h (hY _ ⟨rfl, rfl, j, hj, rfl⟩)))
  · obtain ⟨r, j, hj, hX, hY⟩ := sk_set f cap a 1 (by decide)
    exact br_f h (hX _ (br_f h (hY _ ⟨rfl, rfl, j, hj, rfl⟩)))
theorem i_vc_cap {k : Nat} {u : SX} {v : SY} (I : i_Rel k u v) (hk : k + 2 ≤ 1025) : wpX_cap (fun r => wpY_cap (fun r' => r' = r ∧ i_Rel (k + 2) u v) v) u := by
  have I' : i_Rel (k + 2) u v := I
  obtain ⟨e, -⟩ := I
  subst e
  exact ⟨rfl, I'⟩
end
