section
/-! Small facts on ints and array updates, no program in sight. -/
theorem rq_lt1 {x : Int32} : x < 1 ↔ x ≤ 0 := by
  have h0 : (0 : Int32).toInt = 0 := by decide
  have h1 : (1 : Int32).toInt = 1 := by decide
  rw [Int32.lt_iff_toInt_lt, Int32.le_iff_toInt_le, h0, h1]
  omega
theorem rq_le1 {x : Int32} : 1 ≤ x ↔ 0 < x := by
  have h0 : (0 : Int32).toInt = 0 := by decide
  have h1 : (1 : Int32).toInt = 1 := by decide
  rw [Int32.lt_iff_toInt_lt, Int32.le_iff_toInt_le, h0, h1]
  omega
/-- a job id that both guards let through is an index -/
theorem rq_in {x : Int32} (h0 : ¬ x < 0) (h3 : x ≤ 3) : vp_in x 4 := by
  obtain ⟨j, hj, rfl⟩ := nI_of2 (M := 3) (n := 3) (by decide) h0 h3
  exact vp_in_nI (by omega) (by omega)
/-- the byte that the reference keeps of n + 1 is n + 1, for n from 0 to 4 -/
theorem rq_nar {x : Int32} (h0 : 0 ≤ x) (h4 : x ≤ 4) : vp_nar .byte ((x + 1).toInt8.toInt32) = x + 1 := by
  obtain ⟨j, hj, rfl⟩ := nI_of2 (M := 4) (n := 4) (by decide) (Int32.not_lt.mpr h0) h4
  rw [vp_nar_byte]
  have hc : j = 0 ∨ j = 1 ∨ j = 2 ∨ j = 3 ∨ j = 4 := by omega
  rcases hc with rfl | rfl | rfl | rfl | rfl <;> decide +kernel
theorem rq_n1 : vp_nar .byte 1 = 1 := by rw [vp_nar_byte]; decide
theorem rq_m1 : vp_nar .byte (-1) = -1 := by rw [vp_nar_byte]; decide
/-- the later write at one place hides the earlier -/
theorem rq_uu (f : Nat → Int32) (k : Nat) (x y : Int32) : upd (upd f k x) k y = upd f k y := by
  funext j
  unfold upd
  by_cases h : j = k
  · rw [if_pos h, if_pos h]
  · rw [if_neg h, if_neg h, if_neg h]
theorem rq_4 : nI 4 = 4 := by decide +kernel
end
section
/-! pollReady: both scans find one best job and leave one array of due times.
    The best so far is -1, or an index x1 whose due time x2 is. -/
def rq_B (du : Nat → Int64) (x1 : Int32) (x2 : Int64) : Prop := x1 = -1 ∨ (¬ x1 < 0 ∧ vp_in x1 4 ∧ x2 = du x1.toNatClampNeg)
theorem rq_scan (b c : Int64) (am : Nat → Int32) (du : Nat → Int64) : ∀ d j : Nat, j + d = 4 → ∀ (x1 : Int32) (x2 : Int64), rq_B du x1 x2 →
    ∃ (r : Int32) (dn : Nat → Int64),
      (∀ post : Int32 → SX → Prop, post r (b, c, am, dn) → wX_pollReady_7 post b c am du (d + 1) x1 x2 (nI j)) ∧
      (∀ post : Int32 → SY → Prop, post r (b, c, dn, am) → wY_pollReady_4 post b c du am (d + 1) x1 (nI j)) := by
  intro d
  induction d with
  | zero =>
    intro j hj x1 x2 hB
    have h : (4 : Int32) ≤ nI j := by rw [← rq_4]; exact nI_le (by omega) (by omega)
    rcases hB with rfl | ⟨hp, hi, _⟩
    · have hn : (-1 : Int32) < 0 := by decide
      have hm : ¬ (0 : Int32) ≤ -1 := by decide
      exact ⟨-1, du, fun _ hp => br_t h (br_f hm hp), fun _ hp => br_t h (br_t hn hp)⟩
    · have h0 : 0 ≤ x1 := Int32.not_lt.mp hp
      exact ⟨x1, vp_updL du x1.toNatClampNeg 9223372036854775807, fun _ hq => br_t h (br_t h0 ⟨hi, nm_e hq⟩), fun _ hq => br_t h (br_f hp ⟨hi, nm_e hq⟩)⟩
  | succ d ih =>
    intro j hj x1 x2 hB
    have h : ¬ (4 : Int32) ≤ nI j := by rw [← rq_4]; exact nI_ge (by omega) (by omega)
    have hi : vp_in (nI j) 4 := vp_in_nI (by omega) (by omega)
    have hj0 : ¬ nI j < 0 := nI_pos (by omega)
    have hs : nI j + 1 = nI (j + 1) := nI_1 j
    -- the best stays
    obtain ⟨r, dn, hX, hY⟩ := ih (j + 1) (by omega) x1 x2 hB
    -- the best becomes j
    obtain ⟨r', dn', hX', hY'⟩ := ih (j + 1) (by omega) (nI j) (du (nI j).toNatClampNeg) (Or.inr ⟨hj0, hi, rfl⟩)
    by_cases z : am (nI j).toNatClampNeg < 1
    · have z' := rq_lt1.mp z
      exact ⟨r, dn, fun post hp => br_f h ⟨hi, br_t z (nm_r hs (hX post hp))⟩, fun post hp => br_f h ⟨hi, br_t z' (nm_r hs (hY post hp))⟩⟩
    have z' : ¬ am (nI j).toNatClampNeg ≤ 0 := fun q => z (rq_lt1.mpr q)
    by_cases w : c < du (nI j).toNatClampNeg
    · exact ⟨r, dn, fun post hp => br_f h ⟨hi, br_f z ⟨hi, br_t w (nm_r hs (hX post hp))⟩⟩, fun post hp => br_f h ⟨hi, br_f z' ⟨hi, br_t w (nm_r hs (hY post hp))⟩⟩⟩
    by_cases n : x1 < 0
    · exact ⟨r', dn', fun post hp => br_f h ⟨hi, br_f z ⟨hi, br_f w (br_t n ⟨hi, nm_e (nm_r hs (hX' post hp))⟩)⟩⟩, fun post hp => br_f h ⟨hi, br_f z' ⟨hi, br_f w (br_t n (nm_r hs (hY' post hp)))⟩⟩⟩
    rcases hB with rfl | ⟨_, hi1, rfl⟩
    · exact absurd (by decide) n
    by_cases l : du x1.toNatClampNeg ≤ du (nI j).toNatClampNeg
    · exact ⟨r, dn, fun post hp => br_f h ⟨hi, br_f z ⟨hi, br_f w (br_f n ⟨hi, br_t l (nm_r hs (hX post hp))⟩)⟩⟩, fun post hp => br_f h ⟨hi, br_f z' ⟨hi, br_f w (br_f n ⟨hi, hi1, br_t l (nm_r hs (hY post hp))⟩)⟩⟩⟩
    · exact ⟨r', dn', fun post hp => br_f h ⟨hi, br_f z ⟨hi, br_f w (br_f n ⟨hi, br_f l ⟨hi, nm_e (nm_r hs (hX' post hp))⟩⟩)⟩⟩, fun post hp => br_f h ⟨hi, br_f z' ⟨hi, br_f w (br_f n ⟨hi, hi1, br_f l (nm_r hs (hY' post hp))⟩)⟩⟩⟩
end
section
/-- both objects hold the same base, clock, attempts and due times (the reference's attempts lie in bytes) -/
def i_Rel (_ : Nat) (u : SX) (v : SY) : Prop := ∃ (b c : Int64) (am : Nat → Int32) (du : Nat → Int64), u = (b, c, am, du) ∧ v = (b, c, du, am)
theorem rq_mk {k : Nat} (b c : Int64) (am : Nat → Int32) (du : Nat → Int64) : i_Rel k (b, c, am, du) (b, c, du, am) := ⟨b, c, am, du, rfl, rfl⟩
theorem i_up {k : Nat} {u : SX} {v : SY} (h : i_Rel k u v) : i_Rel (k + 3) u v := h
theorem i_vc0 (k0 : Int32) : wpX_init (fun u => wpY_init (fun v => i_Rel 1 u v) k0) k0 := by
  intro x ex y ey
  cases ey.trans ex.symm
  exact rq_mk _ _ _ _
theorem i_vc_submit {k : Nat} {u : SX} {v : SY} (I : i_Rel k u v) (hk : k + 3 ≤ 1537) (v1 : Int32) : wpX_submit (fun r u' => wpY_submit (fun r' v' => r' = r ∧ i_Rel (k + 3) u' v') v v1) u v1 := by
  obtain ⟨b, c, am, du, rfl, rfl⟩ := I
  by_cases h0 : v1 < 0
  · exact br_t h0 (br_t h0 ⟨rfl, rq_mk b c am du⟩)
  by_cases h3 : v1 ≤ 3
  · have hi := rq_in h0 h3
    by_cases z : am v1.toNatClampNeg = 0
    · refine br_f h0 (br_t h3 ⟨hi, br_t z ⟨hi, nm_e ⟨hi, nm_e ?_⟩⟩⟩)
      exact br_f h0 (br_t h3 ⟨hi, br_t z ⟨hi, nm_r (e' := upd am v1.toNatClampNeg 1) (by rw [rq_n1]) ⟨hi, nm_e ⟨rfl, rq_mk b c _ _⟩⟩⟩⟩)
    · exact br_f h0 (br_t h3 ⟨hi, br_f z (br_f h0 (br_t h3 ⟨hi, br_f z ⟨rfl, rq_mk b c am du⟩⟩))⟩)
  · exact br_f h0 (br_f h3 (br_f h0 (br_f h3 ⟨rfl, rq_mk b c am du⟩)))
theorem i_vc_fail {k : Nat} {u : SX} {v : SY} (I : i_Rel k u v) (hk : k + 3 ≤ 1537) (v1 : Int32) : wpX_fail (fun r u' => wpY_fail (fun r' v' => r' = r ∧ i_Rel (k + 3) u' v') v v1) u v1 := by
  obtain ⟨b, c, am, du, rfl, rfl⟩ := I
  by_cases h0 : v1 < 0
  · exact br_t h0 (br_t h0 ⟨rfl, rq_mk b c am du⟩)
  by_cases h3 : v1 ≤ 3
  · have hi := rq_in h0 h3
    have h3' : ¬ 3 < v1 := Int32.not_lt.mpr h3
    refine br_f h0 (br_t h3 ⟨hi, nm_e ?_⟩)
    by_cases z : am v1.toNatClampNeg = 0
    · exact br_t z (br_f h0 (br_f h3' ⟨hi, br_t z ⟨rfl, rq_mk b c am du⟩⟩))
    by_cases p : 0 ≤ am v1.toNatClampNeg
    · by_cases q : am v1.toNatClampNeg ≤ 4
      · refine br_f z (br_t p (br_t q ⟨hi, nm_e ⟨hi, nm_e ?_⟩⟩))
        exact br_f h0 (br_f h3' ⟨hi, br_f z ⟨hi, br_t p ⟨hi, hi, nm_r (e' := upd am v1.toNatClampNeg (am v1.toNatClampNeg + 1)) (by rw [rq_nar p q]) (nm_e (br_t q ⟨hi, nm_e ⟨rfl, rq_mk b c _ _⟩⟩))⟩⟩⟩)
      · refine br_f z (br_t p (br_f q ⟨hi, nm_e ?_⟩))
        exact br_f h0 (br_f h3' ⟨hi, br_f z ⟨hi, br_t p ⟨hi, hi, nm_e (nm_e (br_f q ⟨hi, nm_r (e' := upd am v1.toNatClampNeg (-1)) (by rw [rq_uu, rq_m1]) ⟨rfl, rq_mk b c _ du⟩⟩))⟩⟩⟩)
    · exact br_f z (br_f p (br_f h0 (br_f h3' ⟨hi, br_f z ⟨hi, br_f p ⟨rfl, rq_mk b c am du⟩⟩⟩)))
  · have h3' : 3 < v1 := Int32.not_le.mp h3
    exact br_f h0 (br_f h3 (br_f h0 (br_t h3' ⟨rfl, rq_mk b c am du⟩)))
theorem i_vc_advance {k : Nat} {u : SX} {v : SY} (I : i_Rel k u v) (hk : k + 3 ≤ 1537) (a0 : Int64) : wpX_advance (fun r u' => wpY_advance (fun r' v' => r' = r ∧ i_Rel (k + 3) u' v') v a0) u a0 := by
  obtain ⟨b, c, am, du, rfl, rfl⟩ := I
  by_cases h : a0 ≤ 0
  · have h' : ¬ 0 < a0 := Int64.not_lt.mpr h
    exact br_t h (br_f h' ⟨rfl, rq_mk b c am du⟩)
  · have h' : 0 < a0 := Int64.not_le.mp h
    exact br_f h (nm_e (br_t h' (nm_e ⟨rfl, rq_mk b _ am du⟩)))
theorem i_vc_pollReady {k : Nat} {u : SX} {v : SY} (I : i_Rel k u v) (hk : k + 3 ≤ 1537) : wpX_pollReady (fun r u' => wpY_pollReady (fun r' v' => r' = r ∧ i_Rel (k + 3) u' v') v) u := by
  obtain ⟨b, c, am, du, rfl, rfl⟩ := I
  obtain ⟨r, dn, hX, hY⟩ := rq_scan b c am du 4 0 rfl (-1) 0 (Or.inl rfl)
  rw [nI_0] at hX hY
  exact ⟨5, hX _ ⟨5, hY _ ⟨rfl, rq_mk b c am dn⟩⟩⟩
theorem i_vc_dueOf {k : Nat} {u : SX} {v : SY} (I : i_Rel k u v) (hk : k + 3 ≤ 1537) (v1 : Int32) : wpX_dueOf (fun r => wpY_dueOf (fun r' => r' = r ∧ i_Rel (k + 3) u v) v v1) u v1 := by
  obtain ⟨b, c, am, du, rfl, rfl⟩ := I
  by_cases h0 : v1 < 0
  · exact br_t h0 (br_t h0 ⟨rfl, rq_mk b c am du⟩)
  by_cases h3 : v1 ≤ 3
  · have hi := rq_in h0 h3
    have h3' : ¬ 3 < v1 := Int32.not_lt.mpr h3
    by_cases p : 1 ≤ am v1.toNatClampNeg
    · have p' := rq_le1.mp p
      exact br_f h0 (br_t h3 ⟨hi, br_t p ⟨hi, br_f h0 (br_f h3' ⟨hi, br_t p' ⟨hi, rfl, rq_mk b c am du⟩⟩)⟩⟩)
    · have p' : ¬ 0 < am v1.toNatClampNeg := fun q => p (rq_le1.mpr q)
      exact br_f h0 (br_t h3 ⟨hi, br_f p (br_f h0 (br_f h3' ⟨hi, br_f p' ⟨rfl, rq_mk b c am du⟩⟩))⟩)
  · have h3' : 3 < v1 := Int32.not_le.mp h3
    exact br_f h0 (br_f h3 (br_f h0 (br_t h3' ⟨rfl, rq_mk b c am du⟩)))
theorem i_vc_attempts {k : Nat} {u : SX} {v : SY} (I : i_Rel k u v) (hk : k + 3 ≤ 1537) (v1 : Int32) : wpX_attempts (fun r => wpY_attempts (fun r' => r' = r ∧ i_Rel (k + 3) u v) v v1) u v1 := by
  obtain ⟨b, c, am, du, rfl, rfl⟩ := I
  by_cases h0 : v1 < 0
  · exact br_t h0 (br_t h0 ⟨rfl, rq_mk b c am du⟩)
  by_cases h3 : v1 ≤ 3
  · have hi := rq_in h0 h3
    exact br_f h0 (br_t h3 ⟨hi, br_f h0 (br_t h3 ⟨hi, rfl, rq_mk b c am du⟩)⟩)
  · exact br_f h0 (br_f h3 (br_f h0 (br_f h3 ⟨rfl, rq_mk b c am du⟩)))
end
