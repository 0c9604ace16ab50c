section
/-- both objects hold the same last bin and the same counters -/
def i_Rel (_ : Nat) (u : SX) (v : SY) : Prop := u = v
theorem i_up {k : Nat} {u : SX} {v : SY} (h : i_Rel k u v) : i_Rel (k + 3) u v := h
theorem i_vc0 : wpX_init (fun u => wpY_init (fun v => i_Rel 0 u v)) := rfl
/-- a mask by 15 is an index below 16 -/
theorem bb_and (y : Int32) : vp_in (y &&& 15) 16 := by
  have h : (y &&& 15).toBitVec.toNat < 16 := by
    rw [Int32.toBitVec_and, BitVec.toNat_and]
    exact Nat.lt_of_le_of_lt Nat.and_le_right (by decide)
  have e : (y &&& 15).toInt = (y &&& 15).toBitVec.toInt := rfl
  rw [vp_in_iff, e, BitVec.toInt_eq_toNat_of_lt (by omega)]
  omega
/-- a short stored is the short read back -/
theorem bb_nar (z : Int32) : vp_nar .short z.toInt16.toInt32 = z.toInt16.toInt32 := by rw [vp_nar_short]; simp
theorem bb_7 : ¬ (7 : Int32) = 0 := by decide
theorem bb_26 : nI 26 = 26 := by decide +kernel
theorem bb_14 : nI 14 = 14 := by decide +kernel
theorem bb_3 (a : Nat) : nI a + 3 = nI (a + 3) := nI_add a 3
/-- the loop over s: one answer for both sides -/
theorem bb_scan (p e f : Int32) (a : Nat → Int32) : ∀ d j : Nat, j + 3 * d = 29 → ∃ r : Int32, (∀ post : Int32 → Prop, post r → wX_reg2bin_31 post p e f a (d + 1) (nI j)) ∧ (∀ post : Int32 → Prop, post r → wY_reg2bin_31 post p e f a (d + 1) (nI j)) := by
  intro d
  induction d with
  | zero =>
    intro j hj
    have h : (26 : Int32) < nI j := by rw [← bb_26]; exact nI_lt (by omega) (by omega)
    exact ⟨0, fun _ hp => br_t h hp, fun _ hp => br_t h hp⟩
  | succ d ih =>
    intro j hj
    have h : ¬ (26 : Int32) < nI j := by rw [← bb_26, nI_ltI (by omega) (by omega)]; omega
    by_cases z : p >>> (nI j &&& 31) = e >>> (nI j &&& 31)
    · exact ⟨_, fun _ hp => br_f h (br_t z ⟨bb_7, hp⟩), fun _ hp => br_f h (br_t z ⟨bb_7, hp⟩)⟩
    · obtain ⟨r, hX, hY⟩ := ih (j + 3) (by omega)
      refine ⟨r, fun post hp => br_f h (br_f z fun y ey => ?_), fun post hp => br_f h (br_f z fun y ey => ?_)⟩
      · rw [ey, bb_3]; exact hX post hp
      · rw [ey, bb_3]; exact hY post hp
/-- reg2bin: one answer for both sides -/
theorem bb_reg (f : Int32) (a : Nat → Int32) (p q : Int32) : ∃ r : Int32, (∀ post : Int32 → Prop, post r → wpX_reg2bin post (f, a) p q) ∧ (∀ post : Int32 → Prop, post r → wpY_reg2bin post (f, a) p q) := by
  by_cases h0 : 0 ≤ p
  · by_cases h1 : p < q
    · by_cases h2 : q ≤ 536870912
      · obtain ⟨r, hX, hY⟩ := bb_scan p (q - 1) f a 5 14 rfl
        rw [bb_14] at hX hY
        exact ⟨r, fun post hp => br_t h0 (br_t h1 (br_t h2 (nm_e ⟨_, hX post hp⟩))), fun post hp => br_t h0 (br_t h1 (br_t h2 (nm_e ⟨_, hY post hp⟩)))⟩
      · exact ⟨-3, fun _ hp => br_t h0 (br_t h1 (br_f h2 hp)), fun _ hp => br_t h0 (br_t h1 (br_f h2 hp))⟩
    · exact ⟨-2, fun _ hp => br_t h0 (br_f h1 hp), fun _ hp => br_t h0 (br_f h1 hp)⟩
  · exact ⟨-1, fun _ hp => br_f h0 hp, fun _ hp => br_f h0 hp⟩
theorem i_vc_reg2bin {k : Nat} {u : SX} {v : SY} (I : i_Rel k u v) (hk : k + 3 ≤ 1536) (v1 : Int32) (v2 : Int32) : wpX_reg2bin (fun r => wpY_reg2bin (fun r' => r' = r ∧ i_Rel (k + 3) u v) v v1 v2) u v1 v2 := by
  cases I
  obtain ⟨f, a⟩ := u
  obtain ⟨r, hX, hY⟩ := bb_reg f a v1 v2
  exact hX _ (hY _ ⟨rfl, rfl⟩)
theorem i_vc_note {k : Nat} {u : SX} {v : SY} (I : i_Rel k u v) (hk : k + 3 ≤ 1536) (v1 : Int32) (v2 : Int32) : wpX_note (fun r u' => wpY_note (fun r' v' => r' = r ∧ i_Rel (k + 3) u' v') v v1 v2) u v1 v2 := by
  cases I
  obtain ⟨f, a⟩ := u
  obtain ⟨r, hX, hY⟩ := bb_reg f a v1 v2
  unfold wpX_note
  dsimp only
  refine hX _ ?_
  by_cases h0 : 0 ≤ r
  · refine br_t h0 ?_
    intro x ex
    have hx : vp_in x 16 := by rw [ex]; exact bb_and _
    refine ⟨hx, hx, fun b eb => ⟨hx, ?_⟩⟩
    unfold wpY_note
    dsimp only
    refine hY _ ?_
    refine br_t h0 ?_
    rw [← ex]
    refine ⟨hx, hx, fun c ec => ⟨?_, ?_⟩⟩
    · rw [eb, upd, if_pos rfl, bb_nar]
    · rw [eb, ec]; exact rfl
  · refine br_f h0 ?_
    unfold wpY_note
    dsimp only
    refine hY _ ?_
    exact br_f h0 ⟨rfl, rfl⟩
/-- the borders of the levels, by the int's value -/
theorem bb_lt (x m : Int32) (n : Int) (h : m.toInt = n) : (x < m ↔ x.toInt < n) := by rw [Int32.lt_iff_toInt_lt, h]
theorem bb_gt (x m : Int32) (n : Int) (h : m.toInt = n) : (m < x ↔ n < x.toInt) := by rw [Int32.lt_iff_toInt_lt, h]
theorem bb_le (x m : Int32) (n : Int) (h : m.toInt = n) : (x ≤ m ↔ x.toInt ≤ n) := by rw [Int32.le_iff_toInt_le, h]
theorem bb_ge (x m : Int32) (n : Int) (h : m.toInt = n) : (m ≤ x ↔ n ≤ x.toInt) := by rw [Int32.le_iff_toInt_le, h]
theorem bb_eq (x m : Int32) (n : Int) (h : m.toInt = n) : (x = m ↔ x.toInt = n) := by rw [← Int32.toInt_inj, h]
/-- level: one answer for both sides -/
theorem bb_level (f : Int32) (a : Nat → Int32) (p : Int32) : ∃ r : Int32, (∀ post : Int32 → Prop, post r → wpX_level post (f, a) p) ∧ (∀ post : Int32 → Prop, post r → wpY_level post (f, a) p) := by
  have x0 := bb_ge p 0 0 (by decide)
  have xz := bb_eq p 0 0 (by decide)
  have x1 := bb_gt p 8 8 (by decide)
  have x2 := bb_gt p 72 72 (by decide)
  have x3 := bb_gt p 584 584 (by decide)
  have x4 := bb_gt p 4680 4680 (by decide)
  have x5 := bb_gt p 37448 37448 (by decide)
  have y0 := bb_lt p 0 0 (by decide)
  have y1 := bb_lt p 1 1 (by decide)
  have y2 := bb_lt p 9 9 (by decide)
  have y3 := bb_lt p 73 73 (by decide)
  have y4 := bb_lt p 585 585 (by decide)
  have y5 := bb_lt p 4681 4681 (by decide)
  have y6 := bb_le p 37448 37448 (by decide)
  generalize p.toInt = t at *
  by_cases c0 : t < 0
  · exact ⟨-1, fun _ hp => br_f (mt x0.mp (by omega)) hp, fun _ hp => br_t (y0.mpr c0) hp⟩
  have X0 := x0.mpr (by omega)
  have Y0 := mt y0.mp c0
  by_cases c6 : 37448 < t
  · exact ⟨-1, fun _ hp => br_t X0 (br_f (mt xz.mp (by omega)) (br_t (x1.mpr (by omega)) (br_t (x2.mpr (by omega)) (br_t (x3.mpr (by omega)) (br_t (x4.mpr (by omega)) (br_t (x5.mpr c6) hp)))))), fun _ hp => br_f Y0 (br_f (mt y6.mp (by omega)) hp)⟩
  have Y6 := y6.mpr (by omega)
  by_cases c5 : 4680 < t
  · exact ⟨5, fun _ hp => br_t X0 (br_f (mt xz.mp (by omega)) (br_t (x1.mpr (by omega)) (br_t (x2.mpr (by omega)) (br_t (x3.mpr (by omega)) (br_t (x4.mpr c5) (br_f (mt x5.mp c6) hp)))))), fun _ hp => br_f Y0 (br_t Y6 (br_f (mt y5.mp (by omega)) hp))⟩
  have Y5 := y5.mpr (by omega)
  by_cases c4 : 584 < t
  · exact ⟨4, fun _ hp => br_t X0 (br_f (mt xz.mp (by omega)) (br_t (x1.mpr (by omega)) (br_t (x2.mpr (by omega)) (br_t (x3.mpr c4) (br_f (mt x4.mp c5) hp))))), fun _ hp => br_f Y0 (br_t Y6 (br_t Y5 (br_f (mt y4.mp (by omega)) hp)))⟩
  have Y4 := y4.mpr (by omega)
  by_cases c3 : 72 < t
  · exact ⟨3, fun _ hp => br_t X0 (br_f (mt xz.mp (by omega)) (br_t (x1.mpr (by omega)) (br_t (x2.mpr c3) (br_f (mt x3.mp c4) hp)))), fun _ hp => br_f Y0 (br_t Y6 (br_t Y5 (br_t Y4 (br_f (mt y3.mp (by omega)) hp))))⟩
  have Y3 := y3.mpr (by omega)
  by_cases c2 : 8 < t
  · exact ⟨2, fun _ hp => br_t X0 (br_f (mt xz.mp (by omega)) (br_t (x1.mpr c2) (br_f (mt x2.mp c3) hp))), fun _ hp => br_f Y0 (br_t Y6 (br_t Y5 (br_t Y4 (br_t Y3 (br_f (mt y2.mp (by omega)) hp)))))⟩
  have Y2 := y2.mpr (by omega)
  by_cases c1 : 0 < t
  · exact ⟨1, fun _ hp => br_t X0 (br_f (mt xz.mp (by omega)) (br_f (mt x1.mp c2) hp)), fun _ hp => br_f Y0 (br_t Y6 (br_t Y5 (br_t Y4 (br_t Y3 (br_t Y2 (br_f (mt y1.mp (by omega)) hp))))))⟩
  exact ⟨0, fun _ hp => br_t X0 (br_t (xz.mpr (by omega)) hp), fun _ hp => br_f Y0 (br_t Y6 (br_t Y5 (br_t Y4 (br_t Y3 (br_t Y2 (br_t (y1.mpr (by omega)) hp))))))⟩
theorem i_vc_level {k : Nat} {u : SX} {v : SY} (I : i_Rel k u v) (hk : k + 3 ≤ 1536) (v1 : Int32) : wpX_level (fun r => wpY_level (fun r' => r' = r ∧ i_Rel (k + 3) u v) v v1) u v1 := by
  cases I
  obtain ⟨f, a⟩ := u
  obtain ⟨r, hX, hY⟩ := bb_level f a v1
  exact hX _ (hY _ ⟨rfl, rfl⟩)
theorem i_vc_last {k : Nat} {u : SX} {v : SY} (I : i_Rel k u v) (hk : k + 3 ≤ 1536) : wpX_last (fun r => wpY_last (fun r' => r' = r ∧ i_Rel (k + 3) u v) v) u := by
  cases I
  exact ⟨rfl, rfl⟩
end
