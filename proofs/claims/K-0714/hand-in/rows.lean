section
/-! rows of the kit pasted (pk_, wb_, ts_), then one bit of a word, read by a mask and by a shift -/
theorem pk_m1 (n : Nat) : nI (n + 1) + (-1) = nI n := by
  rw [← nI_1, Int32.add_assoc, show (1 : Int32) + (-1) = 0 from rfl, Int32.add_zero]
theorem pk_tn {n : Nat} (h : n < 2 ^ 32) : (nI n).toBitVec.toNat = n := Nat.mod_eq_of_lt h
theorem pk_and (x : Int32) {m : Int32} (k : Nat) (hm : m.toBitVec.toNat = 2 ^ k - 1) : x &&& m = nI (x.toBitVec.toNat % 2 ^ k) := by
  apply Int32.toBitVec_inj.mp
  apply BitVec.eq_of_toNat_eq
  rw [Int32.toBitVec_and, BitVec.toNat_and, hm, Nat.and_two_pow_sub_one_eq_mod]
  show _ = (BitVec.ofNat 32 _).toNat
  rw [BitVec.toNat_ofNat]
  exact (Nat.mod_eq_of_lt (Nat.lt_of_le_of_lt (Nat.mod_le _ _) x.toBitVec.isLt)).symm
theorem pk_shr (a s : Int32) (k : Nat) (hs : (s.toBitVec.smod 32).toNat = k) : (a >>> s).toInt = a.toInt >>> k := by
  show (a.toBitVec.sshiftRight (s.toBitVec.smod 32).toNat).toInt = _
  rw [hs, BitVec.toInt_sshiftRight]
  rfl
theorem pk_shrN {n : Nat} (h : n < 2 ^ 31) (s : Int32) (k : Nat) (hs : (s.toBitVec.smod 32).toNat = k) : nI n >>> s = nI (n / 2 ^ k) := by
  apply Int32.toInt_inj.mp
  have h2 : n / 2 ^ k ≤ n := Nat.div_le_self _ _
  rw [pk_shr _ _ k hs, nI_toInt h, nI_toInt (by omega), Int.shiftRight_eq_div_pow]
  rfl
theorem wb_cu : ∀ k, k < 64 → ((nI k).toInt64.toUInt64 &&& Int64.toUInt64 63) = UInt64.ofNat k := by decide +kernel
theorem ts_nf {x : Bool} (h : ¬ x = false) : x = true := by cases x <;> first | rfl | exact absurd rfl h
theorem ts_bit {w : Int64} {s : UInt64} {j : Nat} (hj : j < 64) (hs : s.toNat = j) : ((w.toUInt64 >>> s).toInt64 &&& 1) = 0 ↔ w.toBitVec.getLsbD j = false := by
  have e : (w.toUInt64 >>> s).toInt64.toBitVec = w.toBitVec >>> j := by
    apply BitVec.eq_of_toNat_eq
    show (w.toUInt64 >>> s).toNat = _
    rw [UInt64.toNat_shiftRight, hs, Nat.mod_eq_of_lt hj, BitVec.toNat_ushiftRight]
    rfl
  rw [← Int64.toBitVec_inj, Int64.toBitVec_and, e]
  show w.toBitVec >>> j &&& 1#64 = 0#64 ↔ _
  constructor
  · intro h
    have t := congrArg (fun x => x.getLsbD 0) h
    simpa using t
  · intro h
    apply BitVec.eq_of_getLsbD_eq
    intro i hi
    cases i with
    | zero => simp [h]
    | succ i => simp
/-- the mask of level p's bit, as printed -/
theorem lb_mask : ∀ k, k < 64 → ((1 : Int64) <<< ((nI k).toInt64 &&& 63)).toBitVec = BitVec.twoPow 64 k := by decide +kernel
theorem lb_cnt {k : Nat} (hk : k < 64) : ((nI k).toInt64.toUInt64 &&& Int64.toUInt64 63).toNat = k := by
  rw [wb_cu k hk]
  show (BitVec.ofNat 64 k).toNat = k
  rw [BitVec.toNat_ofNat, Nat.mod_eq_of_lt (by omega)]
/-- X's test -/
theorem lb_tX (w : Int64) {k : Nat} (hk : k < 64) : (w &&& ((1 : Int64) <<< ((nI k).toInt64 &&& 63))) = 0 ↔ w.toBitVec.getLsbD k = false := by
  rw [← Int64.toBitVec_inj, Int64.toBitVec_and, lb_mask k hk]
  show w.toBitVec &&& BitVec.twoPow 64 k = 0#64 ↔ _
  constructor
  · intro h
    have t := congrArg (fun x => x.getLsbD k) h
    simp only [BitVec.getLsbD_and, BitVec.getLsbD_twoPow, BitVec.getLsbD_zero] at t
    simpa [hk] using t
  · intro h
    apply BitVec.eq_of_getLsbD_eq
    intro i hi
    rw [BitVec.getLsbD_and, BitVec.getLsbD_twoPow, BitVec.getLsbD_zero]
    by_cases e : k = i
    · subst e; rw [h, Bool.false_and]
    · simp [e]
/-- Y's test -/
theorem lb_tY (w : Int64) {k : Nat} (hk : k < 64) : ((w.toUInt64 >>> ((nI k).toInt64.toUInt64 &&& Int64.toUInt64 63)).toInt64 &&& 1) = 0 ↔ w.toBitVec.getLsbD k = false := ts_bit hk (lb_cnt hk)
/-- an int's lowest bit, of a long cut to an int -/
theorem lb_low (z : Int64) : (z &&& 1 = 0 → z.toInt32 &&& 1 = 0) ∧ (¬ z &&& 1 = 0 → z.toInt32 &&& 1 = 1) := by
  have e1 : (1 : Int32).toBitVec.toNat = 2 ^ 1 - 1 := by decide
  have e2 : z.toInt32.toBitVec.toNat % 2 = z.toBitVec.toNat % 2 := by
    show (z.toBitVec.signExtend 32).toNat % 2 = _
    rw [BitVec.signExtend_eq_setWidth_of_le _ (by decide), BitVec.toNat_setWidth]
    omega
  have e3 : (z &&& 1 = 0) ↔ z.toBitVec.toNat % 2 = 0 := by
    rw [← Int64.toBitVec_inj, Int64.toBitVec_and, ← BitVec.toNat_inj, BitVec.toNat_and]
    show z.toBitVec.toNat &&& 1 = 0 ↔ _
    rw [Nat.and_one_is_mod]
  rw [pk_and z.toInt32 1 e1, e3, Nat.pow_one, e2]
  constructor
  · intro h; rw [h]; rfl
  · intro h
    have h1 : z.toBitVec.toNat % 2 = 1 := by omega
    rw [h1]; rfl
theorem lb_63 (p : Int32) : ∃ k : Nat, k < 64 ∧ p &&& 63 = nI k := ⟨_, Nat.mod_lt _ (by decide), pk_and p 6 (by decide)⟩
/-- both tests are one, whatever p is -/
theorem lb_same (w : Int64) (p : Int32) : ((w.toUInt64 >>> ((p &&& 63).toInt64.toUInt64 &&& Int64.toUInt64 63)).toInt64 &&& 1) = 0 ↔ (w &&& ((1 : Int64) <<< ((p &&& 63).toInt64 &&& 63))) = 0 := by
  obtain ⟨k, hk, e⟩ := lb_63 p
  rw [e, lb_tX w hk, lb_tY w hk]
/-- Y's former state, where X's test finds none -/
theorem lb_was0 {w : Int64} {p : Int32} (h : (w &&& ((1 : Int64) <<< ((p &&& 63).toInt64 &&& 63))) = 0) : (((w.toUInt64 >>> ((p &&& 63).toInt64.toUInt64 &&& Int64.toUInt64 63)).toInt64).toInt32) &&& 1 = 0 := (lb_low _).1 ((lb_same w p).mpr h)
theorem lb_was1 {w : Int64} {p : Int32} (h : ¬ (w &&& ((1 : Int64) <<< ((p &&& 63).toInt64 &&& 63))) = 0) : (((w.toUInt64 >>> ((p &&& 63).toInt64.toUInt64 &&& Int64.toUInt64 63)).toInt64).toInt32) &&& 1 = 1 := (lb_low _).2 (fun z => h ((lb_same w p).mp z))
/-- a level's word -/
theorem lb_inN {q : Nat} (h : q < 256) : vp_in (nI q >>> ((6 : Int32) &&& 31)) 4 := by
  rw [pk_shrN (by omega) _ 6 (by decide)]
  exact vp_in_nI (by omega) (by decide)
theorem lb_in {p : Int32} (h0 : ¬ p < 0) (h : p ≤ 255) : vp_in (p >>> ((6 : Int32) &&& 31)) 4 := by
  obtain ⟨j, hj, rfl⟩ := nI_of2 (n := 255) (by decide) h0 h
  exact lb_inN (by omega)
theorem lb_255 : nI 255 = 255 := by decide +kernel
end
section
/-- the two bitmaps hold the same four words -/
def i_Rel (_ : Nat) (u : SX) (v : SY) : Prop := u = v
theorem i_up {k : Nat} {u : SX} {v : SY} (h : i_Rel k u v) : i_Rel (k + 2) u v := h
theorem i_vc0 : wpX_init (fun u => wpY_init (fun v => i_Rel 0 u v)) := rfl
theorem i_vc_mark {k : Nat} {u : SX} {v : SY} (I : i_Rel k u v) (hk : k + 2 ≤ 1024) (v1 : Int32) : wpX_mark (fun r u' => wpY_mark (fun r' v' => r' = r ∧ i_Rel (k + 2) u' v') v v1) u v1 := by
  cases I
  by_cases h0 : v1 < 0
  · exact br_t h0 (br_t h0 ⟨rfl, rfl⟩)
  · by_cases h8 : v1 ≤ 255
    · have hi : vp_in (v1 >>> ((6 : Int32) &&& 31)) 4 := lb_in h0 h8
      by_cases z : (u (v1 >>> ((6 : Int32) &&& 31)).toNatClampNeg &&& ((1 : Int64) <<< ((v1 &&& 63).toInt64 &&& 63))) = 0
      · exact br_f h0 (br_t h8 (nm_e (nm_e ⟨hi, br_t z ⟨hi, hi, nm_e (br_f h0 (br_t h8 ⟨hi, nm_e ⟨hi, hi, nm_e ⟨lb_was0 z, rfl⟩⟩⟩))⟩⟩)))
      · exact br_f h0 (br_t h8 (nm_e (nm_e ⟨hi, br_f z ⟨hi, hi, nm_e (br_f h0 (br_t h8 ⟨hi, nm_e ⟨hi, hi, nm_e ⟨lb_was1 z, rfl⟩⟩⟩))⟩⟩)))
    · exact br_f h0 (br_f h8 (br_f h0 (br_f h8 ⟨rfl, rfl⟩)))
theorem i_vc_clear {k : Nat} {u : SX} {v : SY} (I : i_Rel k u v) (hk : k + 2 ≤ 1024) (v1 : Int32) : wpX_clear (fun r u' => wpY_clear (fun r' v' => r' = r ∧ i_Rel (k + 2) u' v') v v1) u v1 := by
  cases I
  by_cases h0 : v1 < 0
  · exact br_t h0 (br_t h0 ⟨rfl, rfl⟩)
  · by_cases h8 : v1 ≤ 255
    · have hi : vp_in (v1 >>> ((6 : Int32) &&& 31)) 4 := lb_in h0 h8
      by_cases z : (u (v1 >>> ((6 : Int32) &&& 31)).toNatClampNeg &&& ((1 : Int64) <<< ((v1 &&& 63).toInt64 &&& 63))) = 0
      · exact br_f h0 (br_t h8 (nm_e (nm_e ⟨hi, br_t z ⟨hi, hi, nm_e (br_f h0 (br_t h8 ⟨hi, nm_e ⟨hi, hi, nm_e ⟨lb_was0 z, rfl⟩⟩⟩))⟩⟩)))
      · exact br_f h0 (br_t h8 (nm_e (nm_e ⟨hi, br_f z ⟨hi, hi, nm_e (br_f h0 (br_t h8 ⟨hi, nm_e ⟨hi, hi, nm_e ⟨lb_was1 z, rfl⟩⟩⟩))⟩⟩)))
    · exact br_f h0 (br_f h8 (br_f h0 (br_f h8 ⟨rfl, rfl⟩)))
/-- both scans downwards give one answer -/
theorem lb_down (a : Nat → Int64) : ∀ d : Nat, d ≤ 256 → ∀ x : Int32, x = nI d + (-1) → ∃ r : Int32, (∀ post : Int32 → Prop, post r → wX_bestBid_4 post a (d + 1) x) ∧ (∀ post : Int32 → Prop, post r → wY_bestBid_4 post a (d + 1) x) := by
  intro d
  induction d with
  | zero =>
    intro _ x ex
    have h : x < 0 := by rw [ex]; decide
    exact ⟨-1, fun _ hp => br_t h hp, fun _ hp => br_t h hp⟩
  | succ d ih =>
    intro hd x ex
    rw [pk_m1] at ex
    subst ex
    have h : ¬ nI d < 0 := nI_pos (by omega)
    have hi : vp_in (nI d >>> ((6 : Int32) &&& 31)) 4 := lb_inN (by omega)
    by_cases z : (a (nI d >>> ((6 : Int32) &&& 31)).toNatClampNeg &&& ((1 : Int64) <<< ((nI d &&& 63).toInt64 &&& 63))) = 0
    · obtain ⟨r, hX, hY⟩ := ih (by omega) _ rfl
      exact ⟨r, fun post hp => br_f h ⟨hi, br_t z (nm_e (hX post hp))⟩, fun post hp => br_f h ⟨hi, br_t ((lb_same _ _).mpr z) (nm_e (hY post hp))⟩⟩
    · exact ⟨nI d, fun _ hp => br_f h ⟨hi, br_f z hp⟩, fun _ hp => br_f h ⟨hi, br_f (fun y => z ((lb_same _ _).mp y)) hp⟩⟩
theorem i_vc_bestBid {k : Nat} {u : SX} {v : SY} (I : i_Rel k u v) (hk : k + 2 ≤ 1024) : wpX_bestBid (fun r => wpY_bestBid (fun r' => r' = r ∧ i_Rel (k + 2) u v) v) u := by
  cases I
  obtain ⟨r, hX, hY⟩ := lb_down u 256 (by decide) 255 (by decide)
  exact ⟨_, hX _ ⟨_, hY _ ⟨rfl, rfl⟩⟩⟩
/-- both scans upwards give one answer -/
theorem lb_up (a : Nat → Int64) : ∀ d j : Nat, j + d = 256 → ∃ r : Int32, (∀ post : Int32 → Prop, post r → wX_bestAskFrom_19 post a (d + 1) (nI j)) ∧ (∀ post : Int32 → Prop, post r → wY_bestAskFrom_10 post a (d + 1) (nI j)) := by
  intro d
  induction d with
  | zero =>
    intro j hj
    have h : (255 : Int32) < nI j := by rw [← lb_255]; exact nI_lt (by omega) (by omega)
    exact ⟨-1, fun _ hp => br_t h hp, fun _ hp => br_t h hp⟩
  | succ d ih =>
    intro j hj
    have h : ¬ (255 : Int32) < nI j := by rw [← lb_255]; exact nI_nlt (by omega) (by omega)
    have hi : vp_in (nI j >>> ((6 : Int32) &&& 31)) 4 := lb_inN (by omega)
    by_cases z : (a (nI j >>> ((6 : Int32) &&& 31)).toNatClampNeg &&& ((1 : Int64) <<< ((nI j &&& 63).toInt64 &&& 63))) = 0
    · obtain ⟨r, hX, hY⟩ := ih (j + 1) (by omega)
      exact ⟨r, fun post hp => br_f h ⟨hi, br_t z (nm_r (nI_1 j) (hX post hp))⟩, fun post hp => br_f h ⟨hi, br_t ((lb_same _ _).mpr z) (nm_r (nI_1 j) (hY post hp))⟩⟩
    · exact ⟨nI j, fun _ hp => br_f h ⟨hi, br_f z hp⟩, fun _ hp => br_f h ⟨hi, br_f (fun y => z ((lb_same _ _).mp y)) hp⟩⟩
theorem i_vc_bestAskFrom {k : Nat} {u : SX} {v : SY} (I : i_Rel k u v) (hk : k + 2 ≤ 1024) (v1 : Int32) : wpX_bestAskFrom (fun r => wpY_bestAskFrom (fun r' => r' = r ∧ i_Rel (k + 2) u v) v v1) u v1 := by
  cases I
  by_cases h8 : v1 ≤ 255
  · refine br_t h8 ?_
    by_cases h0 : 0 ≤ v1
    · obtain ⟨j, hj, rfl⟩ := nI_of2 (n := 255) (by decide) (Int32.not_lt.mpr h0) h8
      obtain ⟨r, hX, hY⟩ := lb_up u (256 - j) j (by omega)
      exact br_t h0 ⟨_, hX _ (br_t h0 ⟨_, hY _ ⟨rfl, rfl⟩⟩)⟩
    · obtain ⟨r, hX, hY⟩ := lb_up u 256 0 rfl
      rw [nI_0] at hX hY
      exact br_f h0 ⟨_, hX _ (br_f h0 ⟨_, hY _ ⟨rfl, rfl⟩⟩)⟩
  · have h : (255 : Int32) < v1 := Int32.not_le.mp h8
    have h0 : (0 : Int32) ≤ v1 := Int32.le_trans (by decide) (Int32.le_of_lt h)
    exact br_f h8 (br_t h0 ⟨1, br_t h ⟨rfl, rfl⟩⟩)
end
