section
/-! ===== plain rows: stores, masks, casts, and the relation on the arrays ===== -/
theorem rs_us {f : Nat → Int32} {k : Nat} {x : Int32} : upd f k x k = x := if_pos rfl
theorem rs_un {f : Nat → Int32} {k j : Nat} {x : Int32} (h : ¬ j = k) : upd f k x j = f j := if_neg h
theorem rs_uc {f : Nat → Int32} {k : Nat} {x y : Int32} (h : x = y) : upd f k x = upd f k y := congrArg (upd f k) h
theorem rs_uLs {f : Nat → Int64} {k : Nat} {x : Int64} : vp_updL f k x k = x := if_pos rfl
theorem rs_uLn {f : Nat → Int64} {k j : Nat} {x : Int64} (h : ¬ j = k) : vp_updL f k x j = f j := if_neg h
/-- a slot's index is within -/
theorem rs_in (y : Int32) : vp_in (y &&& 7) 8 := by
  have h : (y &&& 7).toBitVec.toNat < 8 := by
    rw [Int32.toBitVec_and, BitVec.toNat_and]
    exact Nat.lt_of_le_of_lt Nat.and_le_right (by decide)
  have e : (y &&& 7).toInt = (y &&& 7).toBitVec.toInt := rfl
  rw [vp_in_iff, e, BitVec.toInt_eq_toNat_of_lt (by omega)]
  omega
/-- the cast to char is the mask -/
theorem rs_ch (x : Int32) : (x.toUInt32 % 65536).toInt32 = x &&& 65535 := by
  rw [← lg_i2c_mask, ← lg_i2c_nf]
/-- a masked tag stored into a char cell stays as it is -/
theorem rs_vc (x : Int32) : vp_nar .char (x &&& 65535) = x &&& 65535 := by
  rw [vp_nar_char, lg_i2c_mask, Int32.and_assoc]
  exact congrArg (fun m : Int32 => x &&& m) (by decide)
theorem rs_b0 : vp_nar .byte 0 = 0 := by rw [vp_nar_byte]; decide
theorem rs_b1 : vp_nar .byte 1 = 1 := by rw [vp_nar_byte]; decide
theorem rs_8 : nI 8 = 8 := by decide +kernel
theorem rs_127 : (127 : Int32).toInt = 127 := by decide
/-- a count below 127 and one more: no wrap, and within a byte -/
theorem rs_inc {c : Int32} (h0 : 0 ≤ c.toInt) (h : ¬ 127 ≤ c) : (c + 1).toInt = c.toInt + 1 ∧ c.toInt < 127 := by
  rw [Int32.le_iff_toInt_le, rs_127] at h
  obtain ⟨j, hj, rfl⟩ := nI_of (x := c) (by rw [Int32.lt_iff_toInt_lt, show (0 : Int32).toInt = 0 from rfl]; omega)
  rw [nI_toInt hj] at h h0
  rw [nI_1, nI_toInt hj, nI_toInt (by omega)]
  omega
theorem rs_b {c : Int32} (h0 : 0 ≤ c.toInt) (h : ¬ 127 ≤ c) : (c + 1).toInt8.toInt32 = c + 1 := by
  have ⟨e, l⟩ := rs_inc h0 h
  exact lg_i2b_small (by omega) (by omega)
theorem rs_vb {c : Int32} (h0 : 0 ≤ c.toInt) (h : ¬ 127 ≤ c) : vp_nar .byte ((c + 1).toInt8.toInt32) = c + 1 := by
  rw [vp_nar_byte, rs_b h0 h, rs_b h0 h]
theorem rs_top {c : Int32} (h1 : c.toInt ≤ 127) (h : 127 ≤ c) : c = 127 := by
  rw [Int32.le_iff_toInt_le, rs_127] at h
  exact Int32.toInt_inj.mp (by rw [rs_127]; omega)
theorem rs_ntop {c : Int32} (h : ¬ 127 ≤ c) : ¬ c = 127 := fun e => h (by rw [e]; exact Int32.le_refl _)
/-- counts c (one array for both), times t and tags g of the component, t' and g' of the reference: the counts stay within 0 .. 127, and where a slot is in use its time and tag are the same -/
def rs_R (t : Nat → Int64) (g c : Nat → Int32) (t' : Nat → Int64) (g' : Nat → Int32) : Prop :=
  (∀ j : Nat, 0 ≤ (c j).toInt ∧ (c j).toInt ≤ 127) ∧ ∀ j : Nat, ¬ c j = 0 → t' j = t j ∧ g' j = g j
theorem rs_z : 0 ≤ (0 : Int32).toInt ∧ (0 : Int32).toInt ≤ 127 := by decide
theorem rs_R0 : rs_R (fun _ => 0) (fun _ => 0) (fun _ => 0) (fun _ => 0) (fun _ => 0) :=
  ⟨fun _ => rs_z, fun _ _ => ⟨rfl, rfl⟩⟩
theorem rs_cnt {c : Nat → Int32} (h : ∀ j : Nat, 0 ≤ (c j).toInt ∧ (c j).toInt ≤ 127) (i : Nat) {w : Int32} (hw : 0 ≤ w.toInt ∧ w.toInt ≤ 127) : ∀ j : Nat, 0 ≤ (upd c i w j).toInt ∧ (upd c i w j).toInt ≤ 127 := by
  intro j
  by_cases e : j = i
  · rw [e, rs_us]; exact hw
  · rw [rs_un e]; exact h j
/-- a first send fills the slot alike -/
theorem rs_fill {t t' : Nat → Int64} {g c g' : Nat → Int32} (R : rs_R t g c t' g') (i : Nat) (x : Int64) (y : Int32) : rs_R (vp_updL t i x) (upd g i y) (upd c i 1) (vp_updL t' i x) (upd g' i y) := by
  refine ⟨rs_cnt R.1 i ⟨by decide, by decide⟩, fun j hj => ?_⟩
  by_cases e : j = i
  · rw [e, rs_uLs, rs_uLs, rs_us, rs_us]; exact ⟨rfl, rfl⟩
  · rw [rs_un e] at hj
    rw [rs_uLn e, rs_uLn e, rs_un e, rs_un e]; exact R.2 j hj
/-- a further send counts up a slot in use -/
theorem rs_more {t t' : Nat → Int64} {g c g' : Nat → Int32} (R : rs_R t g c t' g') {i : Nat} (hi : ¬ c i = 0) {w : Int32} (hw : 0 ≤ w.toInt ∧ w.toInt ≤ 127) : rs_R t g (upd c i w) t' g' := by
  refine ⟨rs_cnt R.1 i hw, fun j hj => ?_⟩
  by_cases e : j = i
  · rw [e]; exact R.2 i hi
  · rw [rs_un e] at hj; exact R.2 j hj
/-- an acknowledgement frees the slot: what its time and tag hold then doesn't matter -/
theorem rs_free {t t' : Nat → Int64} {g c g' : Nat → Int32} (R : rs_R t g c t' g') (i : Nat) (x x' : Int64) (y : Int32) : rs_R (vp_updL t i x) (upd g i y) (upd c i 0) (vp_updL t' i x') g' := by
  refine ⟨rs_cnt R.1 i ⟨by decide, by decide⟩, fun j hj => ?_⟩
  by_cases e : j = i
  · rw [e, rs_us] at hj; exact absurd rfl hj
  · rw [rs_un e] at hj
    rw [rs_uLn e, rs_uLn e, rs_un e]; exact R.2 j hj
end
section
/-- the two objects: one array of counts, and times and tags that agree where a slot is in use -/
def i_Rel (_ : Nat) (u : SX) (v : SY) : Prop := ∃ (t : Nat → Int64) (g c : Nat → Int32) (t' : Nat → Int64) (g' : Nat → Int32), u = (t, g, c) ∧ v = (t', g', c) ∧ rs_R t g c t' g'
theorem i_up {k : Nat} {u : SX} {v : SY} (h : i_Rel k u v) : i_Rel (k + 4) u v := h
theorem i_vc0 : wpX_init (fun u => wpY_init (fun v => i_Rel 0 u v)) := ⟨_, _, _, _, _, rfl, rfl, rs_R0⟩
theorem i_vc_sent {k : Nat} {u : SX} {v : SY} (I : i_Rel k u v) (hk : k + 4 ≤ 2048) (v1 : Int32) (a1 : Int64) : wpX_sent (fun r u' => wpY_sent (fun r' v' => r' = r ∧ i_Rel (k + 4) u' v') v v1 a1) u v1 a1 := by
  obtain ⟨t, g, c, t', g', rfl, rfl, R⟩ := I
  have hx := rs_in v1
  unfold wpX_sent wpY_sent
  dsimp only
  rw [rs_ch]
  by_cases hc : c (v1 &&& 7).toNatClampNeg = 0
  · exact nm_e (nm_e ⟨hx, br_t hc ⟨hx, nm_e ⟨hx, nm_e ⟨hx, nm_e (nm_e ⟨hx, br_t hc ⟨hx, nm_e ⟨hx, nm_r (rs_uc (rs_vc v1)) ⟨hx, nm_r (rs_uc rs_b1) ⟨rfl, _, _, _, _, _, rfl, rfl, rs_fill R _ _ _⟩⟩⟩⟩⟩)⟩⟩⟩⟩)
  · have ⟨et, eg⟩ := R.2 _ hc
    by_cases hg : g (v1 &&& 7).toNatClampNeg = v1 &&& 65535
    · have hg' : g' (v1 &&& 7).toNatClampNeg = v1 &&& 65535 := eg.trans hg
      have ⟨b0, b1⟩ := R.1 (v1 &&& 7).toNatClampNeg
      by_cases hm : 127 ≤ c (v1 &&& 7).toNatClampNeg
      · have e := rs_top b1 hm
        exact nm_e (nm_e ⟨hx, br_f hc ⟨hx, br_t hg ⟨hx, br_t hm ⟨hx, nm_e ⟨hx, br_f hc ⟨hx, br_t hg' ⟨hx, br_t e ⟨e.symm, _, _, _, _, _, rfl, rfl, R⟩⟩⟩⟩⟩⟩⟩⟩)
      · have ⟨e, l⟩ := rs_inc b0 hm
        exact nm_e (nm_e ⟨hx, br_f hc ⟨hx, br_t hg ⟨hx, br_f hm ⟨hx, hx, nm_e ⟨hx, nm_e ⟨hx, br_f hc ⟨hx, br_t hg' ⟨hx, br_f (rs_ntop hm) ⟨hx, hx, nm_r (rs_uc (rs_vb b0 hm)) ⟨(rs_b b0 hm).trans rs_us.symm, _, _, _, _, _, rfl, rfl, rs_more R hc ⟨by omega, by omega⟩⟩⟩⟩⟩⟩⟩⟩⟩⟩⟩)
    · have hg' : ¬ g' (v1 &&& 7).toNatClampNeg = v1 &&& 65535 := fun z => hg (eg.symm.trans z)
      exact nm_e (nm_e ⟨hx, br_f hc ⟨hx, br_f hg (nm_e ⟨hx, br_f hc ⟨hx, br_f hg' ⟨rfl, _, _, _, _, _, rfl, rfl, R⟩⟩⟩)⟩⟩)
theorem i_vc_acked {k : Nat} {u : SX} {v : SY} (I : i_Rel k u v) (hk : k + 4 ≤ 2048) (v1 : Int32) (a1 : Int64) : wpX_acked (fun r u' => wpY_acked (fun r' v' => r' = r ∧ i_Rel (k + 4) u' v') v v1 a1) u v1 a1 := by
  obtain ⟨t, g, c, t', g', rfl, rfl, R⟩ := I
  have hx := rs_in v1
  unfold wpX_acked wpY_acked
  dsimp only
  rw [rs_ch]
  by_cases hc : c (v1 &&& 7).toNatClampNeg = 0
  · exact nm_e (nm_e ⟨hx, br_t hc (nm_e ⟨hx, br_t hc ⟨rfl, _, _, _, _, _, rfl, rfl, R⟩⟩)⟩)
  · have ⟨et, eg⟩ := R.2 _ hc
    by_cases hg : g (v1 &&& 7).toNatClampNeg = v1 &&& 65535
    · have hg' : g' (v1 &&& 7).toNatClampNeg = v1 &&& 65535 := eg.trans hg
      have es : a1 - t' (v1 &&& 7).toNatClampNeg = a1 - t (v1 &&& 7).toNatClampNeg := congrArg (fun y : Int64 => a1 - y) et
      refine nm_e (nm_e ⟨hx, br_f hc ⟨hx, br_t hg ⟨hx, nm_e ⟨hx, nm_e ⟨hx, nm_e ⟨hx, nm_e ⟨hx, nm_e ?_⟩⟩⟩⟩⟩⟩⟩)
      by_cases h1 : c (v1 &&& 7).toNatClampNeg ≤ 1
      · refine br_t h1 (nm_e ?_)
        by_cases h2 : 0 ≤ a1 - t (v1 &&& 7).toNatClampNeg
        · by_cases h3 : a1 - t (v1 &&& 7).toNatClampNeg ≤ 2147483647
          · exact br_t h2 (br_t h3 (nm_e ⟨hx, br_f hc ⟨hx, br_t hg' ⟨hx, nm_e ⟨hx, nm_r (rs_uc rs_b0) ⟨hx, hx, nm_e (nm_r es (br_t h1 (br_t h2 (br_t h3 ⟨rfl, _, _, _, _, _, rfl, rfl, rs_free R _ _ _ _⟩))))⟩⟩⟩⟩⟩))
          · exact br_t h2 (br_f h3 (nm_e ⟨hx, br_f hc ⟨hx, br_t hg' ⟨hx, nm_e ⟨hx, nm_r (rs_uc rs_b0) ⟨hx, hx, nm_e (nm_r es (br_t h1 (br_t h2 (br_f h3 ⟨rfl, _, _, _, _, _, rfl, rfl, rs_free R _ _ _ _⟩))))⟩⟩⟩⟩⟩))
        · exact br_f h2 (nm_e ⟨hx, br_f hc ⟨hx, br_t hg' ⟨hx, nm_e ⟨hx, nm_r (rs_uc rs_b0) ⟨hx, hx, nm_e (nm_r es (br_t h1 (br_f h2 ⟨rfl, _, _, _, _, _, rfl, rfl, rs_free R _ _ _ _⟩)))⟩⟩⟩⟩⟩)
      · exact br_f h1 (nm_e ⟨hx, br_f hc ⟨hx, br_t hg' ⟨hx, nm_e ⟨hx, nm_r (rs_uc rs_b0) ⟨hx, hx, nm_e (nm_e (br_f h1 ⟨rfl, _, _, _, _, _, rfl, rfl, rs_free R _ _ _ _⟩))⟩⟩⟩⟩⟩)
    · have hg' : ¬ g' (v1 &&& 7).toNatClampNeg = v1 &&& 65535 := fun z => hg (eg.symm.trans z)
      exact nm_e (nm_e ⟨hx, br_f hc ⟨hx, br_f hg (nm_e ⟨hx, br_f hc ⟨hx, br_f hg' ⟨rfl, _, _, _, _, _, rfl, rfl, R⟩⟩⟩)⟩⟩)
/-- both scans over the same counts give one number -/
theorem rs_scan (t t' : Nat → Int64) (g g' c : Nat → Int32) : ∀ (d j : Nat) (q : Int32), j + d = 8 → ∃ r : Int32, (∀ post : Int32 → Prop, post r → wX_inFlight_4 post t g c (d + 1) q (nI j)) ∧ (∀ post : Int32 → Prop, post r → wY_inFlight_4 post t' g' c (d + 1) q (nI j)) := by
  intro d
  induction d with
  | zero =>
    intro j q hj
    have h : (8 : Int32) ≤ nI j := by rw [← rs_8]; exact nI_le (by omega) (by omega)
    exact ⟨q, fun _ hp => br_t h hp, fun _ hp => br_t h hp⟩
  | succ d ih =>
    intro j q hj
    have h : ¬ (8 : Int32) ≤ nI j := by rw [← rs_8]; exact nI_ge (by omega) (by omega)
    have hi : vp_in (nI j) 8 := vp_in_nI (by omega) (by omega)
    by_cases z : c (nI j).toNatClampNeg = 0
    · obtain ⟨r, hX, hY⟩ := ih (j + 1) q (by omega)
      exact ⟨r, fun post hp => br_f h ⟨hi, br_t z (nm_r (nI_1 j) (hX post hp))⟩, fun post hp => br_f h ⟨hi, br_t z (nm_r (nI_1 j) (hY post hp))⟩⟩
    · obtain ⟨r, hX, hY⟩ := ih (j + 1) (q + 1) (by omega)
      exact ⟨r, fun post hp => br_f h ⟨hi, br_f z (nm_e (nm_r (nI_1 j) (hX post hp)))⟩, fun post hp => br_f h ⟨hi, br_f z (nm_e (nm_r (nI_1 j) (hY post hp)))⟩⟩
theorem i_vc_inFlight {k : Nat} {u : SX} {v : SY} (I : i_Rel k u v) (hk : k + 4 ≤ 2048) : wpX_inFlight (fun r => wpY_inFlight (fun r' => r' = r ∧ i_Rel (k + 4) u v) v) u := by
  obtain ⟨t, g, c, t', g', rfl, rfl, R⟩ := I
  obtain ⟨r, hX, hY⟩ := rs_scan t t' g g' c 8 0 0 rfl
  rw [nI_0] at hX hY
  exact ⟨_, hX _ ⟨_, hY _ ⟨rfl, _, _, _, _, _, rfl, rfl, R⟩⟩⟩
theorem i_vc_sentAt {k : Nat} {u : SX} {v : SY} (I : i_Rel k u v) (hk : k + 4 ≤ 2048) (v1 : Int32) : wpX_sentAt (fun r => wpY_sentAt (fun r' => r' = r ∧ i_Rel (k + 4) u v) v v1) u v1 := by
  obtain ⟨t, g, c, t', g', rfl, rfl, R⟩ := I
  have hx := rs_in v1
  unfold wpX_sentAt wpY_sentAt
  dsimp only
  rw [rs_ch]
  by_cases hc : c (v1 &&& 7).toNatClampNeg = 0
  · exact nm_e (nm_e ⟨hx, br_t hc (nm_e ⟨hx, br_t hc ⟨rfl, _, _, _, _, _, rfl, rfl, R⟩⟩)⟩)
  · have ⟨et, eg⟩ := R.2 _ hc
    by_cases hg : g (v1 &&& 7).toNatClampNeg = v1 &&& 65535
    · have hg' : g' (v1 &&& 7).toNatClampNeg = v1 &&& 65535 := eg.trans hg
      exact nm_e (nm_e ⟨hx, br_f hc ⟨hx, br_t hg ⟨hx, nm_e ⟨hx, br_f hc ⟨hx, br_t hg' ⟨hx, et, _, _, _, _, _, rfl, rfl, R⟩⟩⟩⟩⟩⟩)
    · have hg' : ¬ g' (v1 &&& 7).toNatClampNeg = v1 &&& 65535 := fun z => hg (eg.symm.trans z)
      exact nm_e (nm_e ⟨hx, br_f hc ⟨hx, br_f hg (nm_e ⟨hx, br_f hc ⟨hx, br_f hg' ⟨rfl, _, _, _, _, _, rfl, rfl, R⟩⟩⟩)⟩⟩)
end
