section
theorem ts_bit {w : Int64} {s : UInt64} {j : Nat} (hj : j < 64) (hs : s.toNat = j) : ((w.toUInt64 >>> s).toInt64 &&& 1) = 0 ↔ w.toBitVec.getLsbD j = false := by
  have e : (w.toUInt64 >>> s).toInt64.toBitVec = w.toBitVec >>> j := by
    apply BitVec.eq_of_toNat_eq
    show (w.toUInt64 >>> s).toNat = _
    rw [UInt64.toNat_shiftRight, hs, Nat.mod_eq_of_lt hj, BitVec.toNat_ushiftRight]
    rfl
  rw [← Int64.toBitVec_inj, Int64.toBitVec_and, e]
  show w.toBitVec >>> j &&& 1#64 = 0#64 ↔ _
  constructor
  · intro h
    have t := congrArg (fun x => x.getLsbD 0) h
    simpa using t
  · intro h
    apply BitVec.eq_of_getLsbD_eq
    intro i hi
    cases i with
    | zero => simp [h]
    | succ i => simp
theorem wb_tb (n : Nat) : (lN n).toBitVec = BitVec.ofNat 64 n := rfl
theorem wb_inj {a b : Int64} (h : a.toBitVec = b.toBitVec) : a = b := Int64.toBitVec_inj.mp h
theorem wb_c : ∀ k, k < 64 → ((nI k).toInt64 &&& 63) = lN k := by decide +kernel
theorem wb_cu : ∀ k, k < 64 → ((nI k).toInt64.toUInt64 &&& Int64.toUInt64 63) = UInt64.ofNat k := by decide +kernel
theorem wb_sm : ∀ k, k < 64 → (BitVec.ofNat 64 k).smod 64 = BitVec.ofNat 64 k := by decide +kernel
theorem u_tn {n : Nat} (h : n < 2 ^ 64) : (UInt64.ofNat n).toNat = n := Nat.mod_eq_of_lt h

/-- shifts by a small count, as shifts of the bit vector -/
theorem dl_shl (x : Int64) {k : Nat} (hk : k < 64) : (x <<< ((nI k).toInt64 &&& 63)).toBitVec = x.toBitVec <<< k := by
  rw [wb_c k hk, Int64.toBitVec_shiftLeft, wb_tb, wb_sm k hk]
  rw [BitVec.shiftLeft_eq', BitVec.toNat_ofNat, Nat.mod_eq_of_lt (show k < 2 ^ 64 by omega)]
theorem dl_ushr (x : Int64) {k : Nat} (hk : k < 64) : ((x.toUInt64 >>> ((nI k).toInt64.toUInt64 &&& Int64.toUInt64 63)).toInt64).toBitVec = x.toBitVec >>> k := by
  rw [wb_cu k hk]
  apply BitVec.eq_of_toNat_eq
  show (x.toUInt64 >>> UInt64.ofNat k).toNat = _
  have h1 : (UInt64.ofNat k).toNat = k := by
    show (BitVec.ofNat 64 k).toNat = k
    rw [BitVec.toNat_ofNat, Nat.mod_eq_of_lt (by omega)]
  rw [UInt64.toNat_shiftRight, h1, Nat.mod_eq_of_lt hk, BitVec.toNat_ushiftRight]
  rfl
theorem dl_m1 : (-1 : Int64).toBitVec = BitVec.allOnes 64 := by decide
theorem dl_bit (w : Int64) {j : Nat} (hj : j < 64) : ((w.toUInt64 >>> ((nI j).toInt64.toUInt64 &&& Int64.toUInt64 63)).toInt64 &&& 1) = 0 ↔ w.toBitVec.getLsbD j = false :=
  ts_bit hj (by rw [wb_cu j hj]; exact u_tn (by omega))
/-- the word whose rows a .. b are dirty, as the reference makes it -/
def dl_M (a b : Nat) : Int64 := ⟨⟨(BitVec.allOnes 64 >>> (63 - (b - a))) <<< a⟩⟩
theorem dl_Mb (a b : Nat) : (dl_M a b).toBitVec = (BitVec.allOnes 64 >>> (63 - (b - a))) <<< a := rfl
theorem dl_Mg {a b i : Nat} (h : a ≤ b) (hb : b < 64) (hi : i < 64) : (dl_M a b).toBitVec.getLsbD i = (decide (a ≤ i) && decide (i ≤ b)) := by
  rw [dl_Mb, BitVec.getLsbD_shiftLeft, BitVec.getLsbD_ushiftRight, BitVec.getLsbD_allOnes, Bool.eq_iff_iff]
  simp only [Bool.and_eq_true, Bool.not_eq_true', decide_eq_true_eq, decide_eq_false_iff_not]
  omega
theorem dl_s63 : ∀ b, b < 64 → (63 : Int32) - nI b = nI (63 - b) := by decide +kernel
theorem dl_s64 : ∀ b, b < 64 → (64 : Int32) - nI b = nI (64 - b) := by decide +kernel
theorem dl_sub {a b : Nat} (h : a ≤ b) : nI b - nI a = nI (b - a) := by
  obtain ⟨d, rfl⟩ : ∃ d, b = d + a := ⟨b - a, by omega⟩
  rw [← nI_add, Nat.add_sub_cancel, Int32.add_sub_cancel]
theorem dl_xM {a b : Nat} (h : a ≤ b) (hb : b < 64) : ((-1 : Int64) <<< ((nI a).toInt64 &&& 63)) &&& ((-1 : Int64).toUInt64 >>> ((63 - nI b).toInt64.toUInt64 &&& Int64.toUInt64 63)).toInt64 = dl_M a b := by
  rw [dl_s63 b hb]
  apply wb_inj
  apply BitVec.eq_of_getLsbD_eq
  intro i hi
  rw [dl_Mg h hb hi, Int64.toBitVec_and, dl_shl _ (by omega), dl_ushr _ (by omega), dl_m1, BitVec.getLsbD_and, BitVec.getLsbD_shiftLeft, BitVec.getLsbD_ushiftRight, BitVec.getLsbD_allOnes, BitVec.getLsbD_allOnes, Bool.eq_iff_iff]
  simp only [Bool.and_eq_true, Bool.not_eq_true', decide_eq_true_eq, decide_eq_false_iff_not]
  omega
theorem dl_yM {a b : Nat} (h : a ≤ b) (hb : b < 64) : (((-1 : Int64).toUInt64 >>> ((63 - (nI b - nI a)).toInt64.toUInt64 &&& Int64.toUInt64 63)).toInt64) <<< ((nI a).toInt64 &&& 63) = dl_M a b := by
  rw [dl_sub h, dl_s63 (b - a) (by omega)]
  apply wb_inj
  rw [dl_shl _ (by omega), dl_ushr _ (by omega), dl_m1, dl_Mb]
/-- the rows that a scroll brings in: below (n of them), above (k of them) -/
theorem dl_low {n : Nat} (h0 : 0 < n) (hn : n < 64) : ((-1 : Int64).toUInt64 >>> ((64 - nI n).toInt64.toUInt64 &&& Int64.toUInt64 63)).toInt64 = dl_M 0 (n - 1) := by
  rw [dl_s64 n hn]
  apply wb_inj
  apply BitVec.eq_of_getLsbD_eq
  intro i hi
  rw [dl_Mg (by omega) (by omega) hi, dl_ushr _ (by omega), dl_m1, BitVec.getLsbD_ushiftRight, BitVec.getLsbD_allOnes, Bool.eq_iff_iff]
  simp only [Bool.and_eq_true, decide_eq_true_eq]
  omega
theorem dl_high {k : Nat} (h0 : 0 < k) (hk : k < 64) : (-1 : Int64) <<< ((64 - nI k).toInt64 &&& 63) = dl_M (64 - k) 63 := by
  rw [dl_s64 k hk]
  apply wb_inj
  apply BitVec.eq_of_getLsbD_eq
  intro i hi
  rw [dl_Mg (by omega) (by omega) hi, dl_shl _ (by omega), dl_m1, BitVec.getLsbD_shiftLeft, BitVec.getLsbD_allOnes, Bool.eq_iff_iff]
  simp only [Bool.and_eq_true, Bool.not_eq_true', decide_eq_true_eq, decide_eq_false_iff_not]
  omega
theorem dl_zero {w : Int64} (h : ∀ i, i < 64 → w.toBitVec.getLsbD i = false) : w = 0 := by
  apply wb_inj
  apply BitVec.eq_of_getLsbD_eq
  intro i hi
  rw [h i hi]
  show false = (0#64).getLsbD i
  rw [BitVec.getLsbD_zero]
theorem dl_0bit (i : Nat) : (0 : Int64).toBitVec.getLsbD i = false := by
  show (0#64).getLsbD i = false
  rw [BitVec.getLsbD_zero]
theorem dl_negI : ∀ k, k < 64 → (-nI k).toInt = -(k : Int) := by decide +kernel
theorem dl_nn : ∀ k, k < 64 → - -nI k = nI k := by decide +kernel
theorem dl_64n : ∀ k, k < 64 → 64 + -nI k = nI (64 - k) := by decide +kernel
theorem dl_neg {x : Int32} (h1 : (-64) < x) (h2 : x ≤ 0) (h0 : ¬ x = 0) : ∃ k, 0 < k ∧ k < 64 ∧ x = -nI k := by
  rw [Int32.lt_iff_toInt_lt] at h1
  rw [Int32.le_iff_toInt_le] at h2
  rw [← Int32.toInt_inj] at h0
  have e1 : (-64 : Int32).toInt = -64 := by decide
  have e2 : (0 : Int32).toInt = 0 := by decide
  rw [e1] at h1
  rw [e2] at h2 h0
  refine ⟨(-x.toInt).toNat, by omega, by omega, ?_⟩
  apply Int32.toInt_inj.mp
  rw [dl_negI _ (by omega)]
  omega
theorem dl_pos {x : Int32} (h1 : ¬ 64 ≤ x) (h2 : ¬ x ≤ 0) : ∃ k, 0 < k ∧ k < 64 ∧ x = nI k := by
  obtain ⟨j, hj, rfl⟩ := nI_of (x := x) (fun h => h2 (Int32.le_of_lt h))
  have a1 : ¬ 64 ≤ j := fun h => h1 ((nI_leI (a := 64) (by omega) hj).mpr h)
  have a2 : ¬ j ≤ 0 := fun h => h2 ((nI_leI (b := 0) hj (by omega)).mpr h)
  exact ⟨j, by omega, by omega, rfl⟩
end
section
/-- both objects hold the same word -/
def i_Rel (_ : Nat) (u : SX) (v : SY) : Prop := u = v
theorem i_up {k : Nat} {u : SX} {v : SY} (h : i_Rel k u v) : i_Rel (k + 3) u v := h
theorem i_vc0 : wpX_init (fun u => wpY_init (fun v => i_Rel 0 u v)) := rfl
/-- damage behind the clamps -/
theorem dl_yin {post : Int64 → SY → Prop} {f : Int64} {a b : Nat} (h : a ≤ b) (hb : b < 64) (hp : post (f ||| dl_M a b) (f ||| dl_M a b)) : wY_damage_22 post (nI a) (nI b) f :=
  br_t (nI_le h (by omega)) (fun x5 e5 m em => by rw [em, e5, dl_yM h hb]; exact hp)
theorem dl_xin {post : Int64 → SX → Prop} {f : Int64} {a b : Nat} (h : a ≤ b) (hb : b < 64) (hp : post (f ||| dl_M a b) (f ||| dl_M a b)) : wX_damage_21 post (nI a) (nI b) f :=
  br_t (nI_le h (by omega)) (fun x5 e5 x7 e7 m em => by rw [em, e5, e7, dl_xM h hb]; exact hp)
theorem dl_in (f : Int64) (lo hi : Int32) (h0 : 0 ≤ lo) (h63 : hi ≤ 63) : ∃ r : Int64, (∀ post : Int64 → SX → Prop, post r r → wX_damage_21 post lo hi f) ∧ (∀ post : Int64 → SY → Prop, post r r → wY_damage_22 post lo hi f) := by
  by_cases h : lo ≤ hi
  · obtain ⟨a, ha, rfl⟩ := nI_of (x := lo) (Int32.not_lt.mpr h0)
    obtain ⟨b, hb, rfl⟩ := nI_of (x := hi) (Int32.not_lt.mpr (Int32.le_trans h0 h))
    have hab : a ≤ b := (nI_leI ha hb).mp h
    have hb6 : b ≤ 63 := (nI_leI (b := 63) hb (by omega)).mp h63
    exact ⟨f ||| dl_M a b, fun post hp => dl_xin hab (by omega) hp, fun post hp => dl_yin hab (by omega) hp⟩
  · exact ⟨f, fun post hp => br_f h hp, fun post hp => br_f h hp⟩
theorem dl_dmg (f : Int64) (p q : Int32) : ∃ r : Int64, (∀ post : Int64 → SX → Prop, post r r → wpX_damage post f p q) ∧ (∀ post : Int64 → SY → Prop, post r r → wpY_damage post f p q) := by
  by_cases h0 : 0 ≤ p
  · by_cases h6 : q ≤ 63
    · obtain ⟨r, hX, hY⟩ := dl_in f p q h0 h6
      exact ⟨r, fun post hp => br_t h0 (br_t h6 (hX post hp)), fun post hp => br_t h0 (br_t h6 (hY post hp))⟩
    · obtain ⟨r, hX, hY⟩ := dl_in f p 63 h0 (Int32.le_refl 63)
      exact ⟨r, fun post hp => br_t h0 (br_f h6 (hX post hp)), fun post hp => br_t h0 (br_f h6 (hY post hp))⟩
  · by_cases h6 : q ≤ 63
    · obtain ⟨r, hX, hY⟩ := dl_in f 0 q (Int32.le_refl 0) h6
      exact ⟨r, fun post hp => br_f h0 (br_t h6 (hX post hp)), fun post hp => br_f h0 (br_t h6 (hY post hp))⟩
    · obtain ⟨r, hX, hY⟩ := dl_in f 0 63 (Int32.le_refl 0) (Int32.le_refl 63)
      exact ⟨r, fun post hp => br_f h0 (br_f h6 (hX post hp)), fun post hp => br_f h0 (br_f h6 (hY post hp))⟩
theorem dl_yd {post : Int64 → SY → Prop} {f : Int64} {a b : Nat} {x y : Int32} (h : a ≤ b) (hb : b < 64) (hx : x = nI a) (hy : y = nI b) (hp : post (f ||| dl_M a b) (f ||| dl_M a b)) : wpY_damage post f x y := by
  subst hx hy
  have h0 : (0 : Int32) ≤ nI a := nI_pos' (by omega)
  have h6 : nI b ≤ 63 := nI_le (b := 63) (by omega) (by omega)
  exact br_t h0 (br_t h6 (dl_yin h hb hp))
theorem i_vc_damage {k : Nat} {u : SX} {v : SY} (I : i_Rel k u v) (hk : k + 3 ≤ 1536) (v1 : Int32) (v2 : Int32) : wpX_damage (fun r u' => wpY_damage (fun r' v' => r' = r ∧ i_Rel (k + 3) u' v') v v1 v2) u v1 v2 := by
  cases I
  obtain ⟨r, hX, hY⟩ := dl_dmg u v1 v2
  exact hX _ (hY _ ⟨rfl, rfl⟩)
/-- a scroll: one answer and one word for both -/
theorem dl_scr (f : Int64) (p : Int32) : ∃ (r : Int32) (w : Int64), (∀ post : Int32 → SX → Prop, post r w → wpX_scrollBy post f p) ∧ (∀ post : Int32 → SY → Prop, post r w → wpY_scrollBy post f p) := by
  by_cases h0 : p = 0
  · exact ⟨0, f, fun post hp => br_t h0 hp, fun post hp => br_t h0 hp⟩
  by_cases h6 : 64 ≤ p
  · exact ⟨64, -1, fun post hp => br_f h0 (br_t h6 hp), fun post hp => br_f h0 (br_t h6 hp)⟩
  by_cases hm : (-64) < p
  · by_cases hz : p ≤ 0
    · obtain ⟨k, k0, k6, rfl⟩ := dl_neg hm hz h0
      refine ⟨nI k, ((f.toUInt64 >>> ((nI k).toInt64.toUInt64 &&& Int64.toUInt64 63)).toInt64) ||| dl_M (64 - k) 63, fun post hp => br_f h0 (br_f h6 (br_t hm (br_t hz ?_))), fun post hp => br_f h0 (br_f h6 (br_t hm (br_t hz ?_)))⟩
      · intro x ex m em
        rw [em, ex, dl_nn k k6, dl_high k0 k6]
        exact hp
      · intro m em
        refine dl_yd (a := 64 - k) (b := 63) (by omega) (by omega) (dl_64n k k6) rfl ?_
        rw [em, dl_nn k k6]
        exact hp
    · obtain ⟨k, k0, k6, rfl⟩ := dl_pos h6 hz
      refine ⟨nI k, (f <<< ((nI k).toInt64 &&& 63)) ||| dl_M 0 (k - 1), fun post hp => br_f h0 (br_f h6 (br_t hm (br_f hz ?_))), fun post hp => br_f h0 (br_f h6 (br_t hm (br_f hz ?_)))⟩
      · intro m em
        rw [em, dl_low k0 k6]
        exact hp
      · intro m em
        refine dl_yd (a := 0) (b := k - 1) (by omega) (by omega) nI_0.symm (dl_sub (a := 1) k0) ?_
        rw [em]
        exact hp
  · exact ⟨64, -1, fun post hp => br_f h0 (br_f h6 (br_f hm hp)), fun post hp => br_f h0 (br_f h6 (br_f hm hp))⟩
theorem i_vc_scrollBy {k : Nat} {u : SX} {v : SY} (I : i_Rel k u v) (hk : k + 3 ≤ 1536) (v1 : Int32) : wpX_scrollBy (fun r u' => wpY_scrollBy (fun r' v' => r' = r ∧ i_Rel (k + 3) u' v') v v1) u v1 := by
  cases I
  obtain ⟨r, w, hX, hY⟩ := dl_scr u v1
  exact hX _ (hY _ ⟨rfl, rfl⟩)
/-- the scan for the first dirty row of a word that has one -/
theorem dl_tk (w : Int64) (hw : ¬ w = 0) : ∀ d j : Nat, j + d = 63 → (∀ i, i < j → w.toBitVec.getLsbD i = false) → ∃ (r : Int32) (m : Int64), (∀ post : Int32 → SX → Prop, post r m → wX_takeNext_13 post w (d + 1) (nI j)) ∧ (∀ post : Int32 → SY → Prop, post r m → wY_takeNext_2 post w (d + 1) (nI j)) := by
  intro d
  induction d with
  | zero =>
    intro j hj hl
    have h3 : (63 : Int32) ≤ nI j := nI_le (a := 63) (by omega) (by omega)
    have h4 : ¬ (64 : Int32) ≤ nI j := nI_ge (b := 64) (by omega) (by omega)
    have hb : ¬ ((w.toUInt64 >>> ((nI j).toInt64.toUInt64 &&& Int64.toUInt64 63)).toInt64 &&& 1) = 0 := by
      rw [dl_bit w (by omega)]
      intro z
      refine hw (dl_zero (fun i hi => ?_))
      by_cases e : i < j
      · exact hl i e
      · have e2 : i = j := by omega
        rw [e2]; exact z
    exact ⟨nI j, w &&& (((1 : Int64) <<< ((nI j).toInt64 &&& 63)) ^^^ (-1)), fun post hp => br_t h3 (nm_e hp), fun post hp => br_f h4 (br_f hb (nm_e hp))⟩
  | succ d ih =>
    intro j hj hl
    have h3 : ¬ (63 : Int32) ≤ nI j := nI_ge (b := 63) (by omega) (by omega)
    have h4 : ¬ (64 : Int32) ≤ nI j := nI_ge (b := 64) (by omega) (by omega)
    by_cases z : ((w.toUInt64 >>> ((nI j).toInt64.toUInt64 &&& Int64.toUInt64 63)).toInt64 &&& 1) = 0
    · have zj := (dl_bit w (by omega)).mp z
      obtain ⟨r, m, hX, hY⟩ := ih (j + 1) (by omega) (fun i hi => by
        by_cases e : i < j
        · exact hl i e
        · have e2 : i = j := by omega
          rw [e2]; exact zj)
      refine ⟨r, m, fun post hp => br_f h3 (br_t z fun y ey => ?_), fun post hp => br_f h4 (br_t z fun y ey => ?_)⟩
      · rw [ey, nI_1]; exact hX post hp
      · rw [ey, nI_1]; exact hY post hp
    · exact ⟨nI j, w &&& (((1 : Int64) <<< ((nI j).toInt64 &&& 63)) ^^^ (-1)), fun post hp => br_f h3 (br_f z (nm_e hp)), fun post hp => br_f h4 (br_f z (nm_e hp))⟩
/-- the reference's scan of the empty word -/
theorem dl_tk0 {post : Int32 → SY → Prop} (hp : post (-1) 0) : ∀ d j : Nat, j + d = 64 → wY_takeNext_2 post 0 (d + 1) (nI j) := by
  intro d
  induction d with
  | zero =>
    intro j hj
    have h4 : (64 : Int32) ≤ nI j := nI_le (a := 64) (by omega) (by omega)
    exact br_t h4 hp
  | succ d ih =>
    intro j hj
    have h4 : ¬ (64 : Int32) ≤ nI j := nI_ge (b := 64) (by omega) (by omega)
    have z := (dl_bit 0 (j := j) (by omega)).mpr (dl_0bit j)
    refine br_f h4 (br_t z fun y ey => ?_)
    rw [ey, nI_1]
    exact ih (j + 1) (by omega)
theorem i_vc_takeNext {k : Nat} {u : SX} {v : SY} (I : i_Rel k u v) (hk : k + 3 ≤ 1536) : wpX_takeNext (fun r u' => wpY_takeNext (fun r' v' => r' = r ∧ i_Rel (k + 3) u' v') v) u := by
  cases I
  by_cases h : u = 0
  · refine br_t h ?_
    subst h
    exact ⟨65, dl_tk0 ⟨rfl, rfl⟩ 64 0 rfl⟩
  · obtain ⟨r, m, hX, hY⟩ := dl_tk u h 63 0 rfl (fun i hi => absurd hi (Nat.not_lt_zero i))
    exact br_f h ⟨64, hX _ ⟨64, hY _ ⟨rfl, rfl⟩⟩⟩
/-- the count -/
theorem dl_pd (w : Int64) : ∀ (d j : Nat) (c : Int32), j + d = 64 → ∃ r : Int32, (∀ post : Int32 → Prop, post r → wX_pending_4 post w (d + 1) c (nI j)) ∧ (∀ post : Int32 → Prop, post r → wY_pending_4 post w (d + 1) c (nI j)) := by
  intro d
  induction d with
  | zero =>
    intro j c hj
    have h4 : (64 : Int32) ≤ nI j := nI_le (a := 64) (by omega) (by omega)
    exact ⟨c, fun _ hp => br_t h4 hp, fun _ hp => br_t h4 hp⟩
  | succ d ih =>
    intro j c hj
    have h4 : ¬ (64 : Int32) ≤ nI j := nI_ge (b := 64) (by omega) (by omega)
    by_cases z : ((w.toUInt64 >>> ((nI j).toInt64.toUInt64 &&& Int64.toUInt64 63)).toInt64 &&& 1) = 0
    · obtain ⟨r, hX, hY⟩ := ih (j + 1) c (by omega)
      refine ⟨r, fun post hp => br_f h4 (br_t z fun y ey => ?_), fun post hp => br_f h4 (br_t z fun y ey => ?_)⟩
      · rw [ey, nI_1]; exact hX post hp
      · rw [ey, nI_1]; exact hY post hp
    · obtain ⟨r, hX, hY⟩ := ih (j + 1) (c + 1) (by omega)
      refine ⟨r, fun post hp => br_f h4 (br_f z fun x ex y ey => ?_), fun post hp => br_f h4 (br_f z fun x ex y ey => ?_)⟩
      · rw [ey, ex, nI_1]; exact hX post hp
      · rw [ey, ex, nI_1]; exact hY post hp
theorem i_vc_pending {k : Nat} {u : SX} {v : SY} (I : i_Rel k u v) (hk : k + 3 ≤ 1536) : wpX_pending (fun r => wpY_pending (fun r' => r' = r ∧ i_Rel (k + 3) u v) v) u := by
  cases I
  obtain ⟨r, hX, hY⟩ := dl_pd u 64 0 0 rfl
  exact ⟨65, hX _ ⟨65, hY _ ⟨rfl, rfl⟩⟩⟩
theorem i_vc_bits {k : Nat} {u : SX} {v : SY} (I : i_Rel k u v) (hk : k + 3 ≤ 1536) : wpX_bits (fun r => wpY_bits (fun r' => r' = r ∧ i_Rel (k + 3) u v) v) u := by
  cases I
  exact ⟨rfl, rfl⟩
end
