section
/-! PART 1: one row's two-bit fields, in plain ints. Field j of a row w is the number of its bits 2j and 2j + 1 -/
/-- the field as the component reads it -/
def pm_gt (w : Int64) (p : Int32) : Int32 := (((w.toUInt64 >>> ((p * 2).toInt64.toUInt64 &&& Int64.toUInt64 63)).toInt64) &&& 3).toInt32
/-- the row with field p set to r, as the component writes it -/
def pm_pt (w : Int64) (p r : Int32) : Int64 := (w &&& (((3 : Int64) <<< ((p * 2).toInt64 &&& 63)) ^^^ (-1))) ||| (r.toInt64 <<< ((p * 2).toInt64 &&& 63))
theorem pm_cu : ∀ j, j < 32 → (((nI j * 2).toInt64.toUInt64 &&& Int64.toUInt64 63).toBitVec % 64).toNat = 2 * j := by decide +kernel
theorem pm_cl : ∀ j, j < 32 → (((nI j * 2).toInt64 &&& 63).toBitVec.smod 64).toNat = 2 * j := by decide +kernel
theorem pm_b3 : ∀ i, i < 64 → 2 ≤ i → (3 : Int64).toBitVec.getLsbD i = false := by decide +kernel
theorem pm_b3t : ∀ i, i < 2 → (3 : Int64).toBitVec.getLsbD i = true := by decide +kernel
theorem pm_bm : ∀ i, i < 64 → (-1 : Int64).toBitVec.getLsbD i = true := by decide +kernel
theorem pm_r1 : ∀ i, i < 64 → 2 ≤ i → (1 : Int32).toInt64.toBitVec.getLsbD i = false := by decide +kernel
theorem pm_r2 : ∀ i, i < 64 → 2 ≤ i → (2 : Int32).toInt64.toBitVec.getLsbD i = false := by decide +kernel
theorem pm_r3 : ∀ i, i < 64 → 2 ≤ i → (3 : Int32).toInt64.toBitVec.getLsbD i = false := by decide +kernel
theorem pm_g0 : ∀ j, j < 32 → pm_gt 0 (nI j) = 0 := by decide +kernel
/-- a relation is 1, 2 or 3 -/
def pm_ok (r : Int32) : Prop := r = 1 ∨ r = 2 ∨ r = 3
theorem pm_rel {x : Int32} (h1 : ¬ x < 1) (h3 : x ≤ 3) : pm_ok x := by
  have e1 : (1 : Int32).toInt = 1 := by decide
  have e2 : (2 : Int32).toInt = 2 := by decide
  have e3 : (3 : Int32).toInt = 3 := by decide
  rw [Int32.lt_iff_toInt_lt, e1] at h1
  rw [Int32.le_iff_toInt_le, e3] at h3
  have h : x.toInt = 1 ∨ x.toInt = 2 ∨ x.toInt = 3 := by omega
  rcases h with h | h | h
  · exact Or.inl (Int32.toInt_inj.mp (h.trans e1.symm))
  · exact Or.inr (Or.inl (Int32.toInt_inj.mp (h.trans e2.symm)))
  · exact Or.inr (Or.inr (Int32.toInt_inj.mp (h.trans e3.symm)))
theorem pm_hi {r : Int32} (hr : pm_ok r) : ∀ i, i < 64 → 2 ≤ i → r.toInt64.toBitVec.getLsbD i = false := by
  rcases hr with rfl | rfl | rfl
  · exact pm_r1
  · exact pm_r2
  · exact pm_r3
theorem pm_lo {r : Int32} (hr : pm_ok r) : (r.toInt64 &&& 3).toInt32 = r := by
  rcases hr with rfl | rfl | rfl <;> decide
theorem pm_by {r : Int32} (hr : pm_ok r) : vp_nar .byte r.toInt8.toInt32 = r := by
  rw [vp_nar_byte]
  rcases hr with rfl | rfl | rfl <;> decide
/-- two numbers with the same two low bits -/
theorem pm_q {x y : Int64} (h : ∀ i, i < 2 → x.toBitVec.getLsbD i = y.toBitVec.getLsbD i) : x &&& 3 = y &&& 3 := by
  apply Int64.toBitVec_inj.mp
  apply BitVec.eq_of_getLsbD_eq
  intro i hi
  rw [Int64.toBitVec_and, Int64.toBitVec_and, BitVec.getLsbD_and, BitVec.getLsbD_and]
  rcases Nat.lt_or_ge i 2 with h2 | h2
  · rw [h i h2]
  · rw [pm_b3 i hi h2, Bool.and_false, Bool.and_false]
theorem pm_R (w : Int64) {j : Nat} (hj : j < 32) (i : Nat) : (w.toUInt64 >>> ((nI j * 2).toInt64.toUInt64 &&& Int64.toUInt64 63)).toInt64.toBitVec.getLsbD i = w.toBitVec.getLsbD (2 * j + i) := by
  show (w.toUInt64 >>> ((nI j * 2).toInt64.toUInt64 &&& Int64.toUInt64 63)).toBitVec.getLsbD i = w.toUInt64.toBitVec.getLsbD (2 * j + i)
  rw [UInt64.toBitVec_shiftRight]
  show (w.toUInt64.toBitVec >>> (((nI j * 2).toInt64.toUInt64 &&& Int64.toUInt64 63).toBitVec % 64).toNat).getLsbD i = _
  rw [pm_cu j hj, BitVec.getLsbD_ushiftRight]
theorem pm_L (x : Int64) {j : Nat} (hj : j < 32) {i : Nat} (hi : i < 64) : (x <<< ((nI j * 2).toInt64 &&& 63)).toBitVec.getLsbD i = (decide (2 * j ≤ i) && x.toBitVec.getLsbD (i - 2 * j)) := by
  rw [Int64.toBitVec_shiftLeft]
  show (x.toBitVec <<< (((nI j * 2).toInt64 &&& 63).toBitVec.smod 64).toNat).getLsbD i = _
  rw [pm_cl j hj, BitVec.getLsbD_shiftLeft]
  rcases Nat.lt_or_ge i (2 * j) with h | h
  · simp [h, Nat.not_le.mpr h]
  · simp [hi, h, Nat.not_lt.mpr h]
theorem pm_P (w : Int64) (r : Int32) {j : Nat} (hj : j < 32) {i : Nat} (hi : i < 64) : (pm_pt w (nI j) r).toBitVec.getLsbD i = ((w.toBitVec.getLsbD i && !(decide (2 * j ≤ i) && (3 : Int64).toBitVec.getLsbD (i - 2 * j))) || (decide (2 * j ≤ i) && r.toInt64.toBitVec.getLsbD (i - 2 * j))) := by
  unfold pm_pt
  rw [Int64.toBitVec_or, BitVec.getLsbD_or, Int64.toBitVec_and, BitVec.getLsbD_and, Int64.toBitVec_xor, BitVec.getLsbD_xor, pm_L _ hj hi, pm_L _ hj hi, pm_bm i hi, Bool.xor_true]
/-- the field that was written -/
theorem pm_same (w : Int64) {r : Int32} (hr : pm_ok r) {j : Nat} (hj : j < 32) : pm_gt (pm_pt w (nI j) r) (nI j) = r := by
  refine Eq.trans ?_ (pm_lo hr)
  refine congrArg Int64.toInt32 (pm_q fun i hi => ?_)
  rw [pm_R _ hj, pm_P w r hj (by omega), Nat.add_sub_cancel_left, pm_b3t i hi, decide_eq_true (Nat.le_add_right (2 * j) i)]
  simp
/-- the other fields -/
theorem pm_oth (w : Int64) {r : Int32} (hr : pm_ok r) {j q : Nat} (hj : j < 32) (hq : q < 32) (hn : q ≠ j) : pm_gt (pm_pt w (nI j) r) (nI q) = pm_gt w (nI q) := by
  refine congrArg Int64.toInt32 (pm_q fun i hi => ?_)
  rw [pm_R _ hq, pm_R _ hq, pm_P w r hj (by omega)]
  rcases Nat.lt_or_ge (2 * q + i) (2 * j) with h | h
  · rw [decide_eq_false (Nat.not_le.mpr h)]
    simp
  · rw [pm_b3 (2 * q + i - 2 * j) (by omega) (by omega), pm_hi hr (2 * q + i - 2 * j) (by omega) (by omega)]
    simp
end
section
/-! PART 2: each method's walk by a general post, then what is owed -/
/-- the cell's index in the reference's flat table -/
theorem pm_ix (i j : Nat) : nI i * 32 + nI j = nI (i * 32 + j) := by
  have e : nI i * 32 = nI (i * 32) := (Int32.ofNat_mul i 32).symm
  rw [e, nI_add]
theorem pm_31 {x : Int32} (h0 : ¬ x < 0) (h : x ≤ 31) : ∃ j : Nat, j < 32 ∧ x = nI j := by
  obtain ⟨j, hj, e⟩ := nI_of2 (M := 31) (n := 31) (by decide) h0 h
  exact ⟨j, by omega, e⟩
theorem pm_n31 {j : Nat} (hj : j < 32) : ¬ (31 : Int32) < nI j := nI_nlt (a := 31) (b := j) (by omega) (by decide)
theorem pm_l31 {j : Nat} (hj : j < 32) : nI j ≤ (31 : Int32) := nI_le (a := j) (b := 31) (by omega) (by decide)
/-- the count of conflicts behind a call that found o and wrote r -/
def pm_n (c o r : Int32) : Int32 := if o = 0 then c else if o = r then c else c + 1
theorem pm_tail {c o r : Int32} {Q : Int32 → Prop} (h : Q (pm_n c o r)) : (o = 0 → Q c) ∧ (¬ o = 0 → ((o = r → Q c) ∧ (¬ o = r → ∀ f : Int32, f = c + 1 → Q f))) := by
  unfold pm_n at h
  by_cases z : o = 0
  · rw [if_pos z] at h
    exact br_t z h
  · rw [if_neg z] at h
    by_cases y : o = r
    · rw [if_pos y] at h
      exact br_f z (br_t y h)
    · rw [if_neg y] at h
      exact br_f z (br_f y (nm_e h))
/-- the answer of decide at a cell that holds o -/
def pm_d (o : Int32) : Int32 := if o = 0 then 0 else if o = 3 then 2 else 1
theorem pm_dt {o : Int32} {Q : Int32 → Prop} (h : Q (pm_d o)) : (o = 0 → Q 0) ∧ (¬ o = 0 → ((o = 3 → Q 2) ∧ (¬ o = 3 → Q 1))) := by
  unfold pm_d at h
  by_cases z : o = 0
  · rw [if_pos z] at h
    exact br_t z h
  · rw [if_neg z] at h
    by_cases y : o = 3
    · rw [if_pos y] at h
      exact br_f z (br_t y h)
    · rw [if_neg y] at h
      exact br_f z (br_f y h)
theorem pm_Xr {post : Int32 → SX → Prop} {c : Int32} {a : Nat → Int64} {i j : Nat} {r : Int32} (hi : i < 32) (hj : j < 32) (h1 : ¬ r < 1) (h3 : r ≤ 3)
    (hp : post (pm_gt (a i) (nI j)) (pm_n c (pm_gt (a i) (nI j)) r, vp_updL a i (pm_pt (a i) (nI j) r))) : wpX_relate post (c, a) (nI i) (nI j) r := by
  have ci : (nI i).toNatClampNeg = i := nI_clamp (by omega)
  have vi : vp_in (nI i) 32 := vp_in_nI hi (by decide)
  refine br_f (nI_pos (by omega)) (br_f (pm_n31 hi) (br_f (nI_pos (by omega)) (br_f (pm_n31 hj) (br_f h1 (br_t h3 ?_)))))
  intro x4 e4
  subst e4
  refine ⟨vi, ?_⟩
  intro x5 e5 x7 e7 y5 f5
  rw [ci] at e5
  subst e5
  refine ⟨vi, ?_⟩
  intro a' ea
  rw [ci, f5] at ea
  have e7' : x7 = pm_gt (a i) (nI j) := e7
  have ea' : a' = vp_updL a i (pm_pt (a i) (nI j) r) := ea
  rw [e7', ea']
  exact pm_tail (Q := fun f => post (pm_gt (a i) (nI j)) (f, vp_updL a i (pm_pt (a i) (nI j) r))) hp
theorem pm_Yr {post : Int32 → SY → Prop} {c : Int32} {b : Nat → Int32} {i j : Nat} {r : Int32} (hi : i < 32) (hj : j < 32) (h1 : ¬ r < 1) (h3 : r ≤ 3)
    (hp : post (b (i * 32 + j)) (pm_n c (b (i * 32 + j)) r, upd b (i * 32 + j) r)) : wpY_relate post (c, b) (nI i) (nI j) r := by
  have ci : (nI (i * 32 + j)).toNatClampNeg = i * 32 + j := nI_clamp (by omega)
  have vi : vp_in (nI (i * 32 + j)) 1024 := vp_in_nI (by omega) (by decide)
  refine br_f (nI_pos (by omega)) (br_f (pm_n31 hi) (br_f (nI_pos (by omega)) (br_f (pm_n31 hj) (br_f h1 (br_t h3 ?_)))))
  intro x4 e4
  rw [pm_ix] at e4
  subst e4
  refine ⟨vi, ?_⟩
  intro x5 e5
  refine ⟨vi, ?_⟩
  intro b' eb
  rw [ci] at e5
  rw [ci, pm_by (pm_rel h1 h3)] at eb
  rw [e5, eb]
  exact pm_tail (Q := fun f => post (b (i * 32 + j)) (f, upd b (i * 32 + j) r)) hp
theorem pm_Xd {post : Int32 → Prop} {c : Int32} {a : Nat → Int64} {i j : Nat} (hi : i < 32) (hj : j < 32)
    (hp : post (pm_d (pm_gt (a i) (nI j)))) : wpX_decide post (c, a) (nI i) (nI j) := by
  have ci : (nI i).toNatClampNeg = i := nI_clamp (by omega)
  refine br_f (nI_pos (by omega)) (br_f (pm_n31 hi) (br_f (nI_pos (by omega)) (br_t (pm_l31 hj) ?_)))
  refine ⟨vp_in_nI hi (by decide), ?_⟩
  intro x3 e3
  rw [ci] at e3
  have e3' : x3 = pm_gt (a i) (nI j) := e3
  rw [e3']
  exact pm_dt (Q := post) hp
theorem pm_Yd {post : Int32 → Prop} {c : Int32} {b : Nat → Int32} {i j : Nat} (hi : i < 32) (hj : j < 32)
    (hp : post (pm_d (b (i * 32 + j)))) : wpY_decide post (c, b) (nI i) (nI j) := by
  have ci : (nI (i * 32 + j)).toNatClampNeg = i * 32 + j := nI_clamp (by omega)
  have vi : vp_in (nI (i * 32 + j)) 1024 := vp_in_nI (by omega) (by decide)
  refine br_f (nI_pos (by omega)) (br_f (pm_n31 hi) (br_f (nI_pos (by omega)) (br_t (pm_l31 hj) ?_)))
  rw [pm_ix]
  refine ⟨vi, ?_⟩
  intro x3 e3
  rw [ci] at e3
  rw [e3]
  exact pm_dt (Q := post) hp
/-- one count of conflicts; each cell of the reference is the field of the component's row -/
def pm_T (a : Nat → Int64) (b : Nat → Int32) : Prop := ∀ i j : Nat, i < 32 → j < 32 → b (i * 32 + j) = pm_gt (a i) (nI j)
def i_Rel (_ : Nat) (u : SX) (v : SY) : Prop := ∃ (c : Int32) (a : Nat → Int64) (b : Nat → Int32), u = (c, a) ∧ v = (c, b) ∧ pm_T a b
theorem pm_up {a : Nat → Int64} {b : Nat → Int32} (h : pm_T a b) {i j : Nat} (hj : j < 32) {r : Int32} (hr : pm_ok r) : pm_T (vp_updL a i (pm_pt (a i) (nI j) r)) (upd b (i * 32 + j) r) := by
  intro p q hp hq
  by_cases e : p = i
  · subst e
    have e1 : vp_updL a p (pm_pt (a p) (nI j) r) p = pm_pt (a p) (nI j) r := if_pos rfl
    rw [e1]
    by_cases f : q = j
    · subst f
      rw [pm_same (a p) hr hq]
      exact if_pos rfl
    · rw [pm_oth (a p) hr hj hq f, ← h p q hp hq]
      exact if_neg (by omega)
  · have e1 : vp_updL a i (pm_pt (a i) (nI j) r) p = a p := if_neg e
    rw [e1, ← h p q hp hq]
    exact if_neg (by omega)
theorem i_up {k : Nat} {u : SX} {v : SY} (h : i_Rel k u v) : i_Rel (k + 4) u v := h
theorem i_vc0 : wpX_init (fun u => wpY_init (fun v => i_Rel 0 u v)) :=
  ⟨0, fun _ => 0, fun _ => 0, rfl, rfl, fun _ j _ hj => (pm_g0 j hj).symm⟩
theorem i_vc_relate {k : Nat} {u : SX} {v : SY} (I : i_Rel k u v) (hk : k + 4 ≤ 2048) (v1 : Int32) (v2 : Int32) (v3 : Int32) : wpX_relate (fun r u' => wpY_relate (fun r' v' => r' = r ∧ i_Rel (k + 4) u' v') v v1 v2 v3) u v1 v2 v3 := by
  obtain ⟨c, a, b, rfl, rfl, h⟩ := I
  have R : i_Rel (k + 4) (c, a) (c, b) := ⟨c, a, b, rfl, rfl, h⟩
  by_cases h1 : v1 < 0
  · exact br_t h1 (br_t h1 ⟨rfl, R⟩)
  by_cases h2 : 31 < v1
  · exact br_f h1 (br_t h2 (br_f h1 (br_t h2 ⟨rfl, R⟩)))
  by_cases h3 : v2 < 0
  · exact br_f h1 (br_f h2 (br_t h3 (br_f h1 (br_f h2 (br_t h3 ⟨rfl, R⟩)))))
  by_cases h4 : 31 < v2
  · exact br_f h1 (br_f h2 (br_f h3 (br_t h4 (br_f h1 (br_f h2 (br_f h3 (br_t h4 ⟨rfl, R⟩)))))))
  by_cases h5 : v3 < 1
  · exact br_f h1 (br_f h2 (br_f h3 (br_f h4 (br_t h5 (br_f h1 (br_f h2 (br_f h3 (br_f h4 (br_t h5 ⟨rfl, R⟩)))))))))
  by_cases h6 : v3 ≤ 3
  · obtain ⟨i, hi, rfl⟩ := pm_31 h1 (Int32.not_lt.mp h2)
    obtain ⟨j, hj, rfl⟩ := pm_31 h3 (Int32.not_lt.mp h4)
    refine pm_Xr hi hj h5 h6 (pm_Yr hi hj h5 h6 ?_)
    rw [h i j hi hj]
    exact ⟨rfl, _, _, _, rfl, rfl, pm_up h hj (pm_rel h5 h6)⟩
  · exact br_f h1 (br_f h2 (br_f h3 (br_f h4 (br_f h5 (br_f h6 (br_f h1 (br_f h2 (br_f h3 (br_f h4 (br_f h5 (br_f h6 ⟨rfl, R⟩)))))))))))
theorem i_vc_decide {k : Nat} {u : SX} {v : SY} (I : i_Rel k u v) (hk : k + 4 ≤ 2048) (v1 : Int32) (v2 : Int32) : wpX_decide (fun r => wpY_decide (fun r' => r' = r ∧ i_Rel (k + 4) u v) v v1 v2) u v1 v2 := by
  obtain ⟨c, a, b, rfl, rfl, h⟩ := I
  have R : i_Rel (k + 4) (c, a) (c, b) := ⟨c, a, b, rfl, rfl, h⟩
  by_cases h1 : v1 < 0
  · exact br_t h1 (br_t h1 ⟨rfl, R⟩)
  by_cases h2 : 31 < v1
  · exact br_f h1 (br_t h2 (br_f h1 (br_t h2 ⟨rfl, R⟩)))
  by_cases h3 : v2 < 0
  · exact br_f h1 (br_f h2 (br_t h3 (br_f h1 (br_f h2 (br_t h3 ⟨rfl, R⟩)))))
  by_cases h4 : v2 ≤ 31
  · obtain ⟨i, hi, rfl⟩ := pm_31 h1 (Int32.not_lt.mp h2)
    obtain ⟨j, hj, rfl⟩ := pm_31 h3 h4
    refine pm_Xd hi hj (pm_Yd hi hj ?_)
    rw [h i j hi hj]
    exact ⟨rfl, R⟩
  · exact br_f h1 (br_f h2 (br_f h3 (br_f h4 (br_f h1 (br_f h2 (br_f h3 (br_f h4 ⟨rfl, R⟩)))))))
theorem i_vc_conflicts {k : Nat} {u : SX} {v : SY} (I : i_Rel k u v) (hk : k + 4 ≤ 2048) : wpX_conflicts (fun r => wpY_conflicts (fun r' => r' = r ∧ i_Rel (k + 4) u v) v) u := by
  obtain ⟨c, a, b, rfl, rfl, h⟩ := I
  exact ⟨rfl, c, a, b, rfl, rfl, h⟩
end
