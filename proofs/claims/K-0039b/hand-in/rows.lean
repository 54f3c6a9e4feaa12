section
/-- the byte that holds the nibbles h (high) and l (low), as a stored Java byte -/
def nb_by (h l : Nat) : Int32 := (nI (h * 16 + l)).toInt8.toInt32
/-- the component's row for the pixels q -/
def nb_row (q : Nat → Nat) : Nat → Int32 := fun b => nb_by (q (2 * b)) (q (2 * b + 1))
/-- the reference's cells for the pixels q -/
def nb_px (q : Nat → Nat) : Nat → Int32 := fun j => nI (q j)
/-- the pixels q with i at place j -/
def nb_put (q : Nat → Nat) (j i : Nat) : Nat → Nat := fun t => if t = j then i else q t
/-- one width m and one row of pixels q for both sides -/
def i_Rel (_ : Nat) (u : SX) (v : SY) : Prop := ∃ (m : Nat) (q : Nat → Nat), 1 ≤ m ∧ m ≤ 12 ∧ (∀ j, q j < 16) ∧ u = (nI m, nb_row q) ∧ v = (nI m, nb_px q)
theorem i_up {k : Nat} {u : SX} {v : SY} (h : i_Rel k u v) : i_Rel (k + 3) u v := h
theorem nb_t1 : ∀ h, h < 16 → ∀ l, l < 16 → nb_by h l &&& 255 = nI (h * 16 + l) := by decide +kernel
theorem nb_t2 : ∀ h, h < 16 → ∀ l, l < 16 → (nI (h * 16 + l) >>> ((4 : Int32) &&& 31)) &&& 15 = nI h := by decide +kernel
theorem nb_t3 : ∀ h, h < 16 → ∀ l, l < 16 → nI (h * 16 + l) &&& 15 = nI l := by decide +kernel
theorem nb_t4 : ∀ h, h < 16 → ∀ l, l < 16 → nI l ||| (nI h <<< ((4 : Int32) &&& 31)) = nI (h * 16 + l) := by decide +kernel
theorem nb_t5 : ∀ h, h < 16 → ∀ l, l < 16 → nI (h * 16 + l) &&& 240 = nI (h * 16) := by decide +kernel
theorem nb_t6 : ∀ h, h < 16 → ∀ l, l < 16 → nI (h * 16) ||| nI l = nI (h * 16 + l) := by decide +kernel
theorem nb_t7 : ∀ i, i < 16 → (nI i).toInt8.toInt32 = nI i := by decide +kernel
theorem nb_t8 : ∀ j, j < 12 → nI j >>> ((1 : Int32) &&& 31) = nI (j / 2) := by decide +kernel
theorem nb_t9 : ∀ j, j < 12 → nI j &&& 1 = nI (j % 2) := by decide +kernel
theorem nb_t10 : ∀ m, m < 13 → (nI m + 1) / 2 = nI ((m + 1) / 2) := by decide +kernel
theorem nb_t11 : ∀ b, b < 6 → 2 * nI b = nI (2 * b) := by decide +kernel
theorem nb_t12 : ∀ h, h < 16 → ∀ l, l < 16 → nI h * 16 + nI l = nI (h * 16 + l) := by decide +kernel
theorem nb_15 : nI 15 = 15 := by decide +kernel
theorem nb_12 : nI 12 = 12 := by decide +kernel
theorem nb_z : nb_by 0 0 = 0 := by decide +kernel
theorem nb_vb (z : Int32) : vp_nar .byte z.toInt8.toInt32 = z.toInt8.toInt32 := by rw [vp_nar_byte]; simp
theorem nb_even {j : Nat} (hj : j < 12) (z : j % 2 = 0) : nI j &&& 1 = 0 := by rw [nb_t9 j hj, z]; exact nI_0
theorem nb_odd {j : Nat} (hj : j < 12) (z : j % 2 = 1) : ¬ nI j &&& 1 = 0 := by
  rw [nb_t9 j hj, z]
  exact nI_ne0 (by omega) (by omega)
theorem nb_in {j : Nat} (hj : j < 12) : vp_in (nI j >>> ((1 : Int32) &&& 31)) 6 := by
  rw [nb_t8 j hj]
  exact vp_in_nI (by omega) (by omega)
theorem nb_cl {j : Nat} (hj : j < 12) : (nI j >>> ((1 : Int32) &&& 31)).toNatClampNeg = j / 2 := by
  rw [nb_t8 j hj]
  exact nI_clamp (by omega)
theorem nb_rd {q : Nat → Nat} (hq : ∀ j, q j < 16) {j : Nat} (hj : j < 12) : (nb_row q (nI j >>> ((1 : Int32) &&& 31)).toNatClampNeg) &&& 255 = nI (q (2 * (j / 2)) * 16 + q (2 * (j / 2) + 1)) := by
  rw [nb_cl hj]
  exact nb_t1 _ (hq _) _ (hq _)
theorem nb_hi {q : Nat → Nat} (hq : ∀ j, q j < 16) {j : Nat} (z : j % 2 = 0) : (nI (q (2 * (j / 2)) * 16 + q (2 * (j / 2) + 1)) >>> ((4 : Int32) &&& 31)) &&& 15 = nI (q j) := by
  have e : 2 * (j / 2) = j := by omega
  rw [nb_t2 _ (hq _) _ (hq _), e]
theorem nb_lo {q : Nat → Nat} (hq : ∀ j, q j < 16) {j : Nat} (z : j % 2 = 1) : nI (q (2 * (j / 2)) * 16 + q (2 * (j / 2) + 1)) &&& 15 = nI (q j) := by
  have e : 2 * (j / 2) + 1 = j := by omega
  rw [nb_t3 _ (hq _) _ (hq _), e]
theorem nb_pcl {q : Nat → Nat} {j : Nat} (hj : j < 2 ^ 31) : nb_px q (nI j).toNatClampNeg = nI (q j) := by
  rw [nI_clamp hj]; exact rfl
theorem nb_put16 {q : Nat → Nat} (hq : ∀ j, q j < 16) {i : Nat} (hi : i < 16) (j : Nat) : ∀ t, nb_put q j i t < 16 := by
  intro t
  unfold nb_put
  split
  · exact hi
  · exact hq t
theorem nb_put_s {q : Nat → Nat} {j i t : Nat} (h : t = j) : nb_put q j i t = i := if_pos h
theorem nb_put_n {q : Nat → Nat} {j i t : Nat} (h : t ≠ j) : nb_put q j i t = q t := if_neg h
theorem nb_pput (q : Nat → Nat) (j i : Nat) : upd (nb_px q) j (nI i) = nb_px (nb_put q j i) := by
  funext t
  by_cases h : t = j
  · show (if t = j then nI i else nb_px q t) = nI (nb_put q j i t)
    rw [if_pos h, nb_put_s h]
  · show (if t = j then nI i else nb_px q t) = nI (nb_put q j i t)
    rw [if_neg h, nb_put_n h]; exact rfl
/-- a stored byte at j / 2, both of its nibbles given -/
theorem nb_rput (q : Nat → Nat) (j i h l : Nat) (eh : nb_put q j i (2 * (j / 2)) = h) (el : nb_put q j i (2 * (j / 2) + 1) = l) : upd (nb_row q) (j / 2) (nb_by h l) = nb_row (nb_put q j i) := by
  funext t
  show (if t = j / 2 then nb_by h l else nb_by (q (2 * t)) (q (2 * t + 1))) = nb_by (nb_put q j i (2 * t)) (nb_put q j i (2 * t + 1))
  by_cases e : t = j / 2
  · rw [if_pos e, e, eh, el]
  · have n0 : 2 * t ≠ j := by omega
    have n1 : 2 * t + 1 ≠ j := by omega
    rw [if_neg e, nb_put_n n0, nb_put_n n1]
end
section
theorem nb_s82 {post : Int32 → SX → Prop} {m j i h l : Nat} {q : Nat → Nat} {x4 : Int32} (hj : j < 12) (eh : nb_put q j i (2 * (j / 2)) = h) (el : nb_put q j i (2 * (j / 2) + 1) = l) (hp : post x4 (nI m, nb_row (nb_put q j i))) : wX_set_82 post (nI j) x4 (nI (h * 16 + l)) (nI m) (nb_row q) := by
  unfold wX_set_82
  refine ⟨nb_in hj, nm_r (e' := nb_row (nb_put q j i)) ?_ hp⟩
  rw [nb_cl hj, nb_vb]
  exact nb_rput q j i h l eh el
theorem nb_setX {post : Int32 → SX → Prop} {m j i : Nat} {q : Nat → Nat} (hm : m ≤ 12) (hq : ∀ j, q j < 16) (hj : j < m) (hi : i < 16) (hp : post (nI (q j)) (nI m, nb_row (nb_put q j i))) : wpX_set post (nI m, nb_row q) (nI j) (nI i) := by
  have e0 : ¬ nI j < 0 := nI_pos (by omega)
  have e1 : nI j < nI m := nI_lt hj (by omega)
  have e2 : ¬ nI i < 0 := nI_pos (by omega)
  have e3 : nI i ≤ 15 := by rw [← nb_15]; exact nI_le (by omega) (by omega)
  have hj2 : j < 12 := by omega
  unfold wpX_set
  dsimp only
  refine br_f e0 (br_t e1 (br_f e2 (br_t e3 ⟨nb_in hj2, nm_r (nb_rd hq hj2) ?_⟩)))
  rcases Nat.mod_two_eq_zero_or_one j with z | z
  · have a0 : 2 * (j / 2) = j := by omega
    have a1 : 2 * (j / 2) + 1 ≠ j := by omega
    refine br_t (nb_even hj2 z) (nm_r (nb_hi hq z) (nm_r (e' := nI (i * 16 + q (2 * (j / 2) + 1))) ?_ (nb_s82 hj2 (nb_put_s a0) (nb_put_n a1) hp)))
    rw [nb_t3 _ (hq _) _ (hq _)]
    exact nb_t4 _ hi _ (hq _)
  · have a0 : 2 * (j / 2) ≠ j := by omega
    have a1 : 2 * (j / 2) + 1 = j := by omega
    refine br_f (nb_odd hj2 z) (nm_r (nb_lo hq z) (nm_r (e' := nI (q (2 * (j / 2)) * 16 + i)) ?_ (nb_s82 hj2 (nb_put_n a0) (nb_put_s a1) hp)))
    rw [nb_t5 _ (hq _) _ (hq _)]
    exact nb_t6 _ (hq _) _ hi
theorem nb_setY {post : Int32 → SY → Prop} {m j i : Nat} {q : Nat → Nat} (hm : m ≤ 12) (hj : j < m) (hi : i < 16) (hp : post (nI (q j)) (nI m, nb_px (nb_put q j i))) : wpY_set post (nI m, nb_px q) (nI j) (nI i) := by
  have e0 : ¬ nI j < 0 := nI_pos (by omega)
  have e1 : nI j < nI m := nI_lt hj (by omega)
  have e2 : ¬ nI i < 0 := nI_pos (by omega)
  have e3 : nI i ≤ 15 := by rw [← nb_15]; exact nI_le (by omega) (by omega)
  have hv : vp_in (nI j) 13 := vp_in_nI (by omega) (by omega)
  unfold wpY_set
  dsimp only
  refine br_f e0 (br_t e1 (br_f e2 (br_t e3 ⟨hv, nm_r (nb_pcl (by omega)) ⟨hv, nm_r (e' := nb_px (nb_put q j i)) ?_ hp⟩⟩)))
  rw [nI_clamp (by omega), nb_vb, nb_t7 i hi]
  exact nb_pput q j i
theorem i_vc_set {k : Nat} {u : SX} {v : SY} (I : i_Rel k u v) (hk : k + 3 ≤ 1537) (v1 : Int32) (v2 : Int32) : wpX_set (fun r u' => wpY_set (fun r' v' => r' = r ∧ i_Rel (k + 3) u' v') v v1 v2) u v1 v2 := by
  obtain ⟨m, q, h1, h2, hq, rfl, rfl⟩ := I
  have hI : i_Rel (k + 3) (nI m, nb_row q) (nI m, nb_px q) := ⟨m, q, h1, h2, hq, rfl, rfl⟩
  by_cases e0 : v1 < 0
  · unfold wpX_set wpY_set; dsimp only
    exact br_t e0 (br_t e0 ⟨rfl, hI⟩)
  · by_cases e1 : v1 < nI m
    · by_cases e2 : v2 < 0
      · unfold wpX_set wpY_set; dsimp only
        exact br_f e0 (br_t e1 (br_t e2 (br_f e0 (br_t e1 (br_t e2 ⟨rfl, hI⟩)))))
      · by_cases e3 : v2 ≤ 15
        · obtain ⟨j, hj, rfl⟩ := nI_of e0
          obtain ⟨i, hi, rfl⟩ := nI_of e2
          rw [nI_ltI hj (by omega)] at e1
          rw [← nb_15, nI_leI hi (by omega)] at e3
          have hi2 : i < 16 := by omega
          exact nb_setX h2 hq e1 hi2 (nb_setY h2 e1 hi2 ⟨rfl, m, nb_put q j i, h1, h2, nb_put16 hq hi2 j, rfl, rfl⟩)
        · unfold wpX_set wpY_set; dsimp only
          exact br_f e0 (br_t e1 (br_f e2 (br_f e3 (br_f e0 (br_t e1 (br_f e2 (br_f e3 ⟨rfl, hI⟩)))))))
    · unfold wpX_set wpY_set; dsimp only
      exact br_f e0 (br_f e1 (br_f e0 (br_f e1 ⟨rfl, hI⟩)))
end
section
theorem nb_rel0 {m : Nat} (h1 : 1 ≤ m) (h2 : m ≤ 12) : i_Rel 1 (nI m, fun _ => 0) (nI m, fun _ => 0) := by
  have ex : nb_row (fun _ => 0) = fun _ => 0 := by funext b; exact nb_z
  have ey : nb_px (fun _ => 0) = fun _ => 0 := by funext b; exact nI_0
  exact ⟨m, fun _ => 0, h1, h2, fun _ => (by omega : (0 : Nat) < 16), by rw [ex], by rw [ey]⟩
theorem i_vc0 (k0 : Int32) : wpX_init (fun u => wpY_init (fun v => i_Rel 1 u v) k0) k0 := by
  by_cases h1 : 1 ≤ k0
  · by_cases h2 : k0 ≤ 12
    · refine br_t h1 (br_t h2 (br_t h1 (br_t h2 ?_)))
      have h0 : ¬ k0 < 0 := Int32.not_lt.mpr (Int32.le_trans (by decide) h1)
      obtain ⟨j, hj, rfl⟩ := nI_of h0
      rw [← nb_12, nI_leI hj (by omega)] at h2
      have e1 : (1 : Int32) = nI 1 := by decide +kernel
      rw [e1, nI_leI (by omega) hj] at h1
      exact nb_rel0 h1 h2
    · refine br_t h1 (br_f h2 (br_t h1 (br_f h2 ?_)))
      have h := nb_rel0 (m := 12) (by omega) (by omega)
      rw [nb_12] at h
      exact h
  · have h3 : (1 : Int32) ≤ 12 := by decide
    refine br_f h1 (br_t h3 (br_f h1 ?_))
    have e1 : nI 1 = (1 : Int32) := by decide +kernel
    have h := nb_rel0 (m := 1) (by omega) (by omega)
    rw [e1] at h
    exact h
theorem i_vc_get {k : Nat} {u : SX} {v : SY} (I : i_Rel k u v) (hk : k + 3 ≤ 1537) (v1 : Int32) : wpX_get (fun r => wpY_get (fun r' => r' = r ∧ i_Rel (k + 3) u v) v v1) u v1 := by
  obtain ⟨m, q, h1, h2, hq, rfl, rfl⟩ := I
  have hI : i_Rel (k + 3) (nI m, nb_row q) (nI m, nb_px q) := ⟨m, q, h1, h2, hq, rfl, rfl⟩
  unfold wpX_get wpY_get
  dsimp only
  by_cases e0 : v1 < 0
  · exact br_t e0 (br_t e0 ⟨rfl, hI⟩)
  · by_cases e1 : v1 < nI m
    · obtain ⟨j, hj, rfl⟩ := nI_of e0
      have e2 := e1
      rw [nI_ltI hj (by omega)] at e2
      have hj2 : j < 12 := by omega
      have hv : vp_in (nI j) 13 := vp_in_nI (by omega) (by omega)
      refine br_f e0 (br_t e1 ⟨nb_in hj2, nm_r (nb_rd hq hj2) ?_⟩)
      rcases Nat.mod_two_eq_zero_or_one j with z | z
      · exact br_t (nb_even hj2 z) (br_f e0 (br_t e1 ⟨hv, (nb_pcl hj).trans (nb_hi hq z).symm, hI⟩))
      · exact br_f (nb_odd hj2 z) (br_f e0 (br_t e1 ⟨hv, (nb_pcl hj).trans (nb_lo hq z).symm, hI⟩))
    · exact br_f e0 (br_f e1 (br_f e0 (br_f e1 ⟨rfl, hI⟩)))
theorem i_vc_rawByte {k : Nat} {u : SX} {v : SY} (I : i_Rel k u v) (hk : k + 3 ≤ 1537) (v1 : Int32) : wpX_rawByte (fun r => wpY_rawByte (fun r' => r' = r ∧ i_Rel (k + 3) u v) v v1) u v1 := by
  obtain ⟨m, q, h1, h2, hq, rfl, rfl⟩ := I
  have hI : i_Rel (k + 3) (nI m, nb_row q) (nI m, nb_px q) := ⟨m, q, h1, h2, hq, rfl, rfl⟩
  have d2 : ¬ (2 : Int32) = 0 := by decide
  unfold wpX_rawByte wpY_rawByte
  dsimp only
  by_cases e0 : v1 < 0
  · exact br_t e0 (br_t e0 ⟨rfl, hI⟩)
  · by_cases e1 : v1 < (nI m + 1) / 2
    · obtain ⟨b, hb, rfl⟩ := nI_of e0
      have e2 := e1
      rw [nb_t10 m (by omega), nI_ltI hb (by omega)] at e2
      have hb2 : b < 6 := by omega
      have m2 : 2 * nI b = nI (2 * b) := nb_t11 b hb2
      have m3 : 2 * nI b + 1 = nI (2 * b + 1) := by rw [m2, nI_1]
      have i2 : vp_in (2 * nI b) 13 := by rw [m2]; exact vp_in_nI (by omega) (by omega)
      have i3 : vp_in (2 * nI b + 1) 13 := by rw [m3]; exact vp_in_nI (by omega) (by omega)
      have hv : vp_in (nI b) 6 := vp_in_nI hb2 (by omega)
      have eX : nb_row q (nI b).toNatClampNeg &&& 255 = nI (q (2 * b) * 16 + q (2 * b + 1)) := by
        rw [nI_clamp hb]
        exact nb_t1 _ (hq _) _ (hq _)
      have eY : nb_px q (2 * nI b).toNatClampNeg * 16 + nb_px q (2 * nI b + 1).toNatClampNeg = nI (q (2 * b) * 16 + q (2 * b + 1)) := by
        rw [m3, m2, nb_pcl (by omega), nb_pcl (by omega)]
        exact nb_t12 _ (hq _) _ (hq _)
      exact br_f e0 ⟨d2, br_t e1 ⟨hv, br_f e0 ⟨d2, br_t e1 ⟨i2, i3, eY.trans eX.symm, hI⟩⟩⟩⟩
    · exact br_f e0 ⟨d2, br_f e1 (br_f e0 ⟨d2, br_f e1 ⟨rfl, hI⟩⟩)⟩
/-- both scans end with one count -/
theorem nb_scan {q : Nat → Nat} (hq : ∀ j, q j < 16) {m : Nat} (hm : m ≤ 12) (y : Int32) : ∀ (d j : Nat) (c : Int32), j + d = m → ∃ r : Int32, (∀ post : Int32 → Prop, post r → wX_countOf_16 post y (nI m) (nb_row q) (d + 1) c (nI j)) ∧ (∀ post : Int32 → Prop, post r → wY_countOf_16 post y (nI m) (nb_px q) (d + 1) c (nI j)) := by
  intro d
  induction d with
  | zero =>
    intro j c hj
    have h : nI m ≤ nI j := nI_le (by omega) (by omega)
    exact ⟨c, fun _ hp => br_t h hp, fun _ hp => br_t h hp⟩
  | succ d ih =>
    intro j c hj
    have h : ¬ nI m ≤ nI j := nI_ge (by omega) (by omega)
    have hj2 : j < 12 := by omega
    have hv : vp_in (nI j) 13 := vp_in_nI (by omega) (by omega)
    have hc : nb_px q (nI j).toNatClampNeg = nI (q j) := nb_pcl (by omega)
    by_cases z : nI (q j) = y
    · obtain ⟨r, hX, hY⟩ := ih (j + 1) (c + 1) (by omega)
      refine ⟨r, fun post hp => br_f h ⟨nb_in hj2, nm_r (nb_rd hq hj2) ?_⟩, fun post hp => br_f h ⟨hv, br_t (hc.trans z) (nm_e (nm_r (nI_1 j) (hY post hp)))⟩⟩
      have K : wX_countOf_63 post (wX_countOf_16 post y (nI m) (nb_row q) (d + 1)) y c (nI j) (nI (q j)) (nI m) (nb_row q) := br_t z (nm_e (nm_r (nI_1 j) (hX post hp)))
      rcases Nat.mod_two_eq_zero_or_one j with p | p
      · exact br_t (nb_even hj2 p) (nm_r (nb_hi hq p) K)
      · exact br_f (nb_odd hj2 p) (nm_r (nb_lo hq p) K)
    · obtain ⟨r, hX, hY⟩ := ih (j + 1) c (by omega)
      have z2 : ¬ nb_px q (nI j).toNatClampNeg = y := fun e => z (hc.symm.trans e)
      refine ⟨r, fun post hp => br_f h ⟨nb_in hj2, nm_r (nb_rd hq hj2) ?_⟩, fun post hp => br_f h ⟨hv, br_f z2 (nm_r (nI_1 j) (hY post hp))⟩⟩
      have K : wX_countOf_63 post (wX_countOf_16 post y (nI m) (nb_row q) (d + 1)) y c (nI j) (nI (q j)) (nI m) (nb_row q) := br_f z (nm_r (nI_1 j) (hX post hp))
      rcases Nat.mod_two_eq_zero_or_one j with p | p
      · exact br_t (nb_even hj2 p) (nm_r (nb_hi hq p) K)
      · exact br_f (nb_odd hj2 p) (nm_r (nb_lo hq p) K)
theorem i_vc_countOf {k : Nat} {u : SX} {v : SY} (I : i_Rel k u v) (hk : k + 3 ≤ 1537) (v1 : Int32) : wpX_countOf (fun r => wpY_countOf (fun r' => r' = r ∧ i_Rel (k + 3) u v) v v1) u v1 := by
  obtain ⟨m, q, h1, h2, hq, rfl, rfl⟩ := I
  have hI : i_Rel (k + 3) (nI m, nb_row q) (nI m, nb_px q) := ⟨m, q, h1, h2, hq, rfl, rfl⟩
  unfold wpX_countOf wpY_countOf
  dsimp only
  by_cases e0 : v1 < 0
  · exact br_t e0 (br_t e0 ⟨rfl, hI⟩)
  · by_cases e1 : v1 ≤ 15
    · obtain ⟨r, hX, hY⟩ := nb_scan hq h2 v1 m 0 0 (by omega)
      rw [nI_0] at hX hY
      exact br_f e0 (br_t e1 ⟨_, hX _ (br_f e0 (br_t e1 ⟨_, hY _ ⟨rfl, hI⟩⟩))⟩)
    · exact br_f e0 (br_f e1 (br_f e0 (br_f e1 ⟨rfl, hI⟩)))
end
