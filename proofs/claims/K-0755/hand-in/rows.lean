section
/-! the plain part: two rows about bits, what lookup answers, and each side's loop against it -/
theorem sk_8 : nI 8 = 8 := by decide +kernel
theorem sk_m (x : Int32) : x + (-1) = x - 1 := (Int32.sub_eq_add_neg (a := x) (b := 1)).symm
/-- the type's byte, masked ahead of the widening or behind it -/
theorem sk_tail (p : Int32) : (p &&& 255).toInt64 = p.toInt64 &&& 255 := by
  rw [Int32.toInt64_and]
  exact congrArg (p.toInt64 &&& ·) (by decide +kernel)
/-- the low byte of a long is 0 by the cast just when it is by the mask -/
theorem sk_byte (t : Int64) : t.toInt32.toInt8.toInt32 = 0 ↔ t &&& 255 = 0 := by
  have h1 : t.toInt32.toInt8.toInt32 = 0 ↔ t.toInt.bmod 256 = 0 := by
    rw [← Int32.toInt_inj, Int8.toInt_toInt32, Int64.toInt8_toInt32, Int64.toInt_toInt8]
    exact Iff.rfl
  have h2 : t &&& 255 = 0 ↔ t.toBitVec.toNat % 256 = 0 := by
    rw [← Int64.toBitVec_inj, ← BitVec.toNat_inj, Int64.toBitVec_and, BitVec.toNat_and]
    have e : t.toBitVec.toNat &&& (255 : Int64).toBitVec.toNat = t.toBitVec.toNat % 256 := Nat.and_two_pow_sub_one_eq_mod _ 8
    rw [e]
    exact Iff.rfl
  have h3 : t.toInt = t.toBitVec.toInt := rfl
  rw [h1, h2, ← Int.dvd_iff_bmod_eq_zero, h3, BitVec.toInt_eq_toNat_cond]
  split <;> omega
/-- what lookup answers over the first d entries: the last entry of the key that the snapshot sees -/
def sk_f (k : Int32) (s : Int64) (a : Nat → Int32) (t : Nat → Int64) : Nat → Int32
  | 0 => 0
  | d + 1 => if a d = k then (if s < (((t d).toUInt64 >>> ((8 : Int32).toInt64.toUInt64 &&& Int64.toUInt64 63)).toInt64) then sk_f k s a t d else if (t d &&& 255) = 0 then 2 else 1) else sk_f k s a t d
theorem sk_X {k : Int32} {s : Int64} {n : Int32} {q : Int64} {a : Nat → Int32} {t : Nat → Int64} {post : Int32 → Prop} : ∀ d : Nat, d ≤ 8 → post (sk_f k s a t d) → wX_lookup_8 post k s n q a t (d + 1) (nI d - 1) := by
  intro d
  induction d with
  | zero =>
    intro _ hp
    exact br_t (show nI 0 - 1 < 0 by decide +kernel) hp
  | succ d ih =>
    intro hd hp
    have hi : vp_in (nI d) 8 := vp_in_nI (by omega) (by omega)
    have e : (nI d).toNatClampNeg = d := nI_clamp (by omega)
    rw [nI_pred]
    refine br_f (nI_pos (by omega)) ⟨hi, br_c (fun h1 => ⟨hi, br_c (fun h2 y ey => ?_) (fun h2 => ⟨hi, br_c (fun h3 => ?_) (fun h3 => ?_)⟩)⟩) (fun h1 y ey => ?_)⟩
    · rw [e] at h1 h2
      rw [sk_f, if_pos h1, if_pos h2] at hp
      rw [ey, sk_m]
      exact ih (by omega) hp
    · rw [e] at h1 h2 h3
      rw [sk_f, if_pos h1, if_neg h2, if_pos h3] at hp
      exact hp
    · rw [e] at h1 h2 h3
      rw [sk_f, if_pos h1, if_neg h2, if_neg h3] at hp
      exact hp
    · rw [e] at h1
      rw [sk_f, if_neg h1] at hp
      rw [ey, sk_m]
      exact ih (by omega) hp
theorem sk_Y {k : Int32} {s : Int64} {q : Int64} {a : Nat → Int32} {t : Nat → Int64} {post : Int32 → Prop} {c : Nat} (hc : c ≤ 8) (hp : post (sk_f k s a t c)) : ∀ m i : Nat, i + m = c → wY_lookup_6 post k s (nI c) q a t (m + 1) (sk_f k s a t i) (nI i) := by
  intro m
  induction m with
  | zero =>
    intro i hi
    have hic : i = c := by omega
    rw [hic]
    exact br_t (nI_le (Nat.le_refl c) (by omega)) hp
  | succ m ih =>
    intro i hm
    have hn : ¬ nI c ≤ nI i := nI_ge (by omega) (by omega)
    have hi : vp_in (nI i) 8 := vp_in_nI (by omega) (by omega)
    have e : (nI i).toNatClampNeg = i := nI_clamp (by omega)
    have H := ih (i + 1) (by omega)
    refine br_f hn ⟨hi, br_c (fun h1 => ⟨hi, br_c (fun h2 y ey => ?_) (fun h2 => ⟨hi, br_c (fun h3 y ey => ?_) (fun h3 y ey => ?_)⟩)⟩) (fun h1 y ey => ?_)⟩
    · rw [e] at h1 h2
      rw [sk_f, if_pos h1, if_pos h2] at H
      rw [ey, nI_1]
      exact H
    · rw [e, sk_byte] at h3
      rw [e] at h1 h2
      rw [sk_f, if_pos h1, if_neg h2, if_pos h3] at H
      rw [ey, nI_1]
      exact H
    · rw [e, sk_byte] at h3
      rw [e] at h1 h2
      rw [sk_f, if_pos h1, if_neg h2, if_neg h3] at H
      rw [ey, nI_1]
      exact H
    · rw [e] at h1
      rw [sk_f, if_neg h1] at H
      rw [ey, nI_1]
      exact H
theorem sk_in {x : Int32} {c : Nat} (hc : c ≤ 8) (h0 : ¬ x < 0) (h : x < nI c) : vp_in x 8 := by
  obtain ⟨j, hj, rfl⟩ := nI_of h0
  rw [nI_ltI hj (by omega)] at h
  exact vp_in_nI (by omega) (by omega)
end
section
/-- both hold the same: a count of at most 8 entries, the next sequence number, the keys, the trailers -/
def i_Rel (_ : Nat) (u : SX) (v : SY) : Prop := ∃ (c : Nat) (q : Int64) (a : Nat → Int32) (t : Nat → Int64), c ≤ 8 ∧ u = (nI c, q, a, t) ∧ v = (nI c, q, a, t)
theorem i_up {k : Nat} {u : SX} {v : SY} (h : i_Rel k u v) : i_Rel (k + 4) u v := h
theorem i_vc0 (k0 : Int64) : wpX_init (fun u => wpY_init (fun v => i_Rel 2 u v) k0) k0 := by
  intro x ex
  intro y ey
  subst ex ey
  exact ⟨0, k0 &&& 36028797018963967, fun _ => 0, fun _ => 0, by omega, by rw [nI_0], by rw [nI_0]⟩
theorem i_vc_add {k : Nat} {u : SX} {v : SY} (I : i_Rel k u v) (hk : k + 4 ≤ 2050) (v1 : Int32) (v2 : Int32) : wpX_add (fun r u' => wpY_add (fun r' v' => r' = r ∧ i_Rel (k + 4) u' v') v v1 v2) u v1 v2 := by
  obtain ⟨c, q, a, t, hc, rfl, rfl⟩ := I
  by_cases h : nI c < 8
  · have h8 : c < 8 := by
      rw [← sk_8, nI_ltI (by omega) (by omega)] at h
      exact h
    have hi : vp_in (nI c) 8 := vp_in_nI h8 (by omega)
    refine br_t h ⟨hi, fun a' ea => ⟨hi, fun t' et => fun q' eq => fun c' ec => ?_⟩⟩
    refine br_t h ⟨hi, fun b' eb => fun s' es => ⟨hi, fun g' eg => fun d' ed => ?_⟩⟩
    rw [← sk_tail] at eg
    subst ea et eq ec eb es eg ed
    exact ⟨rfl, c + 1, q + 1, _, _, by omega, by rw [nI_1], by rw [nI_1]⟩
  · exact br_f h (br_f h ⟨rfl, c, q, a, t, hc, rfl, rfl⟩)
theorem i_vc_compare {k : Nat} {u : SX} {v : SY} (I : i_Rel k u v) (hk : k + 4 ≤ 2050) (v1 : Int32) (v2 : Int32) : wpX_compare (fun r => wpY_compare (fun r' => r' = r ∧ i_Rel (k + 4) u v) v v1 v2) u v1 v2 := by
  have I' : i_Rel (k + 4) u v := i_up I
  obtain ⟨c, q, a, t, hc, rfl, rfl⟩ := I
  by_cases h0 : v1 < 0
  · exact br_t h0 (br_t h0 ⟨rfl, I'⟩)
  by_cases h1 : nI c ≤ v1
  · exact br_f h0 (br_t h1 (br_f h0 (br_t h1 ⟨rfl, I'⟩)))
  by_cases h2 : v2 < 0
  · exact br_f h0 (br_f h1 (br_t h2 (br_f h0 (br_f h1 (br_t h2 ⟨rfl, I'⟩)))))
  by_cases h3 : v2 < nI c
  · have hi : vp_in v1 8 := sk_in hc h0 (Int32.not_le.mp h1)
    have hj : vp_in v2 8 := sk_in hc h2 h3
    refine br_f h0 (br_f h1 (br_f h2 (br_t h3 ⟨hi, fun x ex => ⟨hj, fun y ey => ?_⟩⟩)))
    subst ex ey
    by_cases k1 : a v2.toNatClampNeg ≤ a v1.toNatClampNeg
    · refine br_t k1 ?_
      by_cases k2 : a v1.toNatClampNeg ≤ a v2.toNatClampNeg
      · refine br_t k2 ⟨hi, fun x ex => ⟨hj, fun y ey => ?_⟩⟩
        subst ex ey
        by_cases k3 : t v1.toNatClampNeg ≤ t v2.toNatClampNeg
        · refine br_t k3 ?_
          by_cases k4 : t v2.toNatClampNeg ≤ t v1.toNatClampNeg
          · exact br_t k4 (br_f h0 (br_f h1 (br_f h2 (br_t h3 ⟨hi, hj, br_t k1 ⟨hi, hj, br_t k2 ⟨hi, hj, br_t k3 ⟨hi, hj, br_t k4 ⟨rfl, I'⟩⟩⟩⟩⟩))))
          · exact br_f k4 (br_f h0 (br_f h1 (br_f h2 (br_t h3 ⟨hi, hj, br_t k1 ⟨hi, hj, br_t k2 ⟨hi, hj, br_t k3 ⟨hi, hj, br_f k4 ⟨rfl, I'⟩⟩⟩⟩⟩))))
        · exact br_f k3 (br_f h0 (br_f h1 (br_f h2 (br_t h3 ⟨hi, hj, br_t k1 ⟨hi, hj, br_t k2 ⟨hi, hj, br_f k3 ⟨rfl, I'⟩⟩⟩⟩))))
      · exact br_f k2 (br_f h0 (br_f h1 (br_f h2 (br_t h3 ⟨hi, hj, br_t k1 ⟨hi, hj, br_f k2 ⟨rfl, I'⟩⟩⟩))))
    · exact br_f k1 (br_f h0 (br_f h1 (br_f h2 (br_t h3 ⟨hi, hj, br_f k1 ⟨rfl, I'⟩⟩))))
  · exact br_f h0 (br_f h1 (br_f h2 (br_f h3 (br_f h0 (br_f h1 (br_f h2 (br_f h3 ⟨rfl, I'⟩)))))))
theorem i_vc_lookup {k : Nat} {u : SX} {v : SY} (I : i_Rel k u v) (hk : k + 4 ≤ 2050) (v1 : Int32) (a1 : Int64) : wpX_lookup (fun r => wpY_lookup (fun r' => r' = r ∧ i_Rel (k + 4) u v) v v1 a1) u v1 a1 := by
  have I' : i_Rel (k + 4) u v := i_up I
  obtain ⟨c, q, a, t, hc, rfl, rfl⟩ := I
  intro x ex
  subst ex
  exact ⟨c + 1, sk_X c hc ⟨c + 1, sk_Y hc ⟨rfl, I'⟩ c 0 (Nat.zero_add c)⟩⟩
theorem i_vc_tag {k : Nat} {u : SX} {v : SY} (I : i_Rel k u v) (hk : k + 4 ≤ 2050) (v1 : Int32) : wpX_tag (fun r => wpY_tag (fun r' => r' = r ∧ i_Rel (k + 4) u v) v v1) u v1 := by
  have I' : i_Rel (k + 4) u v := i_up I
  obtain ⟨c, q, a, t, hc, rfl, rfl⟩ := I
  by_cases h0 : v1 < 0
  · exact br_t h0 (br_t h0 ⟨rfl, I'⟩)
  by_cases h1 : v1 < nI c
  · have hi : vp_in v1 8 := sk_in hc h0 h1
    exact br_f h0 (br_t h1 ⟨hi, br_f h0 (br_t h1 ⟨hi, rfl, I'⟩)⟩)
  · exact br_f h0 (br_f h1 (br_f h0 (br_f h1 ⟨rfl, I'⟩)))
end
