section
/-! rows taken from the kit's rows to paste (pk_..), then the plain law of the splitter tree -/
theorem pk_us {f : Nat → Int32} {k : Nat} {x : Int32} : upd f k x k = x := if_pos rfl
theorem pk_mul (a b : Nat) : nI a * nI b = nI (a * b) := (Int32.ofNat_mul a b).symm
theorem pk_tn {n : Nat} (h : n < 2 ^ 32) : (nI n).toBitVec.toNat = n := Nat.mod_eq_of_lt h
theorem pk_char (x : Int32) : (x.toUInt32 % 65536).toInt32 = nI (x.toBitVec.toNat % 65536) := by
  apply Int32.toBitVec_inj.mp
  apply BitVec.eq_of_toNat_eq
  rw [pk_tn (by omega)]
  show (x.toUInt32 % 65536).toNat = _
  rw [UInt32.toNat_mod]
  rfl
theorem pk_vs (z : Int32) : vp_nar .short z.toInt16.toInt32 = z.toInt16.toInt32 := by rw [vp_nar_short]; simp
/-- a char's cast and store keep it -/
theorem sq_vc (z : Int32) : vp_nar .char (z.toUInt32 % 65536).toInt32 = (z.toUInt32 % 65536).toInt32 := Value.int.inj (lw_u16_n z)
/-- a number below 65536 goes through the char cast and the char store unchanged -/
theorem sq_ch {m : Nat} (h : m < 65536) : vp_nar .char (((nI m).toUInt32 % 65536).toInt32) = nI m := by
  rw [sq_vc, pk_char, pk_tn (by omega), Nat.mod_eq_of_lt h]
/-- the k-th splitter as the class writes it -/
theorem sq_c {b d : Nat} (k : Nat) (h : b + 7 * d ≤ 65535) (hk : k ≤ 7) : vp_nar .char (((nI b + nI k * nI d).toUInt32 % 65536).toInt32) = nI (b + k * d) := by
  have hm := Nat.mul_le_mul_right d hk
  rw [pk_mul, nI_add]
  exact sq_ch (by omega)
/-- the running sum of the reference, one step on -/
theorem sq_st (b d k : Nat) : nI (b + k * d) + nI d = nI (b + (k + 1) * d) := by
  rw [nI_add, Nat.add_mul, Nat.one_mul, Nat.add_assoc]
/-- the k-th splitter as the reference writes it -/
theorem sq_y {b d : Nat} {x : Int32} (k : Nat) (h : b + 7 * d ≤ 65535) (hk : k + 1 ≤ 7) (hx : x = nI (b + k * d)) : vp_nar .char (((x + nI d).toUInt32 % 65536).toInt32) = nI (b + (k + 1) * d) := by
  have hm := Nat.mul_le_mul_right d hk
  rw [hx, sq_st]
  exact sq_ch (by omega)
/-- seven stores, one behind another -/
theorem sq_w {t a1 a2 a3 a4 a5 a6 a7 : Nat → Int32} {w1 w2 w3 w4 w5 w6 w7 : Int32} (e1 : a1 = upd t 1 w1) (e2 : a2 = upd a1 2 w2) (e3 : a3 = upd a2 3 w3) (e4 : a4 = upd a3 4 w4) (e5 : a5 = upd a4 5 w5) (e6 : a6 = upd a5 6 w6) (e7 : a7 = upd a6 7 w7) : a7 1 = w1 ∧ a7 2 = w2 ∧ a7 3 = w3 ∧ a7 4 = w4 ∧ a7 5 = w5 ∧ a7 6 = w6 ∧ a7 7 = w7 := by
  subst e1 e2 e3 e4 e5 e6 e7
  exact ⟨rfl, rfl, rfl, rfl, rfl, rfl, rfl⟩
/-- the sorted splitters: they don't fall -/
def sq_Ord (s : Nat → Int32) : Prop := ∀ i j, 1 ≤ i → i ≤ j → j < 8 → s i ≤ s j
/-- the tree's cells are the sorted ones, in the tree's order -/
def sq_Tree (t s : Nat → Int32) : Prop := t 1 = s 4 ∧ t 2 = s 2 ∧ t 3 = s 6 ∧ t 4 = s 1 ∧ t 5 = s 3 ∧ t 6 = s 5 ∧ t 7 = s 7
theorem sq_ord {b d : Nat} {s : Nat → Int32} (h : b + 7 * d ≤ 65535) (hs : ∀ i, 1 ≤ i → i < 8 → s i = nI (b + i * d)) : sq_Ord s := by
  intro i j hi hij hj
  rw [hs i hi (by omega), hs j (by omega) hj]
  have h1 := Nat.mul_le_mul_right d hij
  have h2 := Nat.mul_le_mul_right d (show j ≤ 7 by omega)
  exact nI_le (by omega) (by omega)
/-- a bucket's count, one up, as a short -/
def sq_in (y : Int32) : Int32 := (y + 1).toInt16.toInt32
/-- what both sides do once the bucket b is known -/
def sq_G (post : Int32 → SX → Prop) (p : Int32) (t c : Nat → Int32) (b : Nat) : Prop := post (nI b) (if sq_in (c b) ≤ p then p else sq_in (c b), t, upd c b (sq_in (c b)))
end
section
/-! the class's tree walk, join by join -/
theorem sq_x60 (post : Int32 → SX → Prop) (p : Int32) (t c : Nat → Int32) (z0 z1 : Int32) (b : Nat) (hb : b < 8) (e : z1 + z0 = nI (b + 8)) (H : sq_G post p t c b) : wX_classify_60 post z0 z1 p t c := by
  intro x2 e2 x3 e3
  have e8 : nI (b + 8) - 8 = nI b := by
    rw [← nI_add]
    exact Int32.add_sub_cancel _ _
  have ex : x3 = nI b := by rw [e3, e2, e, e8]
  clear e3
  subst ex
  have hi : vp_in (nI b) 8 := vp_in_nI hb (by decide)
  have hc : (nI b).toNatClampNeg = b := nI_clamp (by omega)
  refine ⟨hi, hi, fun c' ec => ⟨hi, fun y ey => ?_⟩⟩
  rw [hc, pk_vs] at ec
  rw [hc] at ey
  subst ec
  have ey' : y = sq_in (c b) := ey.trans pk_us
  clear ey
  subst ey'
  unfold sq_G at H
  by_cases h : sq_in (c b) ≤ p
  · rw [if_pos h] at H
    exact br_t h H
  · rw [if_neg h] at H
    exact br_f h H
theorem sq_x40 (post : Int32 → SX → Prop) (x p : Int32) (t c : Nat → Int32) (z0 z1 : Int32) (j : Nat) (h4 : 4 ≤ j) (h8 : j < 8) (e : z1 + z0 = nI j) (h0 : x ≤ t j → sq_G post p t c (2 * j - 8)) (h1 : ¬ x ≤ t j → sq_G post p t c (2 * j - 7)) : wX_classify_40 post x z0 z1 p t c := by
  intro x2 e2
  have ex : x2 = nI j := e2.trans e
  clear e2
  subst ex
  have hc : (nI j).toNatClampNeg = j := nI_clamp (by omega)
  have a0 : (2 : Int32) * nI j + 0 = nI (2 * j - 8 + 8) := by
    show nI 2 * nI j + nI 0 = _
    rw [pk_mul, nI_add]
    exact congrArg nI (by omega)
  have a1 : (2 : Int32) * nI j + 1 = nI (2 * j - 7 + 8) := by
    show nI 2 * nI j + nI 1 = _
    rw [pk_mul, nI_add]
    exact congrArg nI (by omega)
  refine ⟨vp_in_nI h8 (by decide), br_c (fun h => ?_) (fun h => ?_)⟩
  · rw [hc] at h
    exact sq_x60 post p t c _ _ (2 * j - 8) (by omega) a0 (h0 h)
  · rw [hc] at h
    exact sq_x60 post p t c _ _ (2 * j - 7) (by omega) a1 (h1 h)
theorem sq_x20 (post : Int32 → SX → Prop) (x p : Int32) (t c : Nat → Int32) (z0 z1 : Int32) (j : Nat) (h2 : 2 ≤ j) (h4 : j < 4) (e : z1 + z0 = nI j) (h00 : x ≤ t j → x ≤ t (2 * j) → sq_G post p t c (2 * (2 * j) - 8)) (h01 : x ≤ t j → ¬ x ≤ t (2 * j) → sq_G post p t c (2 * (2 * j) - 7)) (h10 : ¬ x ≤ t j → x ≤ t (2 * j + 1) → sq_G post p t c (2 * (2 * j + 1) - 8)) (h11 : ¬ x ≤ t j → ¬ x ≤ t (2 * j + 1) → sq_G post p t c (2 * (2 * j + 1) - 7)) : wX_classify_20 post x z0 z1 p t c := by
  intro x2 e2
  have ex : x2 = nI j := e2.trans e
  clear e2
  subst ex
  have hc : (nI j).toNatClampNeg = j := nI_clamp (by omega)
  have a0 : (2 : Int32) * nI j + 0 = nI (2 * j) := by
    show nI 2 * nI j + nI 0 = _
    rw [pk_mul, nI_add]
    exact congrArg nI (by omega)
  have a1 : (2 : Int32) * nI j + 1 = nI (2 * j + 1) := by
    show nI 2 * nI j + nI 1 = _
    rw [pk_mul, nI_add]
  refine ⟨vp_in_nI (by omega) (by decide), br_c (fun h => ?_) (fun h => ?_)⟩
  · rw [hc] at h
    exact sq_x40 post x p t c _ _ (2 * j) (by omega) (by omega) a0 (h00 h) (h01 h)
  · rw [hc] at h
    exact sq_x40 post x p t c _ _ (2 * j + 1) (by omega) (by omega) a1 (h10 h) (h11 h)
/-! the reference's linear count -/
theorem sq_yl {post : Int32 → SY → Prop} {x p : Int32} {s c : Nat → Int32} (b : Nat) (hb : b < 8) (h1 : ∀ k, 1 ≤ k → k ≤ b → ¬ x ≤ s k) (h2 : ∀ k, b < k → k < 8 → x ≤ s k) (H : sq_G post p s c b) : ∀ d j q, j + d = 8 → 1 ≤ j → (j ≤ b → q + 1 = j) → (b < j → q = b) → q ≤ b → wY_classify_4 post x p s c (d + 1) (nI q) (nI j) := by
  intro d
  induction d with
  | zero =>
    intro j q hj _ _ hq _
    have hqb : q = b := hq (by omega)
    subst hqb
    have h8 : (8 : Int32) ≤ nI j := nI_le (a := 8) (by omega) (by omega)
    have hi : vp_in (nI q) 8 := vp_in_nI hb (by decide)
    have hc : (nI q).toNatClampNeg = q := nI_clamp (by omega)
    refine br_t h8 ⟨hi, hi, fun c' ec y ey => ?_⟩
    rw [hc, pk_vs] at ec
    rw [hc] at ey
    subst ec
    have ey' : y = sq_in (c q) := ey
    clear ey
    subst ey'
    unfold sq_G at H
    by_cases h : sq_in (c q) ≤ p
    · rw [if_pos h] at H
      exact br_t h H
    · rw [if_neg h] at H
      exact br_f h H
  | succ d ih =>
    intro j q hj h0 hq1 hq2 hqb
    have h8 : ¬ (8 : Int32) ≤ nI j := nI_ge (b := 8) (by omega) (by decide)
    have hi : vp_in (nI j) 8 := vp_in_nI (by omega) (by decide)
    have hc : (nI j).toNatClampNeg = j := nI_clamp (by omega)
    by_cases z : x ≤ s j
    · have hbj : b < j := by
        by_cases hh : j ≤ b
        · exact absurd z (h1 j h0 hh)
        · omega
      have hz : x ≤ s (nI j).toNatClampNeg := by rw [hc]; exact z
      refine br_f h8 ⟨hi, br_t hz fun y ey => ?_⟩
      rw [ey, nI_1]
      exact ih (j + 1) q (by omega) (by omega) (by omega) (fun _ => hq2 hbj) hqb
    · have hbj : j ≤ b := by
        by_cases hh : b < j
        · exact absurd (h2 j hh (by omega)) z
        · omega
      have hz : ¬ x ≤ s (nI j).toNatClampNeg := by rw [hc]; exact z
      have hq := hq1 hbj
      refine br_f h8 ⟨hi, br_f hz fun w ew y ey => ?_⟩
      rw [ew, ey, nI_1, nI_1]
      exact ih (j + 1) (q + 1) (by omega) (by omega) (by omega) (by omega) (by omega)
theorem sq_yc (post : Int32 → SY → Prop) (x p : Int32) (s c : Nat → Int32) (b : Nat) (hb : b < 8) (ho : sq_Ord s) (lo : 1 ≤ b → ¬ x ≤ s b) (hi : b < 7 → x ≤ s (b + 1)) (H : sq_G post p s c b) : wpY_classify post (p, s, c) x := by
  have K := sq_yl (x := x) b hb (fun k h1 h2 hx => lo (by omega) (Int32.le_trans hx (ho k b h1 h2 hb))) (fun k h1 h2 => Int32.le_trans (hi (by omega)) (ho (b + 1) k (by omega) h1 h2)) H 7 1 0 rfl (Nat.le_refl 1) (fun _ => rfl) (by omega) (by omega)
  exact ⟨8, K⟩
end
section
/-- the same peak, the same counts; the tree holds the sorted splitters -/
def i_Rel (_ : Nat) (u : SX) (v : SY) : Prop := ∃ p : Int32, ∃ t s c : Nat → Int32, u = (p, t, c) ∧ v = (p, s, c) ∧ sq_Tree t s ∧ sq_Ord s
theorem i_up {k : Nat} {u : SX} {v : SY} (h : i_Rel k u v) : i_Rel (k + 3) u v := h
theorem i_vc0 : wpX_init (fun u => wpY_init (fun v => i_Rel 0 u v)) :=
  ⟨0, fun _ => 0, fun _ => 0, fun _ => 0, rfl, rfl, ⟨rfl, rfl, rfl, rfl, rfl, rfl, rfl⟩, fun _ _ _ _ _ => Int32.le_refl 0⟩
theorem i_vc_setSplitters {k : Nat} {u : SX} {v : SY} (I : i_Rel k u v) (hk : k + 3 ≤ 1536) (v1 : Int32) (v2 : Int32) : wpX_setSplitters (fun r u' => wpY_setSplitters (fun r' v' => r' = r ∧ i_Rel (k + 3) u' v') v v1 v2) u v1 v2 := by
  obtain ⟨p, t, s, c, rfl, rfl, hT, hS⟩ := I
  have J : i_Rel (k + 3) (p, t, c) (p, s, c) := ⟨p, t, s, c, rfl, rfl, hT, hS⟩
  by_cases h0 : v1 < 0
  · exact br_t h0 (br_t h0 ⟨rfl, J⟩)
  by_cases h1 : v1 ≤ 65535
  case neg => exact br_f h0 (br_f h1 (br_f h0 (br_f h1 ⟨rfl, J⟩)))
  by_cases h2 : v2 < 1
  · exact br_f h0 (br_t h1 (br_t h2 (br_f h0 (br_t h1 (br_t h2 ⟨rfl, J⟩)))))
  by_cases h3 : v2 ≤ 8192
  case neg => exact br_f h0 (br_t h1 (br_f h2 (br_f h3 (br_f h0 (br_t h1 (br_f h2 (br_f h3 ⟨rfl, J⟩)))))))
  by_cases h4 : v1 + 7 * v2 ≤ 65535
  case neg => exact br_f h0 (br_t h1 (br_f h2 (br_t h3 (br_f h4 (br_f h0 (br_t h1 (br_f h2 (br_t h3 (br_f h4 ⟨rfl, J⟩)))))))))
  have h2' : ¬ v2 < 0 := fun z => h2 (Int32.lt_trans z (by decide))
  obtain ⟨b, hb, rfl⟩ := nI_of2 (M := 65535) (n := 65535) (by decide) h0 h1
  obtain ⟨d, hd, rfl⟩ := nI_of2 (M := 8192) (n := 8192) (by decide) h2' h3
  have hm : b + 7 * d ≤ 65535 := by
    have e : nI b + 7 * nI d = nI (b + 7 * d) := by
      show nI b + nI 7 * nI d = _
      rw [pk_mul, nI_add]
    have h5 := h4
    rw [e] at h5
    exact (nI_leI (b := 65535) (by omega) (by omega)).mp h5
  refine br_f h0 (br_t h1 (br_f h2 (br_t h3 (br_t h4 ?_))))
  intro a1 e1 a2 e2 a3 e3 a4 e4 a5 e5 a6 e6 a7 e7
  obtain ⟨A1, A2, A3, A4, A5, A6, A7⟩ := sq_w e1 e2 e3 e4 e5 e6 e7
  refine br_f h0 (br_t h1 (br_f h2 (br_t h3 (br_t h4 ?_))))
  intro x1 f1 s1 g1 x2 f2 s2 g2 x3 f3 s3 g3 x4 f4 s4 g4 x5 f5 s5 g5 x6 f6 s6 g6 x7 f7 s7 g7
  obtain ⟨B1, B2, B3, B4, B5, B6, B7⟩ := sq_w g1 g2 g3 g4 g5 g6 g7
  have Fz : nI b = nI (b + 0 * d) := congrArg nI (by omega)
  have F1 : x1 = nI (b + 1 * d) := by rw [f1, Fz, sq_st]
  have F2 : x2 = nI (b + 2 * d) := by rw [f2, F1, sq_st]
  have F3 : x3 = nI (b + 3 * d) := by rw [f3, F2, sq_st]
  have F4 : x4 = nI (b + 4 * d) := by rw [f4, F3, sq_st]
  have F5 : x5 = nI (b + 5 * d) := by rw [f5, F4, sq_st]
  have F6 : x6 = nI (b + 6 * d) := by rw [f6, F5, sq_st]
  have C1 : s7 1 = nI (b + 1 * d) := B1.trans (sq_y 0 hm (by decide) Fz)
  have C2 : s7 2 = nI (b + 2 * d) := B2.trans (sq_y 1 hm (by decide) F1)
  have C3 : s7 3 = nI (b + 3 * d) := B3.trans (sq_y 2 hm (by decide) F2)
  have C4 : s7 4 = nI (b + 4 * d) := B4.trans (sq_y 3 hm (by decide) F3)
  have C5 : s7 5 = nI (b + 5 * d) := B5.trans (sq_y 4 hm (by decide) F4)
  have C6 : s7 6 = nI (b + 6 * d) := B6.trans (sq_y 5 hm (by decide) F5)
  have C7 : s7 7 = nI (b + 7 * d) := B7.trans (sq_y 6 hm (by decide) F6)
  have D : sq_Tree a7 s7 := ⟨(A1.trans (sq_c 4 hm (by decide))).trans C4.symm, (A2.trans (sq_c 2 hm (by decide))).trans C2.symm, (A3.trans (sq_c 6 hm (by decide))).trans C6.symm, (A4.trans (sq_c 1 hm (by decide))).trans C1.symm, (A5.trans (sq_c 3 hm (by decide))).trans C3.symm, (A6.trans (sq_c 5 hm (by decide))).trans C5.symm, (A7.trans (sq_c 7 hm (by decide))).trans C7.symm⟩
  have E : sq_Ord s7 := by
    refine sq_ord hm ?_
    intro i hi h8
    have hh : i = 1 ∨ i = 2 ∨ i = 3 ∨ i = 4 ∨ i = 5 ∨ i = 6 ∨ i = 7 := by omega
    rcases hh with rfl | rfl | rfl | rfl | rfl | rfl | rfl
    · exact C1
    · exact C2
    · exact C3
    · exact C4
    · exact C5
    · exact C6
    · exact C7
  exact ⟨rfl, p, a7, s7, c, rfl, rfl, D, E⟩
theorem i_vc_classify {k : Nat} {u : SX} {v : SY} (I : i_Rel k u v) (hk : k + 3 ≤ 1536) (v1 : Int32) : wpX_classify (fun r u' => wpY_classify (fun r' v' => r' = r ∧ i_Rel (k + 3) u' v') v v1) u v1 := by
  obtain ⟨p, t, s, c, rfl, rfl, hT, hS⟩ := I
  have L : ∀ b, b < 8 → (1 ≤ b → ¬ v1 ≤ s b) → (b < 7 → v1 ≤ s (b + 1)) → sq_G (fun r u' => wpY_classify (fun r' v' => r' = r ∧ i_Rel (k + 3) u' v') (p, s, c) v1) p t c b := fun b hb lo hi =>
    sq_yc _ v1 p s c b hb hS lo hi ⟨rfl, _, t, s, _, rfl, rfl, hT, hS⟩
  obtain ⟨T1, T2, T3, T4, T5, T6, T7⟩ := hT
  refine br_c (fun h1 => sq_x20 _ v1 p t c _ _ 2 (by decide) (by decide) (by decide) (fun _ h => ?_) (fun g h => ?_) (fun g h => ?_) (fun _ h => ?_)) (fun h1 => sq_x20 _ v1 p t c _ _ 3 (by decide) (by decide) (by decide) (fun _ h => ?_) (fun g h => ?_) (fun g h => ?_) (fun _ h => ?_))
  · exact L 0 (by decide) (fun z => absurd z (by decide)) (fun _ => T4 ▸ h)
  · exact L 1 (by decide) (fun _ => T4 ▸ h) (fun _ => T2 ▸ g)
  · exact L 2 (by decide) (fun _ => T2 ▸ g) (fun _ => T5 ▸ h)
  · exact L 3 (by decide) (fun _ => T5 ▸ h) (fun _ => T1 ▸ h1)
  · exact L 4 (by decide) (fun _ => T1 ▸ h1) (fun _ => T6 ▸ h)
  · exact L 5 (by decide) (fun _ => T6 ▸ h) (fun _ => T3 ▸ g)
  · exact L 6 (by decide) (fun _ => T3 ▸ g) (fun _ => T7 ▸ h)
  · exact L 7 (by decide) (fun _ => T7 ▸ h) (fun z => absurd z (by decide))
theorem i_vc_countOf {k : Nat} {u : SX} {v : SY} (I : i_Rel k u v) (hk : k + 3 ≤ 1536) (v1 : Int32) : wpX_countOf (fun r => wpY_countOf (fun r' => r' = r ∧ i_Rel (k + 3) u v) v v1) u v1 := by
  obtain ⟨p, t, s, c, rfl, rfl, hT, hS⟩ := I
  have J : i_Rel (k + 3) (p, t, c) (p, s, c) := ⟨p, t, s, c, rfl, rfl, hT, hS⟩
  by_cases h0 : v1 < 0
  · exact br_t h0 (br_t h0 ⟨rfl, J⟩)
  by_cases h7 : v1 ≤ 7
  case neg => exact br_f h0 (br_f h7 (br_f h0 (br_f h7 ⟨rfl, J⟩)))
  have hi : vp_in v1 8 := by
    obtain ⟨j, hj, rfl⟩ := nI_of2 (M := 7) (n := 7) (by decide) h0 h7
    exact vp_in_nI (by omega) (by decide)
  exact br_f h0 (br_t h7 ⟨hi, br_f h0 (br_t h7 ⟨hi, rfl, J⟩)⟩)
theorem i_vc_peak {k : Nat} {u : SX} {v : SY} (I : i_Rel k u v) (hk : k + 3 ≤ 1536) : wpX_peak (fun r => wpY_peak (fun r' => r' = r ∧ i_Rel (k + 3) u v) v) u := by
  obtain ⟨p, t, s, c, rfl, rfl, hT, hS⟩ := I
  exact ⟨rfl, p, t, s, c, rfl, rfl, hT, hS⟩
end
