section
theorem pf_ushr {a d : Nat} {D : UInt64} (hD : D.toNat % 64 = d) (h : a < 2 ^ 62) : ((lN a).toUInt64 >>> D).toInt64 = lN (a / 2 ^ d) := by
  have hd : a / 2 ^ d ≤ a := Nat.div_le_self _ _
  have e : (lN a).toUInt64 >>> D = UInt64.ofNat (a / 2 ^ d) := UInt64.toNat_inj.mp (by
    rw [UInt64.toNat_shiftRight, hD, Nat.shiftRight_eq_div_pow, UInt64.toNat_ofNat']
    show (UInt64.ofNat a).toNat / 2 ^ d = _
    rw [UInt64.toNat_ofNat', Nat.mod_eq_of_lt (by omega), Nat.mod_eq_of_lt (by omega)])
  rw [e]
  rfl
theorem pf_andw (x : Int64) : ∃ m, m < 2 ^ 32 ∧ x &&& 4294967295 = lN m := ⟨x.toBitVec.toNat % 2 ^ 32, Nat.mod_lt _ (by decide), Int64.toBitVec_inj.mp (BitVec.eq_of_toNat_eq (by
  show (x.toBitVec &&& 4294967295#64).toNat = (BitVec.ofNat 64 (x.toBitVec.toNat % 2 ^ 32)).toNat
  rw [BitVec.toNat_and, show (4294967295#64).toNat = 2 ^ 32 - 1 from by decide, Nat.and_two_pow_sub_one_eq_mod, BitVec.toNat_ofNat]
  omega))⟩
/-- the constant of a turn, as both sides pick it -/
def rb_A (x : Int32) : Int32 := if x - x / 3 * 3 = 0 then 1295307597 else if x - x / 3 * 3 = 1 then (-749914925) else 886263092
/-- the sum of a turn -/
def rb_S (x a f : Int32) (c : Nat → Int32) : Int64 := ((((c x.toNatClampNeg).toInt64) &&& 4294967295) + (a.toInt64 &&& 4294967295)) + f.toInt64
/-- the high half of a long, as an int -/
def rb_H (s : Int64) : Int32 := ((s.toUInt64 >>> ((32 : Int32).toInt64.toUInt64 &&& Int64.toUInt64 63)).toInt64).toInt32
/-- the component's carry: the high half's lowest bit -/
def rb_K (s : Int64) : Int32 := (((s.toUInt64 >>> ((32 : Int32).toInt64.toUInt64 &&& Int64.toUInt64 63)).toInt64) &&& 1).toInt32
theorem rb_c32 : ((32 : Int32).toInt64.toUInt64 &&& Int64.toUInt64 63).toNat % 64 = 32 := by decide +kernel
/-- a sum's high half is 0 or 1, so that the mask changes nothing -/
theorem rb_cy (x a f : Int32) (c : Nat → Int32) (hf : f = 0 ∨ f = 1) : rb_K (rb_S x a f c) = rb_H (rb_S x a f c) ∧ (rb_H (rb_S x a f c) = 0 ∨ rb_H (rb_S x a f c) = 1) := by
  obtain ⟨m, hm, em⟩ := pf_andw (c x.toNatClampNeg).toInt64
  obtain ⟨p, hp, ep⟩ := pf_andw a.toInt64
  obtain ⟨q, hq, eq⟩ : ∃ q : Nat, q < 2 ∧ f.toInt64 = lN q := by
    rcases hf with h | h
    · exact ⟨0, by decide, by rw [h]; decide +kernel⟩
    · exact ⟨1, by decide, by rw [h]; decide +kernel⟩
  have es : rb_S x a f c = lN (m + p + q) := by
    unfold rb_S
    rw [em, ep, eq, lN_add, lN_add]
  have et : ((rb_S x a f c).toUInt64 >>> ((32 : Int32).toInt64.toUInt64 &&& Int64.toUInt64 63)).toInt64 = lN ((m + p + q) / 2 ^ 32) := by
    rw [es]
    exact pf_ushr rb_c32 (by omega)
  have h2 : (m + p + q) / 2 ^ 32 = 0 ∨ (m + p + q) / 2 ^ 32 = 1 := by omega
  unfold rb_K rb_H
  rw [et]
  rcases h2 with h | h
  · rw [h]; exact ⟨by decide +kernel, Or.inl (by decide +kernel)⟩
  · rw [h]; exact ⟨by decide +kernel, Or.inr (by decide +kernel)⟩
/-- carry and counters behind d turns from turn j on -/
def rb_CF : Nat → Nat → Int32 → (Nat → Int32) → Int32 × (Nat → Int32)
  | 0, _, f, c => (f, c)
  | d + 1, j, f, c => rb_CF d (j + 1) (rb_H (rb_S (nI j) (rb_A (nI j)) f c)) (upd c (nI j).toNatClampNeg (rb_S (nI j) (rb_A (nI j)) f c).toInt32)
theorem rb_CF_lt : ∀ (d j : Nat) (f : Int32) (c : Nat → Int32) (k : Nat), j + d < 2 ^ 31 → k < j → (rb_CF d j f c).2 k = c k := by
  intro d
  induction d with
  | zero => intro j f c k _ _; rfl
  | succ d ih =>
    intro j f c k hj hk
    have e := ih (j + 1) (rb_H (rb_S (nI j) (rb_A (nI j)) f c)) (upd c (nI j).toNatClampNeg (rb_S (nI j) (rb_A (nI j)) f c).toInt32) k (by omega) (by omega)
    have e2 : upd c (nI j).toNatClampNeg (rb_S (nI j) (rb_A (nI j)) f c).toInt32 k = c k := by
      unfold upd
      rw [nI_clamp (by omega)]
      exact if_neg (by omega)
    exact e.trans e2
theorem rb_CF_01 : ∀ (d j : Nat) (f : Int32) (c : Nat → Int32), (f = 0 ∨ f = 1) → ((rb_CF d j f c).1 = 0 ∨ (rb_CF d j f c).1 = 1) := by
  intro d
  induction d with
  | zero => intro j f c h; exact h
  | succ d ih => intro j f c h; exact ih _ _ _ (rb_cy _ _ _ _ h).2
/-- the squared number -/
def rb_Q (x c : Nat → Int32) (i : Int32) : Int64 := (((x i.toNatClampNeg) + (c i.toNatClampNeg)).toInt64) &&& 4294967295
/-- the g-function's value -/
def rb_V (w : Int64) : Int32 := w.toInt32 ^^^ rb_H w
def rb_G : Nat → Nat → (Nat → Int32) → (Nat → Int32) → (Nat → Int32) → (Nat → Int32)
  | 0, _, _, _, g => g
  | d + 1, j, x, c, g => rb_G d (j + 1) x c (upd g (nI j).toNatClampNeg (rb_V (rb_Q x c (nI j) * rb_Q x c (nI j))))
theorem rb_uu (g : Nat → Int32) (k : Nat) (a b : Int32) : upd (upd g k a) k ((upd g k a) k ^^^ b) = upd g k (a ^^^ b) := by
  funext j
  unfold upd
  by_cases h : j = k
  · rw [if_pos h, if_pos h, if_pos rfl]
  · rw [if_neg h, if_neg h, if_neg h]
theorem rb_us (g : Nat → Int32) (k : Nat) (a : Int32) : upd g k a k = a := if_pos rfl
theorem rb_8 : nI 8 = 8 := by decide +kernel
theorem rb_lo {j : Nat} (h : j < 8) : ¬ (8 : Int32) ≤ nI j := by rw [← rb_8]; exact nI_ge h (by decide)
theorem rb_hi : (8 : Int32) ≤ nI 8 := by decide +kernel
theorem rb_in {j : Nat} (h : j < 8) : vp_in (nI j) 8 := vp_in_nI h (by decide)
theorem rb_and (y m : Int32) (hm : m.toBitVec.toNat < 8) : vp_in (y &&& m) 8 := by
  have h : (y &&& m).toBitVec.toNat < 8 := by
    rw [Int32.toBitVec_and, BitVec.toNat_and]
    exact Nat.lt_of_le_of_lt Nat.and_le_right hm
  have e : (y &&& m).toInt = (y &&& m).toBitVec.toInt := rfl
  rw [vp_in_iff, e, BitVec.toInt_eq_toNat_of_lt (by omega)]
  omega
end
section
/-! X's first loop: carry and counters -/
theorem rb_X36 {post : Int32 → SX → Prop} {J2 : Int32 → Int32 → (Nat → Int32) → (Nat → Int32) → (Nat → Int32) → Prop} {x1 x3 f : Int32} {a_x a_c a_g : Nat → Int32} (hi : vp_in x1 8) (h : J2 (x1 + 1) (rb_K (rb_S x1 x3 f a_c)) a_x (upd a_c x1.toNatClampNeg (rb_S x1 x3 f a_c).toInt32) a_g) : wX_tick_36 post J2 x1 x3 f a_x a_c a_g :=
  And.intro hi (nm_e (And.intro hi (nm_e (nm_e (nm_e h)))))
theorem rb_X2 (post : Int32 → SX → Prop) (a_x a_g : Nat → Int32) : ∀ (d j : Nat), j + d = 8 → ∀ (f : Int32) (c : Nat → Int32), (f = 0 ∨ f = 1) → (∃ n91 : Nat, wX_tick_91 post (rb_CF d j f c).1 n91 0 a_x (rb_CF d j f c).2 a_g) → wX_tick_2 post (d + 1) (nI j) f a_x c a_g := by
  intro d
  induction d with
  | zero =>
    intro j hj f c _ h
    obtain rfl : j = 8 := by omega
    exact br_t rb_hi h
  | succ d ih =>
    intro j hj f c hf h
    have key : ∀ a : Int32, rb_A (nI j) = a → wX_tick_36 post (wX_tick_2 post (d + 1)) (nI j) a f a_x c a_g := by
      intro a ea
      subst ea
      refine rb_X36 (rb_in (by omega)) ?_
      rw [nI_1 j, (rb_cy _ _ _ _ hf).1]
      exact ih (j + 1) (by omega) _ _ (rb_cy _ _ _ _ hf).2 h
    refine br_f (rb_lo (by omega)) (And.intro (by decide) (nm_e ?_))
    by_cases z0 : nI j - nI j / 3 * 3 = 0
    · exact br_t z0 (key _ (if_pos z0))
    · by_cases z1 : nI j - nI j / 3 * 3 = 1
      · exact br_f z0 (br_t z1 (key _ ((if_neg z0).trans (if_pos z1))))
      · exact br_f z0 (br_f z1 (key _ ((if_neg z0).trans (if_neg z1))))
/-! X's second loop: the g-function -/
theorem rb_X91 (post : Int32 → SX → Prop) (f : Int32) (a_x a_c : Nat → Int32) : ∀ (d j : Nat), j + d = 8 → ∀ (g : Nat → Int32), (∃ n145 : Nat, wX_tick_145 post f n145 0 a_x a_c (rb_G d j a_x a_c g)) → wX_tick_91 post f (d + 1) (nI j) a_x a_c g := by
  intro d
  induction d with
  | zero =>
    intro j hj g h
    obtain rfl : j = 8 := by omega
    exact br_t rb_hi h
  | succ d ih =>
    intro j hj g h
    have hi : vp_in (nI j) 8 := rb_in (by omega)
    refine br_f (rb_lo (by omega)) (And.intro hi (And.intro hi (nm_e (nm_e (And.intro hi (nm_e (nm_r (nI_1 j) ?_)))))))
    exact ih (j + 1) (by omega) _ h
/-! the reference's first loop: both at once -/
theorem rb_Ya {post : Int32 → Prop} {x : Int32} (h : post (rb_A x)) : wpY_a post x := by
  unfold wpY_a
  refine And.intro (by decide) (nm_e ?_)
  unfold rb_A at h
  by_cases z0 : x - x / 3 * 3 = 0
  · rw [if_pos z0] at h
    exact br_t z0 h
  · rw [if_neg z0] at h
    by_cases z1 : x - x / 3 * 3 = 1
    · rw [if_pos z1] at h
      exact br_f z0 (br_t z1 h)
    · rw [if_neg z1] at h
      exact br_f z0 (br_f z1 h)
theorem rb_Y7 (post : Int32 → SY → Prop) (a_x : Nat → Int32) : ∀ (d j : Nat), j + d = 8 → ∀ (f : Int32) (c g : Nat → Int32), (∃ n111 : Nat, wY_tick_111 post (rb_CF d j f c).1 n111 0 a_x (rb_CF d j f c).2 (rb_G d j a_x (rb_CF d j f c).2 g)) → wY_tick_7 post (d + 1) (nI j) f a_x c g := by
  intro d
  induction d with
  | zero =>
    intro j hj f c g h
    obtain rfl : j = 8 := by omega
    exact br_t rb_hi h
  | succ d ih =>
    intro j hj f c g h
    have hi : vp_in (nI j) 8 := rb_in (by omega)
    have eC : (rb_CF (d + 1) j f c).2 (nI j).toNatClampNeg = upd c (nI j).toNatClampNeg (rb_S (nI j) (rb_A (nI j)) f c).toInt32 (nI j).toNatClampNeg :=
      rb_CF_lt d (j + 1) _ _ _ (by omega) (by rw [nI_clamp (by omega)]; omega)
    have eQ : rb_Q a_x (rb_CF (d + 1) j f c).2 (nI j) = rb_Q a_x (upd c (nI j).toNatClampNeg (rb_S (nI j) (rb_A (nI j)) f c).toInt32) (nI j) := by
      unfold rb_Q
      rw [eC]
    have hG : rb_G (d + 1) j a_x (rb_CF (d + 1) j f c).2 g = rb_G d (j + 1) a_x (rb_CF (d + 1) j f c).2 (upd g (nI j).toNatClampNeg (rb_V (rb_Q a_x (upd c (nI j).toNatClampNeg (rb_S (nI j) (rb_A (nI j)) f c).toInt32) (nI j) * rb_Q a_x (upd c (nI j).toNatClampNeg (rb_S (nI j) (rb_A (nI j)) f c).toInt32) (nI j)))) := by
      rw [← eQ]
      rfl
    rw [hG] at h
    refine br_f (rb_lo (by omega)) (And.intro hi (rb_Ya (nm_e (And.intro hi (nm_e (nm_e (And.intro hi (And.intro hi (nm_e (nm_e (And.intro hi (nm_e (And.intro hi (And.intro hi (nm_r (rb_uu _ _ _ _) (nm_r (nI_1 j) ?_))))))))))))))))
    exact ih (j + 1) (by omega) _ _ _ h
/-! the last loop, in lockstep -/
theorem rb_r16 {post : Int32 → Prop} {p : Int32} (h : post ((p <<< ((16 : Int32) &&& 31)) ||| ((p.toUInt32 >>> ((16 : Int32).toUInt32 &&& Int32.toUInt32 31)).toInt32))) : wpY_rotl post p 16 := by
  unfold wpY_rotl
  rw [show (32 - 16 : Int32) = 16 from by decide +kernel]
  exact h
theorem rb_r8 {post : Int32 → Prop} {p : Int32} (h : post ((p <<< ((8 : Int32) &&& 31)) ||| ((p.toUInt32 >>> ((24 : Int32).toUInt32 &&& Int32.toUInt32 31)).toInt32))) : wpY_rotl post p 8 := by
  unfold wpY_rotl
  rw [show (32 - 8 : Int32) = 24 from by decide +kernel]
  exact h
/-- the next states' array behind an even turn, and behind an odd one -/
def rb_R (p : Int32) : Int32 := (p <<< ((16 : Int32) &&& 31)) ||| ((p.toUInt32 >>> ((16 : Int32).toUInt32 &&& Int32.toUInt32 31)).toInt32)
def rb_T (p : Int32) : Int32 := (p <<< ((8 : Int32) &&& 31)) ||| ((p.toUInt32 >>> ((24 : Int32).toUInt32 &&& Int32.toUInt32 31)).toInt32)
def rb_E (i : Int32) (x g : Nat → Int32) : Nat → Int32 := upd x i.toNatClampNeg (((g i.toNatClampNeg) + rb_R (g ((i + 7) &&& 7).toNatClampNeg)) + rb_R (g ((i + 6) &&& 7).toNatClampNeg))
def rb_O (i : Int32) (x g : Nat → Int32) : Nat → Int32 := upd x i.toNatClampNeg (((g i.toNatClampNeg) + rb_T (g ((i + 7) &&& 7).toNatClampNeg)) + g ((i + 6) &&& 7).toNatClampNeg)
theorem rb_L3 (f : Int32) (c g : Nat → Int32) : ∀ (d j : Nat), j + d = 8 → ∀ (a_x : Nat → Int32), ∃ xs : Nat → Int32, (∀ post : Int32 → SX → Prop, post (xs 0) (f, xs, c, g) → wX_tick_145 post f (d + 1) (nI j) a_x c g) ∧ (∀ post : Int32 → SY → Prop, post (xs 0) (f, xs, c, g) → wY_tick_111 post f (d + 1) (nI j) a_x c g) := by
  intro d
  induction d with
  | zero =>
    intro j hj a_x
    obtain rfl : j = 8 := by omega
    exact ⟨a_x, fun _ hp => br_t rb_hi hp, fun _ hp => br_t rb_hi hp⟩
  | succ d ih =>
    intro j hj a_x
    have hi : vp_in (nI j) 8 := rb_in (by omega)
    have h7 : vp_in ((nI j + 7) &&& 7) 8 := rb_and _ _ (by decide)
    have h6 : vp_in ((nI j + 6) &&& 7) 8 := rb_and _ _ (by decide)
    have h8 : ¬ (8 : Int32) ≤ nI j := rb_lo (by omega)
    by_cases z : (nI j &&& 1) = 0
    · obtain ⟨xs, hX, hY⟩ := ih (j + 1) (by omega) (rb_E (nI j) a_x g)
      exact ⟨xs, fun post hp => br_f h8 (And.intro h7 (nm_e (And.intro h6 (nm_e (br_t z (And.intro hi (And.intro hi (nm_e (nm_r (nI_1 j) (hX post hp)))))))))),
        fun post hp => br_f h8 (And.intro h7 (nm_e (And.intro h6 (nm_e (br_t z (And.intro hi (rb_r16 (rb_r16 (And.intro hi (nm_e (nm_r (nI_1 j) (hY post hp))))))))))))⟩
    · obtain ⟨xs, hX, hY⟩ := ih (j + 1) (by omega) (rb_O (nI j) a_x g)
      exact ⟨xs, fun post hp => br_f h8 (And.intro h7 (nm_e (And.intro h6 (nm_e (br_f z (And.intro hi (And.intro hi (nm_e (nm_r (nI_1 j) (hX post hp)))))))))),
        fun post hp => br_f h8 (And.intro h7 (nm_e (And.intro h6 (nm_e (br_f z (And.intro hi (rb_r8 (And.intro hi (nm_e (nm_r (nI_1 j) (hY post hp)))))))))))⟩
end
section
/-- the two objects are in the same state, and the carry is 0 or 1 -/
def i_Rel (_ : Nat) (u : SX) (v : SY) : Prop := u = v ∧ (u.1 = 0 ∨ u.1 = 1)
theorem i_up {k : Nat} {u : SX} {v : SY} (h : i_Rel k u v) : i_Rel (k + 3) u v := h
theorem i_vc0 : wpX_init (fun u => wpY_init (fun v => i_Rel 0 u v)) := ⟨rfl, Or.inl rfl⟩
theorem rb_in7 {x : Int32} (h0 : ¬ x < 0) (h7 : x ≤ 7) : vp_in x 8 := by
  obtain ⟨j, hj, rfl⟩ := nI_of2 (n := 7) (by decide +kernel) h0 h7
  exact rb_in (by omega)
theorem i_vc_seed {k : Nat} {u : SX} {v : SY} (I : i_Rel k u v) (hk : k + 3 ≤ 1536) (v1 : Int32) (v2 : Int32) : wpX_seed (fun r u' => wpY_seed (fun r' v' => r' = r ∧ i_Rel (k + 3) u' v') v v1 v2) u v1 v2 := by
  obtain ⟨rfl, h⟩ := I
  obtain ⟨f, x, c, g⟩ := u
  by_cases h0 : v1 < 0
  · exact br_t h0 (br_t h0 ⟨rfl, rfl, h⟩)
  · by_cases h7 : v1 ≤ 7
    · have hi : vp_in v1 8 := rb_in7 h0 h7
      exact br_f h0 (br_t h7 (And.intro hi (nm_e (And.intro hi (nm_e (br_f h0 (br_t h7 (And.intro hi (nm_e (rb_r16 (And.intro hi (nm_e ⟨rfl, rfl, h⟩))))))))))))
    · exact br_f h0 (br_f h7 (br_f h0 (br_f h7 ⟨rfl, rfl, h⟩)))
theorem i_vc_tick {k : Nat} {u : SX} {v : SY} (I : i_Rel k u v) (hk : k + 3 ≤ 1536) : wpX_tick (fun r u' => wpY_tick (fun r' v' => r' = r ∧ i_Rel (k + 3) u' v') v) u := by
  obtain ⟨rfl, h⟩ := I
  obtain ⟨f, x, c, g⟩ := u
  obtain ⟨xs, hX, hY⟩ := rb_L3 (rb_CF 8 0 f c).1 (rb_CF 8 0 f c).2 (rb_G 8 0 x (rb_CF 8 0 f c).2 g) 8 0 rfl x
  have hC := rb_CF_01 8 0 f c h
  have hx2 := fun post => rb_X2 post x g 8 0 rfl f c h
  have hx91 := fun post => rb_X91 post (rb_CF 8 0 f c).1 x (rb_CF 8 0 f c).2 8 0 rfl g
  have hy7 := fun post => rb_Y7 post x 8 0 rfl f c g
  rw [nI_0] at hX hY hx2 hx91 hy7
  exact ⟨9, hx2 _ ⟨9, hx91 _ ⟨9, hX _ ⟨9, hy7 _ ⟨9, hY _ ⟨rfl, rfl, hC⟩⟩⟩⟩⟩⟩
theorem i_vc_out {k : Nat} {u : SX} {v : SY} (I : i_Rel k u v) (hk : k + 3 ≤ 1536) (v1 : Int32) : wpX_out (fun r => wpY_out (fun r' => r' = r ∧ i_Rel (k + 3) u v) v v1) u v1 := by
  obtain ⟨rfl, h⟩ := I
  obtain ⟨f, x, c, g⟩ := u
  have h6 : vp_in (v1 &&& 6) 8 := rb_and _ _ (by decide)
  have h5 : vp_in (((v1 &&& 6) + 5) &&& 7) 8 := rb_and _ _ (by decide)
  have h3 : vp_in (((v1 &&& 6) + 3) &&& 7) 8 := rb_and _ _ (by decide)
  by_cases h0 : v1 < 0
  · exact br_t h0 (br_t h0 ⟨rfl, rfl, h⟩)
  · by_cases h7 : v1 ≤ 7
    · by_cases z : (v1 &&& 1) = 0
      · exact br_f h0 (br_t h7 (nm_e (br_t z (And.intro h6 (And.intro h5 (br_f h0 (br_t h7 (nm_e (br_t z (And.intro h6 (And.intro h5 ⟨rfl, rfl, h⟩)))))))))))
      · exact br_f h0 (br_t h7 (nm_e (br_f z (And.intro h6 (And.intro h3 (br_f h0 (br_t h7 (nm_e (br_f z (And.intro h6 (And.intro h3 ⟨rfl, rfl, h⟩)))))))))))
    · exact br_f h0 (br_f h7 (br_f h0 (br_f h7 ⟨rfl, rfl, h⟩)))
theorem i_vc_carry {k : Nat} {u : SX} {v : SY} (I : i_Rel k u v) (hk : k + 3 ≤ 1536) : wpX_carry (fun r => wpY_carry (fun r' => r' = r ∧ i_Rel (k + 3) u v) v) u := by
  obtain ⟨rfl, h⟩ := I
  obtain ⟨f, x, c, g⟩ := u
  exact ⟨rfl, rfl, h⟩
end
